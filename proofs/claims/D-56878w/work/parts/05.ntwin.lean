/-! WeaversgateModel -/
set_option maxRecDepth 100000
def RX4 : String := "WeaversgateModel"
def TX4 : u_T := fun k => match k with
  | 0 => ("WeaversgateModel", "bodies", "[LWeaversgateModel$Body;", true)
  | 1 => ("WeaversgateModel", "parents", "[I", true)
  | 2 => ("WeaversgateModel", "patternAs", "[I", true)
  | 3 => ("WeaversgateModel", "patternBs", "[I", true)
  | 4 => ("WeaversgateModel", "aspects", "[I", true)
  | 5 => ("WeaversgateModel", "patterns", "[I", true)
  | 6 => ("WeaversgateModel", "mores", "[I", true)
  | 7 => ("WeaversgateModel", "times", "[I", true)
  | 8 => ("WeaversgateModel", "patternKinds", "[C", true)
  | 9 => ("WeaversgateModel", "adviceKinds", "[C", true)
  | 10 => ("WeaversgateModel", "areOn", "[Z", true)
  | 11 => ("WeaversgateModel", "areAhead", "[Z", true)
  | 12 => ("WeaversgateModel", "thrown", "I", false)
  | 13 => ("WeaversgateModel", "classes", "I", false)
  | 14 => ("WeaversgateModel", "patternCount", "I", false)
  | 15 => ("WeaversgateModel", "adviceCount", "I", false)
  | _ => ("WeaversgateModel", "last", "LWeaversgateModel$Result;", false)
def tyX4 : Nat → FieldType := fun k => match k with
  | 0 => .array (.object "WeaversgateModel$Body")
  | 1 => .array .int
  | 2 => .array .int
  | 3 => .array .int
  | 4 => .array .int
  | 5 => .array .int
  | 6 => .array .int
  | 7 => .array .int
  | 8 => .array .char
  | 9 => .array .char
  | 10 => .array .boolean
  | 11 => .array .boolean
  | 12 => .int
  | 13 => .int
  | 14 => .int
  | 15 => .int
  | _ => .object "WeaversgateModel$Result"
abbrev wsX40 : List Cond := u_ws RX4 TX4 17
set_option maxRecDepth 100000 in
theorem nmX4 : ∀ a, a < 17 → ∀ b, b < 17 → a ≠ b → (TX4 a).2.1 ≠ (TX4 b).2.1 := by decide +kernel
set_option maxRecDepth 100000 in
theorem tyX4_ok : ∀ k, k < 17 → parseFieldDescriptor (TX4 k).2.2.1 = some (tyX4 k) := by decide +kernel
abbrev cX4_init : ByteArray := prog_24_method_1_code
def yX4_init : MethodName := ⟨RX4, "<init>", "()V"⟩
def dkwX4_init_5 : List UInt8 := [181, 0, 61, 42, 187, 0, 64, 89, 183, 0, 66, 181, 0, 67, 177]
abbrev dktX4_init_5 : List UInt8 := dkwX4_init_5 ++ []
def dkwX4_init_4 : List UInt8 := [188, 4, 181, 0, 48, 42, 3, 181, 0, 51, 42, 3, 181, 0, 55, 42, 3, 181, 0, 58, 42, 3]
abbrev dktX4_init_4 : List UInt8 := dkwX4_init_4 ++ dktX4_init_5
def dkwX4_init_3 : List UInt8 := [188, 5, 181, 0, 37, 42, 16, 12, 188, 5, 181, 0, 41, 42, 16, 12, 188, 4, 181, 0, 44, 42, 16, 16]
abbrev dktX4_init_3 : List UInt8 := dkwX4_init_3 ++ dktX4_init_4
def dkwX4_init_2 : List UInt8 := [188, 10, 181, 0, 28, 42, 16, 12, 188, 10, 181, 0, 31, 42, 16, 12, 188, 10, 181, 0, 34, 42, 16, 24]
abbrev dktX4_init_2 : List UInt8 := dkwX4_init_2 ++ dktX4_init_3
def dkwX4_init_1 : List UInt8 := [188, 10, 181, 0, 19, 42, 16, 24, 188, 10, 181, 0, 22, 42, 16, 12, 188, 10, 181, 0, 25, 42, 16, 12]
abbrev dktX4_init_1 : List UInt8 := dkwX4_init_1 ++ dktX4_init_2
def dkwX4_init_0 : List UInt8 := [42, 183, 0, 1, 42, 16, 36, 189, 0, 7, 181, 0, 9, 42, 16, 6, 188, 10, 181, 0, 15, 42, 16, 24]
abbrev dktX4_init_0 : List UInt8 := dkwX4_init_0 ++ dktX4_init_1
theorem dksX4_init_0 : cX4_init.data.toList.drop 0 = dktX4_init_0 := by decide +kernel
theorem dksX4_init_1 : cX4_init.data.toList.drop 24 = dktX4_init_1 := dk_seg dksX4_init_0 24 rfl rfl
theorem dksX4_init_2 : cX4_init.data.toList.drop 48 = dktX4_init_2 := dk_seg dksX4_init_1 24 rfl rfl
theorem dksX4_init_3 : cX4_init.data.toList.drop 72 = dktX4_init_3 := dk_seg dksX4_init_2 24 rfl rfl
theorem dksX4_init_4 : cX4_init.data.toList.drop 96 = dktX4_init_4 := dk_seg dksX4_init_3 24 rfl rfl
theorem dksX4_init_5 : cX4_init.data.toList.drop 118 = dktX4_init_5 := dk_seg dksX4_init_4 22 rfl rfl
theorem dX4_init_0 : decode cX4_init 0 = .ok (.aload_n 0, 1) := dk_42 (dk_at dksX4_init_0 0 rfl rfl)
theorem dX4_init_1 : decode cX4_init 1 = .ok (.invokespecial 1, 3) := dk_183 0 1 (dk_at dksX4_init_0 1 rfl rfl)
theorem dX4_init_4 : decode cX4_init 4 = .ok (.aload_n 0, 1) := dk_42 (dk_at dksX4_init_0 4 rfl rfl)
theorem dX4_init_5 : decode cX4_init 5 = .ok (.bipush 36, 2) := dk_16 36 (dk_at dksX4_init_0 5 rfl rfl)
theorem dX4_init_7 : decode cX4_init 7 = .ok (.anewarray 7, 3) := dk_189 0 7 (dk_at dksX4_init_0 7 rfl rfl)
theorem dX4_init_10 : decode cX4_init 10 = .ok (.putfield 9, 3) := dk_181 0 9 (dk_at dksX4_init_0 10 rfl rfl)
theorem dX4_init_13 : decode cX4_init 13 = .ok (.aload_n 0, 1) := dk_42 (dk_at dksX4_init_0 13 rfl rfl)
theorem dX4_init_14 : decode cX4_init 14 = .ok (.bipush 6, 2) := dk_16 6 (dk_at dksX4_init_0 14 rfl rfl)
theorem dX4_init_16 : decode cX4_init 16 = .ok (.newarray .int, 2) := dk_188_10 (dk_at dksX4_init_0 16 rfl rfl)
theorem dX4_init_18 : decode cX4_init 18 = .ok (.putfield 15, 3) := dk_181 0 15 (dk_at dksX4_init_0 18 rfl rfl)
theorem dX4_init_21 : decode cX4_init 21 = .ok (.aload_n 0, 1) := dk_42 (dk_at dksX4_init_0 21 rfl rfl)
theorem dX4_init_22 : decode cX4_init 22 = .ok (.bipush 24, 2) := dk_16 24 (dk_at dksX4_init_0 22 rfl rfl)
theorem dX4_init_24 : decode cX4_init 24 = .ok (.newarray .int, 2) := dk_188_10 (dk_at dksX4_init_1 0 rfl rfl)
theorem dX4_init_26 : decode cX4_init 26 = .ok (.putfield 19, 3) := dk_181 0 19 (dk_at dksX4_init_1 2 rfl rfl)
theorem dX4_init_29 : decode cX4_init 29 = .ok (.aload_n 0, 1) := dk_42 (dk_at dksX4_init_1 5 rfl rfl)
theorem dX4_init_30 : decode cX4_init 30 = .ok (.bipush 24, 2) := dk_16 24 (dk_at dksX4_init_1 6 rfl rfl)
theorem dX4_init_32 : decode cX4_init 32 = .ok (.newarray .int, 2) := dk_188_10 (dk_at dksX4_init_1 8 rfl rfl)
theorem dX4_init_34 : decode cX4_init 34 = .ok (.putfield 22, 3) := dk_181 0 22 (dk_at dksX4_init_1 10 rfl rfl)
theorem dX4_init_37 : decode cX4_init 37 = .ok (.aload_n 0, 1) := dk_42 (dk_at dksX4_init_1 13 rfl rfl)
theorem dX4_init_38 : decode cX4_init 38 = .ok (.bipush 12, 2) := dk_16 12 (dk_at dksX4_init_1 14 rfl rfl)
theorem dX4_init_40 : decode cX4_init 40 = .ok (.newarray .int, 2) := dk_188_10 (dk_at dksX4_init_1 16 rfl rfl)
theorem dX4_init_42 : decode cX4_init 42 = .ok (.putfield 25, 3) := dk_181 0 25 (dk_at dksX4_init_1 18 rfl rfl)
theorem dX4_init_45 : decode cX4_init 45 = .ok (.aload_n 0, 1) := dk_42 (dk_at dksX4_init_1 21 rfl rfl)
theorem dX4_init_46 : decode cX4_init 46 = .ok (.bipush 12, 2) := dk_16 12 (dk_at dksX4_init_1 22 rfl rfl)
theorem dX4_init_48 : decode cX4_init 48 = .ok (.newarray .int, 2) := dk_188_10 (dk_at dksX4_init_2 0 rfl rfl)
theorem dX4_init_50 : decode cX4_init 50 = .ok (.putfield 28, 3) := dk_181 0 28 (dk_at dksX4_init_2 2 rfl rfl)
theorem dX4_init_53 : decode cX4_init 53 = .ok (.aload_n 0, 1) := dk_42 (dk_at dksX4_init_2 5 rfl rfl)
theorem dX4_init_54 : decode cX4_init 54 = .ok (.bipush 12, 2) := dk_16 12 (dk_at dksX4_init_2 6 rfl rfl)
theorem dX4_init_56 : decode cX4_init 56 = .ok (.newarray .int, 2) := dk_188_10 (dk_at dksX4_init_2 8 rfl rfl)
theorem dX4_init_58 : decode cX4_init 58 = .ok (.putfield 31, 3) := dk_181 0 31 (dk_at dksX4_init_2 10 rfl rfl)
theorem dX4_init_61 : decode cX4_init 61 = .ok (.aload_n 0, 1) := dk_42 (dk_at dksX4_init_2 13 rfl rfl)
theorem dX4_init_62 : decode cX4_init 62 = .ok (.bipush 12, 2) := dk_16 12 (dk_at dksX4_init_2 14 rfl rfl)
theorem dX4_init_64 : decode cX4_init 64 = .ok (.newarray .int, 2) := dk_188_10 (dk_at dksX4_init_2 16 rfl rfl)
theorem dX4_init_66 : decode cX4_init 66 = .ok (.putfield 34, 3) := dk_181 0 34 (dk_at dksX4_init_2 18 rfl rfl)
theorem dX4_init_69 : decode cX4_init 69 = .ok (.aload_n 0, 1) := dk_42 (dk_at dksX4_init_2 21 rfl rfl)
theorem dX4_init_70 : decode cX4_init 70 = .ok (.bipush 24, 2) := dk_16 24 (dk_at dksX4_init_2 22 rfl rfl)
theorem dX4_init_72 : decode cX4_init 72 = .ok (.newarray .char, 2) := dk_188_5 (dk_at dksX4_init_3 0 rfl rfl)
theorem dX4_init_74 : decode cX4_init 74 = .ok (.putfield 37, 3) := dk_181 0 37 (dk_at dksX4_init_3 2 rfl rfl)
theorem dX4_init_77 : decode cX4_init 77 = .ok (.aload_n 0, 1) := dk_42 (dk_at dksX4_init_3 5 rfl rfl)
theorem dX4_init_78 : decode cX4_init 78 = .ok (.bipush 12, 2) := dk_16 12 (dk_at dksX4_init_3 6 rfl rfl)
theorem dX4_init_80 : decode cX4_init 80 = .ok (.newarray .char, 2) := dk_188_5 (dk_at dksX4_init_3 8 rfl rfl)
theorem dX4_init_82 : decode cX4_init 82 = .ok (.putfield 41, 3) := dk_181 0 41 (dk_at dksX4_init_3 10 rfl rfl)
theorem dX4_init_85 : decode cX4_init 85 = .ok (.aload_n 0, 1) := dk_42 (dk_at dksX4_init_3 13 rfl rfl)
theorem dX4_init_86 : decode cX4_init 86 = .ok (.bipush 12, 2) := dk_16 12 (dk_at dksX4_init_3 14 rfl rfl)
theorem dX4_init_88 : decode cX4_init 88 = .ok (.newarray .boolean, 2) := dk_188_4 (dk_at dksX4_init_3 16 rfl rfl)
theorem dX4_init_90 : decode cX4_init 90 = .ok (.putfield 44, 3) := dk_181 0 44 (dk_at dksX4_init_3 18 rfl rfl)
theorem dX4_init_93 : decode cX4_init 93 = .ok (.aload_n 0, 1) := dk_42 (dk_at dksX4_init_3 21 rfl rfl)
theorem dX4_init_94 : decode cX4_init 94 = .ok (.bipush 16, 2) := dk_16 16 (dk_at dksX4_init_3 22 rfl rfl)
theorem dX4_init_96 : decode cX4_init 96 = .ok (.newarray .boolean, 2) := dk_188_4 (dk_at dksX4_init_4 0 rfl rfl)
theorem dX4_init_98 : decode cX4_init 98 = .ok (.putfield 48, 3) := dk_181 0 48 (dk_at dksX4_init_4 2 rfl rfl)
theorem dX4_init_101 : decode cX4_init 101 = .ok (.aload_n 0, 1) := dk_42 (dk_at dksX4_init_4 5 rfl rfl)
theorem dX4_init_102 : decode cX4_init 102 = .ok (.iconst 0, 1) := dk_3 (dk_at dksX4_init_4 6 rfl rfl)
theorem dX4_init_103 : decode cX4_init 103 = .ok (.putfield 51, 3) := dk_181 0 51 (dk_at dksX4_init_4 7 rfl rfl)
theorem dX4_init_106 : decode cX4_init 106 = .ok (.aload_n 0, 1) := dk_42 (dk_at dksX4_init_4 10 rfl rfl)
theorem dX4_init_107 : decode cX4_init 107 = .ok (.iconst 0, 1) := dk_3 (dk_at dksX4_init_4 11 rfl rfl)
theorem dX4_init_108 : decode cX4_init 108 = .ok (.putfield 55, 3) := dk_181 0 55 (dk_at dksX4_init_4 12 rfl rfl)
theorem dX4_init_111 : decode cX4_init 111 = .ok (.aload_n 0, 1) := dk_42 (dk_at dksX4_init_4 15 rfl rfl)
theorem dX4_init_112 : decode cX4_init 112 = .ok (.iconst 0, 1) := dk_3 (dk_at dksX4_init_4 16 rfl rfl)
theorem dX4_init_113 : decode cX4_init 113 = .ok (.putfield 58, 3) := dk_181 0 58 (dk_at dksX4_init_4 17 rfl rfl)
theorem dX4_init_116 : decode cX4_init 116 = .ok (.aload_n 0, 1) := dk_42 (dk_at dksX4_init_4 20 rfl rfl)
theorem dX4_init_117 : decode cX4_init 117 = .ok (.iconst 0, 1) := dk_3 (dk_at dksX4_init_4 21 rfl rfl)
theorem dX4_init_118 : decode cX4_init 118 = .ok (.putfield 61, 3) := dk_181 0 61 (dk_at dksX4_init_5 0 rfl rfl)
theorem dX4_init_121 : decode cX4_init 121 = .ok (.aload_n 0, 1) := dk_42 (dk_at dksX4_init_5 3 rfl rfl)
theorem dX4_init_122 : decode cX4_init 122 = .ok (.new 64, 3) := dk_187 0 64 (dk_at dksX4_init_5 4 rfl rfl)
theorem dX4_init_125 : decode cX4_init 125 = .ok (.dup, 1) := dk_89 (dk_at dksX4_init_5 7 rfl rfl)
theorem dX4_init_126 : decode cX4_init 126 = .ok (.invokespecial 66, 3) := dk_183 0 66 (dk_at dksX4_init_5 8 rfl rfl)
theorem dX4_init_129 : decode cX4_init 129 = .ok (.putfield 67, 3) := dk_181 0 67 (dk_at dksX4_init_5 11 rfl rfl)
theorem dX4_init_132 : decode cX4_init 132 = .ok (.return_, 1) := dk_177 (dk_at dksX4_init_5 14 rfl rfl)
abbrev cX4_thrown : ByteArray := prog_24_method_2_code
def yX4_thrown : MethodName := ⟨RX4, "thrown", "()I"⟩
theorem dX4_thrown_0 : decode cX4_thrown 0 = .ok (.aload_n 0, 1) := by decide +kernel
theorem dX4_thrown_1 : decode cX4_thrown 1 = .ok (.getfield 51, 3) := by decide +kernel
theorem dX4_thrown_4 : decode cX4_thrown 4 = .ok (.ireturn, 1) := by decide +kernel
abbrev cX4_addClass : ByteArray := prog_24_method_7_code
def yX4_addClass : MethodName := ⟨RX4, "addClass", "(I)I"⟩
def dkwX4_addClass_2 : List UInt8 := [42, 180, 0, 55, 27, 79, 42, 89, 180, 0, 55, 4, 96, 181, 0, 55, 42, 180, 0, 55, 4, 100, 172]
abbrev dktX4_addClass_2 : List UInt8 := dkwX4_addClass_2 ++ []
def dkwX4_addClass_1 : List UInt8 := [160, 0, 7, 5, 167, 0, 4, 3, 181, 0, 51, 42, 180, 0, 51, 158, 0, 5, 3, 172, 42, 180, 0, 15]
abbrev dktX4_addClass_1 : List UInt8 := dkwX4_addClass_1 ++ dktX4_addClass_2
def dkwX4_addClass_0 : List UInt8 := [42, 27, 2, 159, 0, 15, 42, 27, 182, 0, 75, 154, 0, 7, 4, 167, 0, 17, 42, 180, 0, 55, 16, 6]
abbrev dktX4_addClass_0 : List UInt8 := dkwX4_addClass_0 ++ dktX4_addClass_1
theorem dksX4_addClass_0 : cX4_addClass.data.toList.drop 0 = dktX4_addClass_0 := by decide +kernel
theorem dksX4_addClass_1 : cX4_addClass.data.toList.drop 24 = dktX4_addClass_1 := dk_seg dksX4_addClass_0 24 rfl rfl
theorem dksX4_addClass_2 : cX4_addClass.data.toList.drop 48 = dktX4_addClass_2 := dk_seg dksX4_addClass_1 24 rfl rfl
theorem dX4_addClass_0 : decode cX4_addClass 0 = .ok (.aload_n 0, 1) := dk_42 (dk_at dksX4_addClass_0 0 rfl rfl)
theorem dX4_addClass_1 : decode cX4_addClass 1 = .ok (.iload_n 1, 1) := dk_27 (dk_at dksX4_addClass_0 1 rfl rfl)
theorem dX4_addClass_2 : decode cX4_addClass 2 = .ok (.iconst (-1), 1) := dk_2 (dk_at dksX4_addClass_0 2 rfl rfl)
theorem dX4_addClass_3 : decode cX4_addClass 3 = .ok (.if_icmp .eq 15, 3) := dk_159 0 15 (dk_at dksX4_addClass_0 3 rfl rfl)
theorem dX4_addClass_6 : decode cX4_addClass 6 = .ok (.aload_n 0, 1) := dk_42 (dk_at dksX4_addClass_0 6 rfl rfl)
theorem dX4_addClass_7 : decode cX4_addClass 7 = .ok (.iload_n 1, 1) := dk_27 (dk_at dksX4_addClass_0 7 rfl rfl)
theorem dX4_addClass_8 : decode cX4_addClass 8 = .ok (.invokevirtual 75, 3) := dk_182 0 75 (dk_at dksX4_addClass_0 8 rfl rfl)
theorem dX4_addClass_11 : decode cX4_addClass 11 = .ok (.ifCond .ne 7, 3) := dk_154 0 7 (dk_at dksX4_addClass_0 11 rfl rfl)
theorem dX4_addClass_14 : decode cX4_addClass 14 = .ok (.iconst 1, 1) := dk_4 (dk_at dksX4_addClass_0 14 rfl rfl)
theorem dX4_addClass_15 : decode cX4_addClass 15 = .ok (.goto 17, 3) := dk_167 0 17 (dk_at dksX4_addClass_0 15 rfl rfl)
theorem dX4_addClass_18 : decode cX4_addClass 18 = .ok (.aload_n 0, 1) := dk_42 (dk_at dksX4_addClass_0 18 rfl rfl)
theorem dX4_addClass_19 : decode cX4_addClass 19 = .ok (.getfield 55, 3) := dk_180 0 55 (dk_at dksX4_addClass_0 19 rfl rfl)
theorem dX4_addClass_22 : decode cX4_addClass 22 = .ok (.bipush 6, 2) := dk_16 6 (dk_at dksX4_addClass_0 22 rfl rfl)
theorem dX4_addClass_24 : decode cX4_addClass 24 = .ok (.if_icmp .ne 7, 3) := dk_160 0 7 (dk_at dksX4_addClass_1 0 rfl rfl)
theorem dX4_addClass_27 : decode cX4_addClass 27 = .ok (.iconst 2, 1) := dk_5 (dk_at dksX4_addClass_1 3 rfl rfl)
theorem dX4_addClass_28 : decode cX4_addClass 28 = .ok (.goto 4, 3) := dk_167 0 4 (dk_at dksX4_addClass_1 4 rfl rfl)
theorem dX4_addClass_31 : decode cX4_addClass 31 = .ok (.iconst 0, 1) := dk_3 (dk_at dksX4_addClass_1 7 rfl rfl)
theorem dX4_addClass_32 : decode cX4_addClass 32 = .ok (.putfield 51, 3) := dk_181 0 51 (dk_at dksX4_addClass_1 8 rfl rfl)
theorem dX4_addClass_35 : decode cX4_addClass 35 = .ok (.aload_n 0, 1) := dk_42 (dk_at dksX4_addClass_1 11 rfl rfl)
theorem dX4_addClass_36 : decode cX4_addClass 36 = .ok (.getfield 51, 3) := dk_180 0 51 (dk_at dksX4_addClass_1 12 rfl rfl)
theorem dX4_addClass_39 : decode cX4_addClass 39 = .ok (.ifCond .le 5, 3) := dk_158 0 5 (dk_at dksX4_addClass_1 15 rfl rfl)
theorem dX4_addClass_42 : decode cX4_addClass 42 = .ok (.iconst 0, 1) := dk_3 (dk_at dksX4_addClass_1 18 rfl rfl)
theorem dX4_addClass_43 : decode cX4_addClass 43 = .ok (.ireturn, 1) := dk_172 (dk_at dksX4_addClass_1 19 rfl rfl)
theorem dX4_addClass_44 : decode cX4_addClass 44 = .ok (.aload_n 0, 1) := dk_42 (dk_at dksX4_addClass_1 20 rfl rfl)
theorem dX4_addClass_45 : decode cX4_addClass 45 = .ok (.getfield 15, 3) := dk_180 0 15 (dk_at dksX4_addClass_1 21 rfl rfl)
theorem dX4_addClass_48 : decode cX4_addClass 48 = .ok (.aload_n 0, 1) := dk_42 (dk_at dksX4_addClass_2 0 rfl rfl)
theorem dX4_addClass_49 : decode cX4_addClass 49 = .ok (.getfield 55, 3) := dk_180 0 55 (dk_at dksX4_addClass_2 1 rfl rfl)
theorem dX4_addClass_52 : decode cX4_addClass 52 = .ok (.iload_n 1, 1) := dk_27 (dk_at dksX4_addClass_2 4 rfl rfl)
theorem dX4_addClass_53 : decode cX4_addClass 53 = .ok (.iastore, 1) := dk_79 (dk_at dksX4_addClass_2 5 rfl rfl)
theorem dX4_addClass_54 : decode cX4_addClass 54 = .ok (.aload_n 0, 1) := dk_42 (dk_at dksX4_addClass_2 6 rfl rfl)
theorem dX4_addClass_55 : decode cX4_addClass 55 = .ok (.dup, 1) := dk_89 (dk_at dksX4_addClass_2 7 rfl rfl)
theorem dX4_addClass_56 : decode cX4_addClass 56 = .ok (.getfield 55, 3) := dk_180 0 55 (dk_at dksX4_addClass_2 8 rfl rfl)
theorem dX4_addClass_59 : decode cX4_addClass 59 = .ok (.iconst 1, 1) := dk_4 (dk_at dksX4_addClass_2 11 rfl rfl)
theorem dX4_addClass_60 : decode cX4_addClass 60 = .ok (.iadd, 1) := dk_96 (dk_at dksX4_addClass_2 12 rfl rfl)
theorem dX4_addClass_61 : decode cX4_addClass 61 = .ok (.putfield 55, 3) := dk_181 0 55 (dk_at dksX4_addClass_2 13 rfl rfl)
theorem dX4_addClass_64 : decode cX4_addClass 64 = .ok (.aload_n 0, 1) := dk_42 (dk_at dksX4_addClass_2 16 rfl rfl)
theorem dX4_addClass_65 : decode cX4_addClass 65 = .ok (.getfield 55, 3) := dk_180 0 55 (dk_at dksX4_addClass_2 17 rfl rfl)
theorem dX4_addClass_68 : decode cX4_addClass 68 = .ok (.iconst 1, 1) := dk_4 (dk_at dksX4_addClass_2 20 rfl rfl)
theorem dX4_addClass_69 : decode cX4_addClass 69 = .ok (.isub, 1) := dk_100 (dk_at dksX4_addClass_2 21 rfl rfl)
theorem dX4_addClass_70 : decode cX4_addClass 70 = .ok (.ireturn, 1) := dk_172 (dk_at dksX4_addClass_2 22 rfl rfl)
abbrev cX4_isClass : ByteArray := prog_24_method_6_code
def yX4_isClass : MethodName := ⟨RX4, "isClass", "(I)Z"⟩
def dkwX4_isClass_0 : List UInt8 := [27, 3, 42, 180, 0, 55, 4, 100, 184, 0, 71, 172]
abbrev dktX4_isClass_0 : List UInt8 := dkwX4_isClass_0 ++ []
theorem dksX4_isClass_0 : cX4_isClass.data.toList.drop 0 = dktX4_isClass_0 := by decide +kernel
theorem dX4_isClass_0 : decode cX4_isClass 0 = .ok (.iload_n 1, 1) := dk_27 (dk_at dksX4_isClass_0 0 rfl rfl)
theorem dX4_isClass_1 : decode cX4_isClass 1 = .ok (.iconst 0, 1) := dk_3 (dk_at dksX4_isClass_0 1 rfl rfl)
theorem dX4_isClass_2 : decode cX4_isClass 2 = .ok (.aload_n 0, 1) := dk_42 (dk_at dksX4_isClass_0 2 rfl rfl)
theorem dX4_isClass_3 : decode cX4_isClass 3 = .ok (.getfield 55, 3) := dk_180 0 55 (dk_at dksX4_isClass_0 3 rfl rfl)
theorem dX4_isClass_6 : decode cX4_isClass 6 = .ok (.iconst 1, 1) := dk_4 (dk_at dksX4_isClass_0 6 rfl rfl)
theorem dX4_isClass_7 : decode cX4_isClass 7 = .ok (.isub, 1) := dk_100 (dk_at dksX4_isClass_0 7 rfl rfl)
theorem dX4_isClass_8 : decode cX4_isClass 8 = .ok (.invokestatic 71, 3) := dk_184 0 71 (dk_at dksX4_isClass_0 8 rfl rfl)
theorem dX4_isClass_11 : decode cX4_isClass 11 = .ok (.ireturn, 1) := dk_172 (dk_at dksX4_isClass_0 11 rfl rfl)
abbrev cX4_in : ByteArray := prog_24_method_3_code
def yX4_in : MethodName := ⟨RX4, "in", "(III)Z"⟩
def dkwX4_in_0 : List UInt8 := [26, 27, 161, 0, 12, 26, 28, 163, 0, 7, 4, 167, 0, 4, 3, 172]
abbrev dktX4_in_0 : List UInt8 := dkwX4_in_0 ++ []
theorem dksX4_in_0 : cX4_in.data.toList.drop 0 = dktX4_in_0 := by decide +kernel
theorem dX4_in_0 : decode cX4_in 0 = .ok (.iload_n 0, 1) := dk_26 (dk_at dksX4_in_0 0 rfl rfl)
theorem dX4_in_1 : decode cX4_in 1 = .ok (.iload_n 1, 1) := dk_27 (dk_at dksX4_in_0 1 rfl rfl)
theorem dX4_in_2 : decode cX4_in 2 = .ok (.if_icmp .lt 12, 3) := dk_161 0 12 (dk_at dksX4_in_0 2 rfl rfl)
theorem dX4_in_5 : decode cX4_in 5 = .ok (.iload_n 0, 1) := dk_26 (dk_at dksX4_in_0 5 rfl rfl)
theorem dX4_in_6 : decode cX4_in 6 = .ok (.iload_n 2, 1) := dk_28 (dk_at dksX4_in_0 6 rfl rfl)
theorem dX4_in_7 : decode cX4_in 7 = .ok (.if_icmp .gt 7, 3) := dk_163 0 7 (dk_at dksX4_in_0 7 rfl rfl)
theorem dX4_in_10 : decode cX4_in 10 = .ok (.iconst 1, 1) := dk_4 (dk_at dksX4_in_0 10 rfl rfl)
theorem dX4_in_11 : decode cX4_in 11 = .ok (.goto 4, 3) := dk_167 0 4 (dk_at dksX4_in_0 11 rfl rfl)
theorem dX4_in_14 : decode cX4_in 14 = .ok (.iconst 0, 1) := dk_3 (dk_at dksX4_in_0 14 rfl rfl)
theorem dX4_in_15 : decode cX4_in 15 = .ok (.ireturn, 1) := dk_172 (dk_at dksX4_in_0 15 rfl rfl)
abbrev cX4_addStep : ByteArray := prog_24_method_11_code
def yX4_addStep : MethodName := ⟨RX4, "addStep", "(IICII)I"⟩
def dkwX4_addStep_7 : List UInt8 := [181, 0, 90, 25, 6, 180, 0, 90, 172]
abbrev dktX4_addStep_7 : List UInt8 := dkwX4_addStep_7 ++ []
def dkwX4_addStep_6 : List UInt8 := [21, 4, 79, 25, 6, 180, 0, 100, 25, 6, 180, 0, 90, 21, 5, 79, 25, 6, 89, 180, 0, 90, 4, 96]
abbrev dktX4_addStep_6 : List UInt8 := dkwX4_addStep_6 ++ dktX4_addStep_7
def dkwX4_addStep_5 : List UInt8 := [83, 25, 6, 180, 0, 94, 25, 6, 180, 0, 90, 29, 85, 25, 6, 180, 0, 97, 25, 6, 180, 0, 90]
abbrev dktX4_addStep_5 : List UInt8 := dkwX4_addStep_5 ++ dktX4_addStep_6
def dkwX4_addStep_4 : List UInt8 := [199, 0, 12, 187, 0, 7, 89, 183, 0, 93, 58, 6, 42, 180, 0, 9, 16, 6, 27, 104, 28, 96, 25, 6]
abbrev dktX4_addStep_4 : List UInt8 := dkwX4_addStep_4 ++ dktX4_addStep_5
def dkwX4_addStep_3 : List UInt8 := [160, 0, 7, 6, 167, 0, 4, 3, 181, 0, 51, 42, 180, 0, 51, 158, 0, 5, 3, 172, 25, 6]
abbrev dktX4_addStep_3 : List UInt8 := dkwX4_addStep_3 ++ dktX4_addStep_4
def dkwX4_addStep_2 : List UInt8 := [172, 42, 27, 28, 182, 0, 86, 58, 6, 42, 25, 6, 198, 0, 17, 25, 6, 180, 0, 90, 16, 8]
abbrev dktX4_addStep_2 : List UInt8 := dkwX4_addStep_2 ++ dktX4_addStep_3
def dkwX4_addStep_1 : List UInt8 := [21, 5, 182, 0, 82, 154, 0, 7, 5, 167, 0, 4, 3, 181, 0, 51, 42, 180, 0, 51, 158, 0, 5, 3]
abbrev dktX4_addStep_1 : List UInt8 := dkwX4_addStep_1 ++ dktX4_addStep_2
def dkwX4_addStep_0 : List UInt8 := [42, 42, 27, 182, 0, 75, 154, 0, 7, 4, 167, 0, 27, 28, 184, 0, 79, 153, 0, 15, 42, 29, 21, 4]
abbrev dktX4_addStep_0 : List UInt8 := dkwX4_addStep_0 ++ dktX4_addStep_1
theorem dksX4_addStep_0 : cX4_addStep.data.toList.drop 0 = dktX4_addStep_0 := by decide +kernel
theorem dksX4_addStep_1 : cX4_addStep.data.toList.drop 24 = dktX4_addStep_1 := dk_seg dksX4_addStep_0 24 rfl rfl
theorem dksX4_addStep_2 : cX4_addStep.data.toList.drop 48 = dktX4_addStep_2 := dk_seg dksX4_addStep_1 24 rfl rfl
theorem dksX4_addStep_3 : cX4_addStep.data.toList.drop 70 = dktX4_addStep_3 := dk_seg dksX4_addStep_2 22 rfl rfl
theorem dksX4_addStep_4 : cX4_addStep.data.toList.drop 92 = dktX4_addStep_4 := dk_seg dksX4_addStep_3 22 rfl rfl
theorem dksX4_addStep_5 : cX4_addStep.data.toList.drop 116 = dktX4_addStep_5 := dk_seg dksX4_addStep_4 24 rfl rfl
theorem dksX4_addStep_6 : cX4_addStep.data.toList.drop 139 = dktX4_addStep_6 := dk_seg dksX4_addStep_5 23 rfl rfl
theorem dksX4_addStep_7 : cX4_addStep.data.toList.drop 163 = dktX4_addStep_7 := dk_seg dksX4_addStep_6 24 rfl rfl
theorem dX4_addStep_0 : decode cX4_addStep 0 = .ok (.aload_n 0, 1) := dk_42 (dk_at dksX4_addStep_0 0 rfl rfl)
theorem dX4_addStep_1 : decode cX4_addStep 1 = .ok (.aload_n 0, 1) := dk_42 (dk_at dksX4_addStep_0 1 rfl rfl)
theorem dX4_addStep_2 : decode cX4_addStep 2 = .ok (.iload_n 1, 1) := dk_27 (dk_at dksX4_addStep_0 2 rfl rfl)
theorem dX4_addStep_3 : decode cX4_addStep 3 = .ok (.invokevirtual 75, 3) := dk_182 0 75 (dk_at dksX4_addStep_0 3 rfl rfl)
theorem dX4_addStep_6 : decode cX4_addStep 6 = .ok (.ifCond .ne 7, 3) := dk_154 0 7 (dk_at dksX4_addStep_0 6 rfl rfl)
theorem dX4_addStep_9 : decode cX4_addStep 9 = .ok (.iconst 1, 1) := dk_4 (dk_at dksX4_addStep_0 9 rfl rfl)
theorem dX4_addStep_10 : decode cX4_addStep 10 = .ok (.goto 27, 3) := dk_167 0 27 (dk_at dksX4_addStep_0 10 rfl rfl)
theorem dX4_addStep_13 : decode cX4_addStep 13 = .ok (.iload_n 2, 1) := dk_28 (dk_at dksX4_addStep_0 13 rfl rfl)
theorem dX4_addStep_14 : decode cX4_addStep 14 = .ok (.invokestatic 79, 3) := dk_184 0 79 (dk_at dksX4_addStep_0 14 rfl rfl)
theorem dX4_addStep_17 : decode cX4_addStep 17 = .ok (.ifCond .eq 15, 3) := dk_153 0 15 (dk_at dksX4_addStep_0 17 rfl rfl)
theorem dX4_addStep_20 : decode cX4_addStep 20 = .ok (.aload_n 0, 1) := dk_42 (dk_at dksX4_addStep_0 20 rfl rfl)
theorem dX4_addStep_21 : decode cX4_addStep 21 = .ok (.iload_n 3, 1) := dk_29 (dk_at dksX4_addStep_0 21 rfl rfl)
theorem dX4_addStep_22 : decode cX4_addStep 22 = .ok (.iload 4, 2) := dk_21 4 (dk_at dksX4_addStep_0 22 rfl rfl)
theorem dX4_addStep_24 : decode cX4_addStep 24 = .ok (.iload 5, 2) := dk_21 5 (dk_at dksX4_addStep_1 0 rfl rfl)
theorem dX4_addStep_26 : decode cX4_addStep 26 = .ok (.invokevirtual 82, 3) := dk_182 0 82 (dk_at dksX4_addStep_1 2 rfl rfl)
theorem dX4_addStep_29 : decode cX4_addStep 29 = .ok (.ifCond .ne 7, 3) := dk_154 0 7 (dk_at dksX4_addStep_1 5 rfl rfl)
theorem dX4_addStep_32 : decode cX4_addStep 32 = .ok (.iconst 2, 1) := dk_5 (dk_at dksX4_addStep_1 8 rfl rfl)
theorem dX4_addStep_33 : decode cX4_addStep 33 = .ok (.goto 4, 3) := dk_167 0 4 (dk_at dksX4_addStep_1 9 rfl rfl)
theorem dX4_addStep_36 : decode cX4_addStep 36 = .ok (.iconst 0, 1) := dk_3 (dk_at dksX4_addStep_1 12 rfl rfl)
theorem dX4_addStep_37 : decode cX4_addStep 37 = .ok (.putfield 51, 3) := dk_181 0 51 (dk_at dksX4_addStep_1 13 rfl rfl)
theorem dX4_addStep_40 : decode cX4_addStep 40 = .ok (.aload_n 0, 1) := dk_42 (dk_at dksX4_addStep_1 16 rfl rfl)
theorem dX4_addStep_41 : decode cX4_addStep 41 = .ok (.getfield 51, 3) := dk_180 0 51 (dk_at dksX4_addStep_1 17 rfl rfl)
theorem dX4_addStep_44 : decode cX4_addStep 44 = .ok (.ifCond .le 5, 3) := dk_158 0 5 (dk_at dksX4_addStep_1 20 rfl rfl)
theorem dX4_addStep_47 : decode cX4_addStep 47 = .ok (.iconst 0, 1) := dk_3 (dk_at dksX4_addStep_1 23 rfl rfl)
theorem dX4_addStep_48 : decode cX4_addStep 48 = .ok (.ireturn, 1) := dk_172 (dk_at dksX4_addStep_2 0 rfl rfl)
theorem dX4_addStep_49 : decode cX4_addStep 49 = .ok (.aload_n 0, 1) := dk_42 (dk_at dksX4_addStep_2 1 rfl rfl)
theorem dX4_addStep_50 : decode cX4_addStep 50 = .ok (.iload_n 1, 1) := dk_27 (dk_at dksX4_addStep_2 2 rfl rfl)
theorem dX4_addStep_51 : decode cX4_addStep 51 = .ok (.iload_n 2, 1) := dk_28 (dk_at dksX4_addStep_2 3 rfl rfl)
theorem dX4_addStep_52 : decode cX4_addStep 52 = .ok (.invokevirtual 86, 3) := dk_182 0 86 (dk_at dksX4_addStep_2 4 rfl rfl)
theorem dX4_addStep_55 : decode cX4_addStep 55 = .ok (.astore 6, 2) := dk_58 6 (dk_at dksX4_addStep_2 7 rfl rfl)
theorem dX4_addStep_57 : decode cX4_addStep 57 = .ok (.aload_n 0, 1) := dk_42 (dk_at dksX4_addStep_2 9 rfl rfl)
theorem dX4_addStep_58 : decode cX4_addStep 58 = .ok (.aload 6, 2) := dk_25 6 (dk_at dksX4_addStep_2 10 rfl rfl)
theorem dX4_addStep_60 : decode cX4_addStep 60 = .ok (.ifnull 17, 3) := dk_198 0 17 (dk_at dksX4_addStep_2 12 rfl rfl)
theorem dX4_addStep_63 : decode cX4_addStep 63 = .ok (.aload 6, 2) := dk_25 6 (dk_at dksX4_addStep_2 15 rfl rfl)
theorem dX4_addStep_65 : decode cX4_addStep 65 = .ok (.getfield 90, 3) := dk_180 0 90 (dk_at dksX4_addStep_2 17 rfl rfl)
theorem dX4_addStep_68 : decode cX4_addStep 68 = .ok (.bipush 8, 2) := dk_16 8 (dk_at dksX4_addStep_2 20 rfl rfl)
theorem dX4_addStep_70 : decode cX4_addStep 70 = .ok (.if_icmp .ne 7, 3) := dk_160 0 7 (dk_at dksX4_addStep_3 0 rfl rfl)
theorem dX4_addStep_73 : decode cX4_addStep 73 = .ok (.iconst 3, 1) := dk_6 (dk_at dksX4_addStep_3 3 rfl rfl)
theorem dX4_addStep_74 : decode cX4_addStep 74 = .ok (.goto 4, 3) := dk_167 0 4 (dk_at dksX4_addStep_3 4 rfl rfl)
theorem dX4_addStep_77 : decode cX4_addStep 77 = .ok (.iconst 0, 1) := dk_3 (dk_at dksX4_addStep_3 7 rfl rfl)
theorem dX4_addStep_78 : decode cX4_addStep 78 = .ok (.putfield 51, 3) := dk_181 0 51 (dk_at dksX4_addStep_3 8 rfl rfl)
theorem dX4_addStep_81 : decode cX4_addStep 81 = .ok (.aload_n 0, 1) := dk_42 (dk_at dksX4_addStep_3 11 rfl rfl)
theorem dX4_addStep_82 : decode cX4_addStep 82 = .ok (.getfield 51, 3) := dk_180 0 51 (dk_at dksX4_addStep_3 12 rfl rfl)
theorem dX4_addStep_85 : decode cX4_addStep 85 = .ok (.ifCond .le 5, 3) := dk_158 0 5 (dk_at dksX4_addStep_3 15 rfl rfl)
theorem dX4_addStep_88 : decode cX4_addStep 88 = .ok (.iconst 0, 1) := dk_3 (dk_at dksX4_addStep_3 18 rfl rfl)
theorem dX4_addStep_89 : decode cX4_addStep 89 = .ok (.ireturn, 1) := dk_172 (dk_at dksX4_addStep_3 19 rfl rfl)
theorem dX4_addStep_90 : decode cX4_addStep 90 = .ok (.aload 6, 2) := dk_25 6 (dk_at dksX4_addStep_3 20 rfl rfl)
theorem dX4_addStep_92 : decode cX4_addStep 92 = .ok (.ifnonnull 12, 3) := dk_199 0 12 (dk_at dksX4_addStep_4 0 rfl rfl)
theorem dX4_addStep_95 : decode cX4_addStep 95 = .ok (.new 7, 3) := dk_187 0 7 (dk_at dksX4_addStep_4 3 rfl rfl)
theorem dX4_addStep_98 : decode cX4_addStep 98 = .ok (.dup, 1) := dk_89 (dk_at dksX4_addStep_4 6 rfl rfl)
theorem dX4_addStep_99 : decode cX4_addStep 99 = .ok (.invokespecial 93, 3) := dk_183 0 93 (dk_at dksX4_addStep_4 7 rfl rfl)
theorem dX4_addStep_102 : decode cX4_addStep 102 = .ok (.astore 6, 2) := dk_58 6 (dk_at dksX4_addStep_4 10 rfl rfl)
theorem dX4_addStep_104 : decode cX4_addStep 104 = .ok (.aload_n 0, 1) := dk_42 (dk_at dksX4_addStep_4 12 rfl rfl)
theorem dX4_addStep_105 : decode cX4_addStep 105 = .ok (.getfield 9, 3) := dk_180 0 9 (dk_at dksX4_addStep_4 13 rfl rfl)
theorem dX4_addStep_108 : decode cX4_addStep 108 = .ok (.bipush 6, 2) := dk_16 6 (dk_at dksX4_addStep_4 16 rfl rfl)
theorem dX4_addStep_110 : decode cX4_addStep 110 = .ok (.iload_n 1, 1) := dk_27 (dk_at dksX4_addStep_4 18 rfl rfl)
theorem dX4_addStep_111 : decode cX4_addStep 111 = .ok (.imul, 1) := dk_104 (dk_at dksX4_addStep_4 19 rfl rfl)
theorem dX4_addStep_112 : decode cX4_addStep 112 = .ok (.iload_n 2, 1) := dk_28 (dk_at dksX4_addStep_4 20 rfl rfl)
theorem dX4_addStep_113 : decode cX4_addStep 113 = .ok (.iadd, 1) := dk_96 (dk_at dksX4_addStep_4 21 rfl rfl)
theorem dX4_addStep_114 : decode cX4_addStep 114 = .ok (.aload 6, 2) := dk_25 6 (dk_at dksX4_addStep_4 22 rfl rfl)
theorem dX4_addStep_116 : decode cX4_addStep 116 = .ok (.aastore, 1) := dk_83 (dk_at dksX4_addStep_5 0 rfl rfl)
theorem dX4_addStep_117 : decode cX4_addStep 117 = .ok (.aload 6, 2) := dk_25 6 (dk_at dksX4_addStep_5 1 rfl rfl)
theorem dX4_addStep_119 : decode cX4_addStep 119 = .ok (.getfield 94, 3) := dk_180 0 94 (dk_at dksX4_addStep_5 3 rfl rfl)
theorem dX4_addStep_122 : decode cX4_addStep 122 = .ok (.aload 6, 2) := dk_25 6 (dk_at dksX4_addStep_5 6 rfl rfl)
theorem dX4_addStep_124 : decode cX4_addStep 124 = .ok (.getfield 90, 3) := dk_180 0 90 (dk_at dksX4_addStep_5 8 rfl rfl)
theorem dX4_addStep_127 : decode cX4_addStep 127 = .ok (.iload_n 3, 1) := dk_29 (dk_at dksX4_addStep_5 11 rfl rfl)
theorem dX4_addStep_128 : decode cX4_addStep 128 = .ok (.castore, 1) := dk_85 (dk_at dksX4_addStep_5 12 rfl rfl)
theorem dX4_addStep_129 : decode cX4_addStep 129 = .ok (.aload 6, 2) := dk_25 6 (dk_at dksX4_addStep_5 13 rfl rfl)
theorem dX4_addStep_131 : decode cX4_addStep 131 = .ok (.getfield 97, 3) := dk_180 0 97 (dk_at dksX4_addStep_5 15 rfl rfl)
theorem dX4_addStep_134 : decode cX4_addStep 134 = .ok (.aload 6, 2) := dk_25 6 (dk_at dksX4_addStep_5 18 rfl rfl)
theorem dX4_addStep_136 : decode cX4_addStep 136 = .ok (.getfield 90, 3) := dk_180 0 90 (dk_at dksX4_addStep_5 20 rfl rfl)
theorem dX4_addStep_139 : decode cX4_addStep 139 = .ok (.iload 4, 2) := dk_21 4 (dk_at dksX4_addStep_6 0 rfl rfl)
theorem dX4_addStep_141 : decode cX4_addStep 141 = .ok (.iastore, 1) := dk_79 (dk_at dksX4_addStep_6 2 rfl rfl)
theorem dX4_addStep_142 : decode cX4_addStep 142 = .ok (.aload 6, 2) := dk_25 6 (dk_at dksX4_addStep_6 3 rfl rfl)
theorem dX4_addStep_144 : decode cX4_addStep 144 = .ok (.getfield 100, 3) := dk_180 0 100 (dk_at dksX4_addStep_6 5 rfl rfl)
theorem dX4_addStep_147 : decode cX4_addStep 147 = .ok (.aload 6, 2) := dk_25 6 (dk_at dksX4_addStep_6 8 rfl rfl)
theorem dX4_addStep_149 : decode cX4_addStep 149 = .ok (.getfield 90, 3) := dk_180 0 90 (dk_at dksX4_addStep_6 10 rfl rfl)
theorem dX4_addStep_152 : decode cX4_addStep 152 = .ok (.iload 5, 2) := dk_21 5 (dk_at dksX4_addStep_6 13 rfl rfl)
theorem dX4_addStep_154 : decode cX4_addStep 154 = .ok (.iastore, 1) := dk_79 (dk_at dksX4_addStep_6 15 rfl rfl)
theorem dX4_addStep_155 : decode cX4_addStep 155 = .ok (.aload 6, 2) := dk_25 6 (dk_at dksX4_addStep_6 16 rfl rfl)
theorem dX4_addStep_157 : decode cX4_addStep 157 = .ok (.dup, 1) := dk_89 (dk_at dksX4_addStep_6 18 rfl rfl)
theorem dX4_addStep_158 : decode cX4_addStep 158 = .ok (.getfield 90, 3) := dk_180 0 90 (dk_at dksX4_addStep_6 19 rfl rfl)
theorem dX4_addStep_161 : decode cX4_addStep 161 = .ok (.iconst 1, 1) := dk_4 (dk_at dksX4_addStep_6 22 rfl rfl)
theorem dX4_addStep_162 : decode cX4_addStep 162 = .ok (.iadd, 1) := dk_96 (dk_at dksX4_addStep_6 23 rfl rfl)
theorem dX4_addStep_163 : decode cX4_addStep 163 = .ok (.putfield 90, 3) := dk_181 0 90 (dk_at dksX4_addStep_7 0 rfl rfl)
theorem dX4_addStep_166 : decode cX4_addStep 166 = .ok (.aload 6, 2) := dk_25 6 (dk_at dksX4_addStep_7 3 rfl rfl)
theorem dX4_addStep_168 : decode cX4_addStep 168 = .ok (.getfield 90, 3) := dk_180 0 90 (dk_at dksX4_addStep_7 5 rfl rfl)
theorem dX4_addStep_171 : decode cX4_addStep 171 = .ok (.ireturn, 1) := dk_172 (dk_at dksX4_addStep_7 8 rfl rfl)
abbrev cX4_isMethod : ByteArray := prog_24_method_8_code
def yX4_isMethod : MethodName := ⟨RX4, "isMethod", "(I)Z"⟩
def dkwX4_isMethod_0 : List UInt8 := [26, 3, 8, 184, 0, 71, 172]
abbrev dktX4_isMethod_0 : List UInt8 := dkwX4_isMethod_0 ++ []
theorem dksX4_isMethod_0 : cX4_isMethod.data.toList.drop 0 = dktX4_isMethod_0 := by decide +kernel
theorem dX4_isMethod_0 : decode cX4_isMethod 0 = .ok (.iload_n 0, 1) := dk_26 (dk_at dksX4_isMethod_0 0 rfl rfl)
theorem dX4_isMethod_1 : decode cX4_isMethod 1 = .ok (.iconst 0, 1) := dk_3 (dk_at dksX4_isMethod_0 1 rfl rfl)
theorem dX4_isMethod_2 : decode cX4_isMethod 2 = .ok (.iconst 5, 1) := dk_8 (dk_at dksX4_isMethod_0 2 rfl rfl)
theorem dX4_isMethod_3 : decode cX4_isMethod 3 = .ok (.invokestatic 71, 3) := dk_184 0 71 (dk_at dksX4_isMethod_0 3 rfl rfl)
theorem dX4_isMethod_6 : decode cX4_isMethod 6 = .ok (.ireturn, 1) := dk_172 (dk_at dksX4_isMethod_0 6 rfl rfl)
abbrev cX4_isStep : ByteArray := prog_24_method_9_code
def yX4_isStep : MethodName := ⟨RX4, "isStep", "(CII)Z"⟩
def dkwX4_isStep_5 : List UInt8 := [167, 0, 8, 3, 167, 0, 4, 3, 172]
abbrev dktX4_isStep_5 : List UInt8 := dkwX4_isStep_5 ++ []
def dkwX4_isStep_4 : List UInt8 := [167, 0, 32, 28, 3, 6, 184, 0, 71, 153, 0, 18, 29, 16, 157, 16, 99, 184, 0, 71, 153, 0, 7, 4]
abbrev dktX4_isStep_4 : List UInt8 := dkwX4_isStep_4 ++ dktX4_isStep_5
def dkwX4_isStep_3 : List UInt8 := [153, 0, 14, 29, 184, 0, 79, 153, 0, 7, 4, 167, 0, 45, 3, 167, 0, 41, 28, 3, 6, 184, 0, 71]
abbrev dktX4_isStep_3 : List UInt8 := dkwX4_isStep_3 ++ dktX4_isStep_4
def dkwX4_isStep_2 : List UInt8 := [28, 16, 157, 16, 99, 184, 0, 71, 167, 0, 71, 28, 184, 0, 79, 167, 0, 64, 42, 28, 182, 0, 75]
abbrev dktX4_isStep_2 : List UInt8 := dkwX4_isStep_2 ++ dktX4_isStep_3
def dkwX4_isStep_1 : List UInt8 := [170, 0, 0, 0, 0, 0, 165, 0, 0, 0, 99, 0, 0, 0, 116, 0, 0, 0, 98, 0, 0, 0, 165, 0, 0, 0, 165, 0, 0, 0, 165, 0, 0, 0, 128, 0, 0, 0, 128, 0, 0, 0, 165, 0, 0, 0, 165, 0, 0, 0, 165, 0, 0, 0, 165, 0, 0, 0, 105, 0, 0, 0, 87, 0, 0, 0, 165, 0, 0, 0, 165, 0, 0, 0, 165, 0, 0, 0, 165, 0, 0, 0, 128, 0, 0, 0, 137]
abbrev dktX4_isStep_1 : List UInt8 := dkwX4_isStep_1 ++ dktX4_isStep_2
def dkwX4_isStep_0 : List UInt8 := [27]
abbrev dktX4_isStep_0 : List UInt8 := dkwX4_isStep_0 ++ dktX4_isStep_1
theorem dksX4_isStep_0 : cX4_isStep.data.toList.drop 0 = dktX4_isStep_0 := by decide +kernel
theorem dksX4_isStep_1 : cX4_isStep.data.toList.drop 1 = dktX4_isStep_1 := dk_seg dksX4_isStep_0 1 rfl rfl
theorem dksX4_isStep_2 : cX4_isStep.data.toList.drop 88 = dktX4_isStep_2 := dk_seg dksX4_isStep_1 87 rfl rfl
theorem dksX4_isStep_3 : cX4_isStep.data.toList.drop 111 = dktX4_isStep_3 := dk_seg dksX4_isStep_2 23 rfl rfl
theorem dksX4_isStep_4 : cX4_isStep.data.toList.drop 135 = dktX4_isStep_4 := dk_seg dksX4_isStep_3 24 rfl rfl
theorem dksX4_isStep_5 : cX4_isStep.data.toList.drop 159 = dktX4_isStep_5 := dk_seg dksX4_isStep_4 24 rfl rfl
theorem dX4_isStep_0 : decode cX4_isStep 0 = .ok (.iload_n 1, 1) := dk_27 (dk_at dksX4_isStep_0 0 rfl rfl)
theorem dX4_isStep_1 : decode cX4_isStep 1 = .ok (.tableswitch 165 99 116 #[98, 165, 165, 165, 128, 128, 165, 165, 165, 165, 105, 87, 165, 165, 165, 165, 128, 137], 87) := by decide +kernel
theorem dX4_isStep_88 : decode cX4_isStep 88 = .ok (.iload_n 2, 1) := dk_28 (dk_at dksX4_isStep_2 0 rfl rfl)
theorem dX4_isStep_89 : decode cX4_isStep 89 = .ok (.bipush (-99), 2) := dk_16 157 (dk_at dksX4_isStep_2 1 rfl rfl)
theorem dX4_isStep_91 : decode cX4_isStep 91 = .ok (.bipush 99, 2) := dk_16 99 (dk_at dksX4_isStep_2 3 rfl rfl)
theorem dX4_isStep_93 : decode cX4_isStep 93 = .ok (.invokestatic 71, 3) := dk_184 0 71 (dk_at dksX4_isStep_2 5 rfl rfl)
theorem dX4_isStep_96 : decode cX4_isStep 96 = .ok (.goto 71, 3) := dk_167 0 71 (dk_at dksX4_isStep_2 8 rfl rfl)
theorem dX4_isStep_99 : decode cX4_isStep 99 = .ok (.iload_n 2, 1) := dk_28 (dk_at dksX4_isStep_2 11 rfl rfl)
theorem dX4_isStep_100 : decode cX4_isStep 100 = .ok (.invokestatic 79, 3) := dk_184 0 79 (dk_at dksX4_isStep_2 12 rfl rfl)
theorem dX4_isStep_103 : decode cX4_isStep 103 = .ok (.goto 64, 3) := dk_167 0 64 (dk_at dksX4_isStep_2 15 rfl rfl)
theorem dX4_isStep_106 : decode cX4_isStep 106 = .ok (.aload_n 0, 1) := dk_42 (dk_at dksX4_isStep_2 18 rfl rfl)
theorem dX4_isStep_107 : decode cX4_isStep 107 = .ok (.iload_n 2, 1) := dk_28 (dk_at dksX4_isStep_2 19 rfl rfl)
theorem dX4_isStep_108 : decode cX4_isStep 108 = .ok (.invokevirtual 75, 3) := dk_182 0 75 (dk_at dksX4_isStep_2 20 rfl rfl)
theorem dX4_isStep_111 : decode cX4_isStep 111 = .ok (.ifCond .eq 14, 3) := dk_153 0 14 (dk_at dksX4_isStep_3 0 rfl rfl)
theorem dX4_isStep_114 : decode cX4_isStep 114 = .ok (.iload_n 3, 1) := dk_29 (dk_at dksX4_isStep_3 3 rfl rfl)
theorem dX4_isStep_115 : decode cX4_isStep 115 = .ok (.invokestatic 79, 3) := dk_184 0 79 (dk_at dksX4_isStep_3 4 rfl rfl)
theorem dX4_isStep_118 : decode cX4_isStep 118 = .ok (.ifCond .eq 7, 3) := dk_153 0 7 (dk_at dksX4_isStep_3 7 rfl rfl)
theorem dX4_isStep_121 : decode cX4_isStep 121 = .ok (.iconst 1, 1) := dk_4 (dk_at dksX4_isStep_3 10 rfl rfl)
theorem dX4_isStep_122 : decode cX4_isStep 122 = .ok (.goto 45, 3) := dk_167 0 45 (dk_at dksX4_isStep_3 11 rfl rfl)
theorem dX4_isStep_125 : decode cX4_isStep 125 = .ok (.iconst 0, 1) := dk_3 (dk_at dksX4_isStep_3 14 rfl rfl)
theorem dX4_isStep_126 : decode cX4_isStep 126 = .ok (.goto 41, 3) := dk_167 0 41 (dk_at dksX4_isStep_3 15 rfl rfl)
theorem dX4_isStep_129 : decode cX4_isStep 129 = .ok (.iload_n 2, 1) := dk_28 (dk_at dksX4_isStep_3 18 rfl rfl)
theorem dX4_isStep_130 : decode cX4_isStep 130 = .ok (.iconst 0, 1) := dk_3 (dk_at dksX4_isStep_3 19 rfl rfl)
theorem dX4_isStep_131 : decode cX4_isStep 131 = .ok (.iconst 3, 1) := dk_6 (dk_at dksX4_isStep_3 20 rfl rfl)
theorem dX4_isStep_132 : decode cX4_isStep 132 = .ok (.invokestatic 71, 3) := dk_184 0 71 (dk_at dksX4_isStep_3 21 rfl rfl)
theorem dX4_isStep_135 : decode cX4_isStep 135 = .ok (.goto 32, 3) := dk_167 0 32 (dk_at dksX4_isStep_4 0 rfl rfl)
theorem dX4_isStep_138 : decode cX4_isStep 138 = .ok (.iload_n 2, 1) := dk_28 (dk_at dksX4_isStep_4 3 rfl rfl)
theorem dX4_isStep_139 : decode cX4_isStep 139 = .ok (.iconst 0, 1) := dk_3 (dk_at dksX4_isStep_4 4 rfl rfl)
theorem dX4_isStep_140 : decode cX4_isStep 140 = .ok (.iconst 3, 1) := dk_6 (dk_at dksX4_isStep_4 5 rfl rfl)
theorem dX4_isStep_141 : decode cX4_isStep 141 = .ok (.invokestatic 71, 3) := dk_184 0 71 (dk_at dksX4_isStep_4 6 rfl rfl)
theorem dX4_isStep_144 : decode cX4_isStep 144 = .ok (.ifCond .eq 18, 3) := dk_153 0 18 (dk_at dksX4_isStep_4 9 rfl rfl)
theorem dX4_isStep_147 : decode cX4_isStep 147 = .ok (.iload_n 3, 1) := dk_29 (dk_at dksX4_isStep_4 12 rfl rfl)
theorem dX4_isStep_148 : decode cX4_isStep 148 = .ok (.bipush (-99), 2) := dk_16 157 (dk_at dksX4_isStep_4 13 rfl rfl)
theorem dX4_isStep_150 : decode cX4_isStep 150 = .ok (.bipush 99, 2) := dk_16 99 (dk_at dksX4_isStep_4 15 rfl rfl)
theorem dX4_isStep_152 : decode cX4_isStep 152 = .ok (.invokestatic 71, 3) := dk_184 0 71 (dk_at dksX4_isStep_4 17 rfl rfl)
theorem dX4_isStep_155 : decode cX4_isStep 155 = .ok (.ifCond .eq 7, 3) := dk_153 0 7 (dk_at dksX4_isStep_4 20 rfl rfl)
theorem dX4_isStep_158 : decode cX4_isStep 158 = .ok (.iconst 1, 1) := dk_4 (dk_at dksX4_isStep_4 23 rfl rfl)
theorem dX4_isStep_159 : decode cX4_isStep 159 = .ok (.goto 8, 3) := dk_167 0 8 (dk_at dksX4_isStep_5 0 rfl rfl)
theorem dX4_isStep_162 : decode cX4_isStep 162 = .ok (.iconst 0, 1) := dk_3 (dk_at dksX4_isStep_5 3 rfl rfl)
theorem dX4_isStep_163 : decode cX4_isStep 163 = .ok (.goto 4, 3) := dk_167 0 4 (dk_at dksX4_isStep_5 4 rfl rfl)
theorem dX4_isStep_166 : decode cX4_isStep 166 = .ok (.iconst 0, 1) := dk_3 (dk_at dksX4_isStep_5 7 rfl rfl)
theorem dX4_isStep_167 : decode cX4_isStep 167 = .ok (.ireturn, 1) := dk_172 (dk_at dksX4_isStep_5 8 rfl rfl)
abbrev cX4_body : ByteArray := prog_24_method_10_code
def yX4_body : MethodName := ⟨RX4, "body", "(II)LWeaversgateModel$Body;"⟩
def dkwX4_body_0 : List UInt8 := [42, 180, 0, 9, 16, 6, 27, 104, 28, 96, 50, 176]
abbrev dktX4_body_0 : List UInt8 := dkwX4_body_0 ++ []
theorem dksX4_body_0 : cX4_body.data.toList.drop 0 = dktX4_body_0 := by decide +kernel
theorem dX4_body_0 : decode cX4_body 0 = .ok (.aload_n 0, 1) := dk_42 (dk_at dksX4_body_0 0 rfl rfl)
theorem dX4_body_1 : decode cX4_body 1 = .ok (.getfield 9, 3) := dk_180 0 9 (dk_at dksX4_body_0 1 rfl rfl)
theorem dX4_body_4 : decode cX4_body 4 = .ok (.bipush 6, 2) := dk_16 6 (dk_at dksX4_body_0 4 rfl rfl)
theorem dX4_body_6 : decode cX4_body 6 = .ok (.iload_n 1, 1) := dk_27 (dk_at dksX4_body_0 6 rfl rfl)
theorem dX4_body_7 : decode cX4_body 7 = .ok (.imul, 1) := dk_104 (dk_at dksX4_body_0 7 rfl rfl)
theorem dX4_body_8 : decode cX4_body 8 = .ok (.iload_n 2, 1) := dk_28 (dk_at dksX4_body_0 8 rfl rfl)
theorem dX4_body_9 : decode cX4_body 9 = .ok (.iadd, 1) := dk_96 (dk_at dksX4_body_0 9 rfl rfl)
theorem dX4_body_10 : decode cX4_body 10 = .ok (.aaload, 1) := dk_50 (dk_at dksX4_body_0 10 rfl rfl)
theorem dX4_body_11 : decode cX4_body 11 = .ok (.areturn, 1) := dk_176 (dk_at dksX4_body_0 11 rfl rfl)
abbrev cX4_dropBody : ByteArray := prog_24_method_13_code
def yX4_dropBody : MethodName := ⟨RX4, "dropBody", "(II)I"⟩
def dkwX4_dropBody_2 : List UInt8 := [45, 180, 0, 90, 172]
abbrev dktX4_dropBody_2 : List UInt8 := dkwX4_dropBody_2 ++ []
def dkwX4_dropBody_1 : List UInt8 := [182, 0, 86, 78, 42, 180, 0, 9, 16, 6, 27, 104, 28, 96, 1, 83, 45, 199, 0, 7, 3, 167, 0, 7]
abbrev dktX4_dropBody_1 : List UInt8 := dkwX4_dropBody_1 ++ dktX4_dropBody_2
def dkwX4_dropBody_0 : List UInt8 := [42, 42, 27, 28, 182, 0, 103, 181, 0, 51, 42, 180, 0, 51, 158, 0, 5, 3, 172, 42, 27, 28]
abbrev dktX4_dropBody_0 : List UInt8 := dkwX4_dropBody_0 ++ dktX4_dropBody_1
theorem dksX4_dropBody_0 : cX4_dropBody.data.toList.drop 0 = dktX4_dropBody_0 := by decide +kernel
theorem dksX4_dropBody_1 : cX4_dropBody.data.toList.drop 22 = dktX4_dropBody_1 := dk_seg dksX4_dropBody_0 22 rfl rfl
theorem dksX4_dropBody_2 : cX4_dropBody.data.toList.drop 46 = dktX4_dropBody_2 := dk_seg dksX4_dropBody_1 24 rfl rfl
theorem dX4_dropBody_0 : decode cX4_dropBody 0 = .ok (.aload_n 0, 1) := dk_42 (dk_at dksX4_dropBody_0 0 rfl rfl)
theorem dX4_dropBody_1 : decode cX4_dropBody 1 = .ok (.aload_n 0, 1) := dk_42 (dk_at dksX4_dropBody_0 1 rfl rfl)
theorem dX4_dropBody_2 : decode cX4_dropBody 2 = .ok (.iload_n 1, 1) := dk_27 (dk_at dksX4_dropBody_0 2 rfl rfl)
theorem dX4_dropBody_3 : decode cX4_dropBody 3 = .ok (.iload_n 2, 1) := dk_28 (dk_at dksX4_dropBody_0 3 rfl rfl)
theorem dX4_dropBody_4 : decode cX4_dropBody 4 = .ok (.invokevirtual 103, 3) := dk_182 0 103 (dk_at dksX4_dropBody_0 4 rfl rfl)
theorem dX4_dropBody_7 : decode cX4_dropBody 7 = .ok (.putfield 51, 3) := dk_181 0 51 (dk_at dksX4_dropBody_0 7 rfl rfl)
theorem dX4_dropBody_10 : decode cX4_dropBody 10 = .ok (.aload_n 0, 1) := dk_42 (dk_at dksX4_dropBody_0 10 rfl rfl)
theorem dX4_dropBody_11 : decode cX4_dropBody 11 = .ok (.getfield 51, 3) := dk_180 0 51 (dk_at dksX4_dropBody_0 11 rfl rfl)
theorem dX4_dropBody_14 : decode cX4_dropBody 14 = .ok (.ifCond .le 5, 3) := dk_158 0 5 (dk_at dksX4_dropBody_0 14 rfl rfl)
theorem dX4_dropBody_17 : decode cX4_dropBody 17 = .ok (.iconst 0, 1) := dk_3 (dk_at dksX4_dropBody_0 17 rfl rfl)
theorem dX4_dropBody_18 : decode cX4_dropBody 18 = .ok (.ireturn, 1) := dk_172 (dk_at dksX4_dropBody_0 18 rfl rfl)
theorem dX4_dropBody_19 : decode cX4_dropBody 19 = .ok (.aload_n 0, 1) := dk_42 (dk_at dksX4_dropBody_0 19 rfl rfl)
theorem dX4_dropBody_20 : decode cX4_dropBody 20 = .ok (.iload_n 1, 1) := dk_27 (dk_at dksX4_dropBody_0 20 rfl rfl)
theorem dX4_dropBody_21 : decode cX4_dropBody 21 = .ok (.iload_n 2, 1) := dk_28 (dk_at dksX4_dropBody_0 21 rfl rfl)
theorem dX4_dropBody_22 : decode cX4_dropBody 22 = .ok (.invokevirtual 86, 3) := dk_182 0 86 (dk_at dksX4_dropBody_1 0 rfl rfl)
theorem dX4_dropBody_25 : decode cX4_dropBody 25 = .ok (.astore_n 3, 1) := dk_78 (dk_at dksX4_dropBody_1 3 rfl rfl)
theorem dX4_dropBody_26 : decode cX4_dropBody 26 = .ok (.aload_n 0, 1) := dk_42 (dk_at dksX4_dropBody_1 4 rfl rfl)
theorem dX4_dropBody_27 : decode cX4_dropBody 27 = .ok (.getfield 9, 3) := dk_180 0 9 (dk_at dksX4_dropBody_1 5 rfl rfl)
theorem dX4_dropBody_30 : decode cX4_dropBody 30 = .ok (.bipush 6, 2) := dk_16 6 (dk_at dksX4_dropBody_1 8 rfl rfl)
theorem dX4_dropBody_32 : decode cX4_dropBody 32 = .ok (.iload_n 1, 1) := dk_27 (dk_at dksX4_dropBody_1 10 rfl rfl)
theorem dX4_dropBody_33 : decode cX4_dropBody 33 = .ok (.imul, 1) := dk_104 (dk_at dksX4_dropBody_1 11 rfl rfl)
theorem dX4_dropBody_34 : decode cX4_dropBody 34 = .ok (.iload_n 2, 1) := dk_28 (dk_at dksX4_dropBody_1 12 rfl rfl)
theorem dX4_dropBody_35 : decode cX4_dropBody 35 = .ok (.iadd, 1) := dk_96 (dk_at dksX4_dropBody_1 13 rfl rfl)
theorem dX4_dropBody_36 : decode cX4_dropBody 36 = .ok (.aconst_null, 1) := dk_1 (dk_at dksX4_dropBody_1 14 rfl rfl)
theorem dX4_dropBody_37 : decode cX4_dropBody 37 = .ok (.aastore, 1) := dk_83 (dk_at dksX4_dropBody_1 15 rfl rfl)
theorem dX4_dropBody_38 : decode cX4_dropBody 38 = .ok (.aload_n 3, 1) := dk_45 (dk_at dksX4_dropBody_1 16 rfl rfl)
theorem dX4_dropBody_39 : decode cX4_dropBody 39 = .ok (.ifnonnull 7, 3) := dk_199 0 7 (dk_at dksX4_dropBody_1 17 rfl rfl)
theorem dX4_dropBody_42 : decode cX4_dropBody 42 = .ok (.iconst 0, 1) := dk_3 (dk_at dksX4_dropBody_1 20 rfl rfl)
theorem dX4_dropBody_43 : decode cX4_dropBody 43 = .ok (.goto 7, 3) := dk_167 0 7 (dk_at dksX4_dropBody_1 21 rfl rfl)
theorem dX4_dropBody_46 : decode cX4_dropBody 46 = .ok (.aload_n 3, 1) := dk_45 (dk_at dksX4_dropBody_2 0 rfl rfl)
theorem dX4_dropBody_47 : decode cX4_dropBody 47 = .ok (.getfield 90, 3) := dk_180 0 90 (dk_at dksX4_dropBody_2 1 rfl rfl)
theorem dX4_dropBody_50 : decode cX4_dropBody 50 = .ok (.ireturn, 1) := dk_172 (dk_at dksX4_dropBody_2 4 rfl rfl)
abbrev cX4_wrong : ByteArray := prog_24_method_12_code
def yX4_wrong : MethodName := ⟨RX4, "wrong", "(II)I"⟩
def dkwX4_wrong_1 : List UInt8 := [172]
abbrev dktX4_wrong_1 : List UInt8 := dkwX4_wrong_1 ++ []
def dkwX4_wrong_0 : List UInt8 := [42, 27, 182, 0, 75, 154, 0, 7, 4, 167, 0, 15, 28, 184, 0, 79, 154, 0, 7, 5, 167, 0, 4, 3]
abbrev dktX4_wrong_0 : List UInt8 := dkwX4_wrong_0 ++ dktX4_wrong_1
theorem dksX4_wrong_0 : cX4_wrong.data.toList.drop 0 = dktX4_wrong_0 := by decide +kernel
theorem dksX4_wrong_1 : cX4_wrong.data.toList.drop 24 = dktX4_wrong_1 := dk_seg dksX4_wrong_0 24 rfl rfl
theorem dX4_wrong_0 : decode cX4_wrong 0 = .ok (.aload_n 0, 1) := dk_42 (dk_at dksX4_wrong_0 0 rfl rfl)
theorem dX4_wrong_1 : decode cX4_wrong 1 = .ok (.iload_n 1, 1) := dk_27 (dk_at dksX4_wrong_0 1 rfl rfl)
theorem dX4_wrong_2 : decode cX4_wrong 2 = .ok (.invokevirtual 75, 3) := dk_182 0 75 (dk_at dksX4_wrong_0 2 rfl rfl)
theorem dX4_wrong_5 : decode cX4_wrong 5 = .ok (.ifCond .ne 7, 3) := dk_154 0 7 (dk_at dksX4_wrong_0 5 rfl rfl)
theorem dX4_wrong_8 : decode cX4_wrong 8 = .ok (.iconst 1, 1) := dk_4 (dk_at dksX4_wrong_0 8 rfl rfl)
theorem dX4_wrong_9 : decode cX4_wrong 9 = .ok (.goto 15, 3) := dk_167 0 15 (dk_at dksX4_wrong_0 9 rfl rfl)
theorem dX4_wrong_12 : decode cX4_wrong 12 = .ok (.iload_n 2, 1) := dk_28 (dk_at dksX4_wrong_0 12 rfl rfl)
theorem dX4_wrong_13 : decode cX4_wrong 13 = .ok (.invokestatic 79, 3) := dk_184 0 79 (dk_at dksX4_wrong_0 13 rfl rfl)
theorem dX4_wrong_16 : decode cX4_wrong 16 = .ok (.ifCond .ne 7, 3) := dk_154 0 7 (dk_at dksX4_wrong_0 16 rfl rfl)
theorem dX4_wrong_19 : decode cX4_wrong 19 = .ok (.iconst 2, 1) := dk_5 (dk_at dksX4_wrong_0 19 rfl rfl)
theorem dX4_wrong_20 : decode cX4_wrong 20 = .ok (.goto 4, 3) := dk_167 0 4 (dk_at dksX4_wrong_0 20 rfl rfl)
theorem dX4_wrong_23 : decode cX4_wrong 23 = .ok (.iconst 0, 1) := dk_3 (dk_at dksX4_wrong_0 23 rfl rfl)
theorem dX4_wrong_24 : decode cX4_wrong 24 = .ok (.ireturn, 1) := dk_172 (dk_at dksX4_wrong_1 0 rfl rfl)
abbrev cX4_finds : ByteArray := prog_24_method_15_code
def yX4_finds : MethodName := ⟨RX4, "finds", "(II)I"⟩
def dkwX4_finds_1 : List UInt8 := [182, 0, 107, 172]
abbrev dktX4_finds_1 : List UInt8 := dkwX4_finds_1 ++ []
def dkwX4_finds_0 : List UInt8 := [42, 42, 27, 28, 182, 0, 103, 181, 0, 51, 42, 180, 0, 51, 158, 0, 7, 3, 167, 0, 9, 42, 27, 28]
abbrev dktX4_finds_0 : List UInt8 := dkwX4_finds_0 ++ dktX4_finds_1
theorem dksX4_finds_0 : cX4_finds.data.toList.drop 0 = dktX4_finds_0 := by decide +kernel
theorem dksX4_finds_1 : cX4_finds.data.toList.drop 24 = dktX4_finds_1 := dk_seg dksX4_finds_0 24 rfl rfl
theorem dX4_finds_0 : decode cX4_finds 0 = .ok (.aload_n 0, 1) := dk_42 (dk_at dksX4_finds_0 0 rfl rfl)
theorem dX4_finds_1 : decode cX4_finds 1 = .ok (.aload_n 0, 1) := dk_42 (dk_at dksX4_finds_0 1 rfl rfl)
theorem dX4_finds_2 : decode cX4_finds 2 = .ok (.iload_n 1, 1) := dk_27 (dk_at dksX4_finds_0 2 rfl rfl)
theorem dX4_finds_3 : decode cX4_finds 3 = .ok (.iload_n 2, 1) := dk_28 (dk_at dksX4_finds_0 3 rfl rfl)
theorem dX4_finds_4 : decode cX4_finds 4 = .ok (.invokevirtual 103, 3) := dk_182 0 103 (dk_at dksX4_finds_0 4 rfl rfl)
theorem dX4_finds_7 : decode cX4_finds 7 = .ok (.putfield 51, 3) := dk_181 0 51 (dk_at dksX4_finds_0 7 rfl rfl)
theorem dX4_finds_10 : decode cX4_finds 10 = .ok (.aload_n 0, 1) := dk_42 (dk_at dksX4_finds_0 10 rfl rfl)
theorem dX4_finds_11 : decode cX4_finds 11 = .ok (.getfield 51, 3) := dk_180 0 51 (dk_at dksX4_finds_0 11 rfl rfl)
theorem dX4_finds_14 : decode cX4_finds 14 = .ok (.ifCond .le 7, 3) := dk_158 0 7 (dk_at dksX4_finds_0 14 rfl rfl)
theorem dX4_finds_17 : decode cX4_finds 17 = .ok (.iconst 0, 1) := dk_3 (dk_at dksX4_finds_0 17 rfl rfl)
theorem dX4_finds_18 : decode cX4_finds 18 = .ok (.goto 9, 3) := dk_167 0 9 (dk_at dksX4_finds_0 18 rfl rfl)
theorem dX4_finds_21 : decode cX4_finds 21 = .ok (.aload_n 0, 1) := dk_42 (dk_at dksX4_finds_0 21 rfl rfl)
theorem dX4_finds_22 : decode cX4_finds 22 = .ok (.iload_n 1, 1) := dk_27 (dk_at dksX4_finds_0 22 rfl rfl)
theorem dX4_finds_23 : decode cX4_finds 23 = .ok (.iload_n 2, 1) := dk_28 (dk_at dksX4_finds_0 23 rfl rfl)
theorem dX4_finds_24 : decode cX4_finds 24 = .ok (.invokevirtual 107, 3) := dk_182 0 107 (dk_at dksX4_finds_1 0 rfl rfl)
theorem dX4_finds_27 : decode cX4_finds 27 = .ok (.ireturn, 1) := dk_172 (dk_at dksX4_finds_1 3 rfl rfl)
abbrev cX4_found : ByteArray := prog_24_method_14_code
def yX4_found : MethodName := ⟨RX4, "found", "(II)I"⟩
def dkwX4_found_1 : List UInt8 := [167, 255, 235, 29, 172]
abbrev dktX4_found_1 : List UInt8 := dkwX4_found_1 ++ []
def dkwX4_found_0 : List UInt8 := [27, 62, 29, 2, 159, 0, 22, 42, 29, 28, 182, 0, 86, 199, 0, 13, 42, 180, 0, 15, 29, 46, 62]
abbrev dktX4_found_0 : List UInt8 := dkwX4_found_0 ++ dktX4_found_1
theorem dksX4_found_0 : cX4_found.data.toList.drop 0 = dktX4_found_0 := by decide +kernel
theorem dksX4_found_1 : cX4_found.data.toList.drop 23 = dktX4_found_1 := dk_seg dksX4_found_0 23 rfl rfl
theorem dX4_found_0 : decode cX4_found 0 = .ok (.iload_n 1, 1) := dk_27 (dk_at dksX4_found_0 0 rfl rfl)
theorem dX4_found_1 : decode cX4_found 1 = .ok (.istore_n 3, 1) := dk_62 (dk_at dksX4_found_0 1 rfl rfl)
theorem dX4_found_2 : decode cX4_found 2 = .ok (.iload_n 3, 1) := dk_29 (dk_at dksX4_found_0 2 rfl rfl)
theorem dX4_found_3 : decode cX4_found 3 = .ok (.iconst (-1), 1) := dk_2 (dk_at dksX4_found_0 3 rfl rfl)
theorem dX4_found_4 : decode cX4_found 4 = .ok (.if_icmp .eq 22, 3) := dk_159 0 22 (dk_at dksX4_found_0 4 rfl rfl)
theorem dX4_found_7 : decode cX4_found 7 = .ok (.aload_n 0, 1) := dk_42 (dk_at dksX4_found_0 7 rfl rfl)
theorem dX4_found_8 : decode cX4_found 8 = .ok (.iload_n 3, 1) := dk_29 (dk_at dksX4_found_0 8 rfl rfl)
theorem dX4_found_9 : decode cX4_found 9 = .ok (.iload_n 2, 1) := dk_28 (dk_at dksX4_found_0 9 rfl rfl)
theorem dX4_found_10 : decode cX4_found 10 = .ok (.invokevirtual 86, 3) := dk_182 0 86 (dk_at dksX4_found_0 10 rfl rfl)
theorem dX4_found_13 : decode cX4_found 13 = .ok (.ifnonnull 13, 3) := dk_199 0 13 (dk_at dksX4_found_0 13 rfl rfl)
theorem dX4_found_16 : decode cX4_found 16 = .ok (.aload_n 0, 1) := dk_42 (dk_at dksX4_found_0 16 rfl rfl)
theorem dX4_found_17 : decode cX4_found 17 = .ok (.getfield 15, 3) := dk_180 0 15 (dk_at dksX4_found_0 17 rfl rfl)
theorem dX4_found_20 : decode cX4_found 20 = .ok (.iload_n 3, 1) := dk_29 (dk_at dksX4_found_0 20 rfl rfl)
theorem dX4_found_21 : decode cX4_found 21 = .ok (.iaload, 1) := dk_46 (dk_at dksX4_found_0 21 rfl rfl)
theorem dX4_found_22 : decode cX4_found 22 = .ok (.istore_n 3, 1) := dk_62 (dk_at dksX4_found_0 22 rfl rfl)
theorem dX4_found_23 : decode cX4_found 23 = .ok (.goto (-21), 3) := dk_167 255 235 (dk_at dksX4_found_1 0 rfl rfl)
theorem dX4_found_26 : decode cX4_found 26 = .ok (.iload_n 3, 1) := dk_29 (dk_at dksX4_found_1 3 rfl rfl)
theorem dX4_found_27 : decode cX4_found 27 = .ok (.ireturn, 1) := dk_172 (dk_at dksX4_found_1 4 rfl rfl)
abbrev cX4_addPattern : ByteArray := prog_24_method_21_code
def yX4_addPattern : MethodName := ⟨RX4, "addPattern", "(CII)I"⟩
def dkwX4_addPattern_4 : List UInt8 := [180, 0, 58, 4, 96, 181, 0, 58, 42, 180, 0, 58, 4, 100, 172]
abbrev dktX4_addPattern_4 : List UInt8 := dkwX4_addPattern_4 ++ []
def dkwX4_addPattern_3 : List UInt8 := [27, 85, 42, 180, 0, 19, 42, 180, 0, 58, 28, 79, 42, 180, 0, 22, 42, 180, 0, 58, 29, 79, 42, 89]
abbrev dktX4_addPattern_3 : List UInt8 := dkwX4_addPattern_3 ++ dktX4_addPattern_4
def dkwX4_addPattern_2 : List UInt8 := [167, 0, 4, 3, 181, 0, 51, 42, 180, 0, 51, 158, 0, 5, 3, 172, 42, 180, 0, 37, 42, 180, 0, 58]
abbrev dktX4_addPattern_2 : List UInt8 := dkwX4_addPattern_2 ++ dktX4_addPattern_3
def dkwX4_addPattern_1 : List UInt8 := [28, 29, 182, 0, 139, 154, 0, 7, 5, 167, 0, 17, 42, 180, 0, 58, 16, 24, 160, 0, 7, 6]
abbrev dktX4_addPattern_1 : List UInt8 := dkwX4_addPattern_1 ++ dktX4_addPattern_2
def dkwX4_addPattern_0 : List UInt8 := [42, 18, 133, 27, 184, 0, 122, 153, 0, 11, 27, 28, 184, 0, 135, 154, 0, 7, 4, 167, 0, 31, 42, 27]
abbrev dktX4_addPattern_0 : List UInt8 := dkwX4_addPattern_0 ++ dktX4_addPattern_1
theorem dksX4_addPattern_0 : cX4_addPattern.data.toList.drop 0 = dktX4_addPattern_0 := by decide +kernel
theorem dksX4_addPattern_1 : cX4_addPattern.data.toList.drop 24 = dktX4_addPattern_1 := dk_seg dksX4_addPattern_0 24 rfl rfl
theorem dksX4_addPattern_2 : cX4_addPattern.data.toList.drop 46 = dktX4_addPattern_2 := dk_seg dksX4_addPattern_1 22 rfl rfl
theorem dksX4_addPattern_3 : cX4_addPattern.data.toList.drop 70 = dktX4_addPattern_3 := dk_seg dksX4_addPattern_2 24 rfl rfl
theorem dksX4_addPattern_4 : cX4_addPattern.data.toList.drop 94 = dktX4_addPattern_4 := dk_seg dksX4_addPattern_3 24 rfl rfl
theorem dX4_addPattern_0 : decode cX4_addPattern 0 = .ok (.aload_n 0, 1) := dk_42 (dk_at dksX4_addPattern_0 0 rfl rfl)
theorem dX4_addPattern_1 : decode cX4_addPattern 1 = .ok (.ldc 133, 2) := dk_18 133 (dk_at dksX4_addPattern_0 1 rfl rfl)
theorem dX4_addPattern_3 : decode cX4_addPattern 3 = .ok (.iload_n 1, 1) := dk_27 (dk_at dksX4_addPattern_0 3 rfl rfl)
theorem dX4_addPattern_4 : decode cX4_addPattern 4 = .ok (.invokestatic 122, 3) := dk_184 0 122 (dk_at dksX4_addPattern_0 4 rfl rfl)
theorem dX4_addPattern_7 : decode cX4_addPattern 7 = .ok (.ifCond .eq 11, 3) := dk_153 0 11 (dk_at dksX4_addPattern_0 7 rfl rfl)
theorem dX4_addPattern_10 : decode cX4_addPattern 10 = .ok (.iload_n 1, 1) := dk_27 (dk_at dksX4_addPattern_0 10 rfl rfl)
theorem dX4_addPattern_11 : decode cX4_addPattern 11 = .ok (.iload_n 2, 1) := dk_28 (dk_at dksX4_addPattern_0 11 rfl rfl)
theorem dX4_addPattern_12 : decode cX4_addPattern 12 = .ok (.invokestatic 135, 3) := dk_184 0 135 (dk_at dksX4_addPattern_0 12 rfl rfl)
theorem dX4_addPattern_15 : decode cX4_addPattern 15 = .ok (.ifCond .ne 7, 3) := dk_154 0 7 (dk_at dksX4_addPattern_0 15 rfl rfl)
theorem dX4_addPattern_18 : decode cX4_addPattern 18 = .ok (.iconst 1, 1) := dk_4 (dk_at dksX4_addPattern_0 18 rfl rfl)
theorem dX4_addPattern_19 : decode cX4_addPattern 19 = .ok (.goto 31, 3) := dk_167 0 31 (dk_at dksX4_addPattern_0 19 rfl rfl)
theorem dX4_addPattern_22 : decode cX4_addPattern 22 = .ok (.aload_n 0, 1) := dk_42 (dk_at dksX4_addPattern_0 22 rfl rfl)
theorem dX4_addPattern_23 : decode cX4_addPattern 23 = .ok (.iload_n 1, 1) := dk_27 (dk_at dksX4_addPattern_0 23 rfl rfl)
theorem dX4_addPattern_24 : decode cX4_addPattern 24 = .ok (.iload_n 2, 1) := dk_28 (dk_at dksX4_addPattern_1 0 rfl rfl)
theorem dX4_addPattern_25 : decode cX4_addPattern 25 = .ok (.iload_n 3, 1) := dk_29 (dk_at dksX4_addPattern_1 1 rfl rfl)
theorem dX4_addPattern_26 : decode cX4_addPattern 26 = .ok (.invokevirtual 139, 3) := dk_182 0 139 (dk_at dksX4_addPattern_1 2 rfl rfl)
theorem dX4_addPattern_29 : decode cX4_addPattern 29 = .ok (.ifCond .ne 7, 3) := dk_154 0 7 (dk_at dksX4_addPattern_1 5 rfl rfl)
theorem dX4_addPattern_32 : decode cX4_addPattern 32 = .ok (.iconst 2, 1) := dk_5 (dk_at dksX4_addPattern_1 8 rfl rfl)
theorem dX4_addPattern_33 : decode cX4_addPattern 33 = .ok (.goto 17, 3) := dk_167 0 17 (dk_at dksX4_addPattern_1 9 rfl rfl)
theorem dX4_addPattern_36 : decode cX4_addPattern 36 = .ok (.aload_n 0, 1) := dk_42 (dk_at dksX4_addPattern_1 12 rfl rfl)
theorem dX4_addPattern_37 : decode cX4_addPattern 37 = .ok (.getfield 58, 3) := dk_180 0 58 (dk_at dksX4_addPattern_1 13 rfl rfl)
theorem dX4_addPattern_40 : decode cX4_addPattern 40 = .ok (.bipush 24, 2) := dk_16 24 (dk_at dksX4_addPattern_1 16 rfl rfl)
theorem dX4_addPattern_42 : decode cX4_addPattern 42 = .ok (.if_icmp .ne 7, 3) := dk_160 0 7 (dk_at dksX4_addPattern_1 18 rfl rfl)
theorem dX4_addPattern_45 : decode cX4_addPattern 45 = .ok (.iconst 3, 1) := dk_6 (dk_at dksX4_addPattern_1 21 rfl rfl)
theorem dX4_addPattern_46 : decode cX4_addPattern 46 = .ok (.goto 4, 3) := dk_167 0 4 (dk_at dksX4_addPattern_2 0 rfl rfl)
theorem dX4_addPattern_49 : decode cX4_addPattern 49 = .ok (.iconst 0, 1) := dk_3 (dk_at dksX4_addPattern_2 3 rfl rfl)
theorem dX4_addPattern_50 : decode cX4_addPattern 50 = .ok (.putfield 51, 3) := dk_181 0 51 (dk_at dksX4_addPattern_2 4 rfl rfl)
theorem dX4_addPattern_53 : decode cX4_addPattern 53 = .ok (.aload_n 0, 1) := dk_42 (dk_at dksX4_addPattern_2 7 rfl rfl)
theorem dX4_addPattern_54 : decode cX4_addPattern 54 = .ok (.getfield 51, 3) := dk_180 0 51 (dk_at dksX4_addPattern_2 8 rfl rfl)
theorem dX4_addPattern_57 : decode cX4_addPattern 57 = .ok (.ifCond .le 5, 3) := dk_158 0 5 (dk_at dksX4_addPattern_2 11 rfl rfl)
theorem dX4_addPattern_60 : decode cX4_addPattern 60 = .ok (.iconst 0, 1) := dk_3 (dk_at dksX4_addPattern_2 14 rfl rfl)
theorem dX4_addPattern_61 : decode cX4_addPattern 61 = .ok (.ireturn, 1) := dk_172 (dk_at dksX4_addPattern_2 15 rfl rfl)
theorem dX4_addPattern_62 : decode cX4_addPattern 62 = .ok (.aload_n 0, 1) := dk_42 (dk_at dksX4_addPattern_2 16 rfl rfl)
theorem dX4_addPattern_63 : decode cX4_addPattern 63 = .ok (.getfield 37, 3) := dk_180 0 37 (dk_at dksX4_addPattern_2 17 rfl rfl)
theorem dX4_addPattern_66 : decode cX4_addPattern 66 = .ok (.aload_n 0, 1) := dk_42 (dk_at dksX4_addPattern_2 20 rfl rfl)
theorem dX4_addPattern_67 : decode cX4_addPattern 67 = .ok (.getfield 58, 3) := dk_180 0 58 (dk_at dksX4_addPattern_2 21 rfl rfl)
theorem dX4_addPattern_70 : decode cX4_addPattern 70 = .ok (.iload_n 1, 1) := dk_27 (dk_at dksX4_addPattern_3 0 rfl rfl)
theorem dX4_addPattern_71 : decode cX4_addPattern 71 = .ok (.castore, 1) := dk_85 (dk_at dksX4_addPattern_3 1 rfl rfl)
theorem dX4_addPattern_72 : decode cX4_addPattern 72 = .ok (.aload_n 0, 1) := dk_42 (dk_at dksX4_addPattern_3 2 rfl rfl)
theorem dX4_addPattern_73 : decode cX4_addPattern 73 = .ok (.getfield 19, 3) := dk_180 0 19 (dk_at dksX4_addPattern_3 3 rfl rfl)
theorem dX4_addPattern_76 : decode cX4_addPattern 76 = .ok (.aload_n 0, 1) := dk_42 (dk_at dksX4_addPattern_3 6 rfl rfl)
theorem dX4_addPattern_77 : decode cX4_addPattern 77 = .ok (.getfield 58, 3) := dk_180 0 58 (dk_at dksX4_addPattern_3 7 rfl rfl)
theorem dX4_addPattern_80 : decode cX4_addPattern 80 = .ok (.iload_n 2, 1) := dk_28 (dk_at dksX4_addPattern_3 10 rfl rfl)
theorem dX4_addPattern_81 : decode cX4_addPattern 81 = .ok (.iastore, 1) := dk_79 (dk_at dksX4_addPattern_3 11 rfl rfl)
theorem dX4_addPattern_82 : decode cX4_addPattern 82 = .ok (.aload_n 0, 1) := dk_42 (dk_at dksX4_addPattern_3 12 rfl rfl)
theorem dX4_addPattern_83 : decode cX4_addPattern 83 = .ok (.getfield 22, 3) := dk_180 0 22 (dk_at dksX4_addPattern_3 13 rfl rfl)
theorem dX4_addPattern_86 : decode cX4_addPattern 86 = .ok (.aload_n 0, 1) := dk_42 (dk_at dksX4_addPattern_3 16 rfl rfl)
theorem dX4_addPattern_87 : decode cX4_addPattern 87 = .ok (.getfield 58, 3) := dk_180 0 58 (dk_at dksX4_addPattern_3 17 rfl rfl)
theorem dX4_addPattern_90 : decode cX4_addPattern 90 = .ok (.iload_n 3, 1) := dk_29 (dk_at dksX4_addPattern_3 20 rfl rfl)
theorem dX4_addPattern_91 : decode cX4_addPattern 91 = .ok (.iastore, 1) := dk_79 (dk_at dksX4_addPattern_3 21 rfl rfl)
theorem dX4_addPattern_92 : decode cX4_addPattern 92 = .ok (.aload_n 0, 1) := dk_42 (dk_at dksX4_addPattern_3 22 rfl rfl)
theorem dX4_addPattern_93 : decode cX4_addPattern 93 = .ok (.dup, 1) := dk_89 (dk_at dksX4_addPattern_3 23 rfl rfl)
theorem dX4_addPattern_94 : decode cX4_addPattern 94 = .ok (.getfield 58, 3) := dk_180 0 58 (dk_at dksX4_addPattern_4 0 rfl rfl)
theorem dX4_addPattern_97 : decode cX4_addPattern 97 = .ok (.iconst 1, 1) := dk_4 (dk_at dksX4_addPattern_4 3 rfl rfl)
theorem dX4_addPattern_98 : decode cX4_addPattern 98 = .ok (.iadd, 1) := dk_96 (dk_at dksX4_addPattern_4 4 rfl rfl)
theorem dX4_addPattern_99 : decode cX4_addPattern 99 = .ok (.putfield 58, 3) := dk_181 0 58 (dk_at dksX4_addPattern_4 5 rfl rfl)
theorem dX4_addPattern_102 : decode cX4_addPattern 102 = .ok (.aload_n 0, 1) := dk_42 (dk_at dksX4_addPattern_4 8 rfl rfl)
theorem dX4_addPattern_103 : decode cX4_addPattern 103 = .ok (.getfield 58, 3) := dk_180 0 58 (dk_at dksX4_addPattern_4 9 rfl rfl)
theorem dX4_addPattern_106 : decode cX4_addPattern 106 = .ok (.iconst 1, 1) := dk_4 (dk_at dksX4_addPattern_4 12 rfl rfl)
theorem dX4_addPattern_107 : decode cX4_addPattern 107 = .ok (.isub, 1) := dk_100 (dk_at dksX4_addPattern_4 13 rfl rfl)
theorem dX4_addPattern_108 : decode cX4_addPattern 108 = .ok (.ireturn, 1) := dk_172 (dk_at dksX4_addPattern_4 14 rfl rfl)
abbrev cX4_isOneOf : ByteArray := prog_24_method_17_code
def yX4_isOneOf : MethodName := ⟨RX4, "isOneOf", "(Ljava/lang/String;C)Z"⟩
def dkwX4_isOneOf_1 : List UInt8 := [167, 255, 234, 3, 172]
abbrev dktX4_isOneOf_1 : List UInt8 := dkwX4_isOneOf_1 ++ []
def dkwX4_isOneOf_0 : List UInt8 := [3, 61, 28, 42, 182, 0, 110, 162, 0, 20, 42, 28, 182, 0, 116, 27, 160, 0, 5, 4, 172, 132, 2, 1]
abbrev dktX4_isOneOf_0 : List UInt8 := dkwX4_isOneOf_0 ++ dktX4_isOneOf_1
theorem dksX4_isOneOf_0 : cX4_isOneOf.data.toList.drop 0 = dktX4_isOneOf_0 := by decide +kernel
theorem dksX4_isOneOf_1 : cX4_isOneOf.data.toList.drop 24 = dktX4_isOneOf_1 := dk_seg dksX4_isOneOf_0 24 rfl rfl
theorem dX4_isOneOf_0 : decode cX4_isOneOf 0 = .ok (.iconst 0, 1) := dk_3 (dk_at dksX4_isOneOf_0 0 rfl rfl)
theorem dX4_isOneOf_1 : decode cX4_isOneOf 1 = .ok (.istore_n 2, 1) := dk_61 (dk_at dksX4_isOneOf_0 1 rfl rfl)
theorem dX4_isOneOf_2 : decode cX4_isOneOf 2 = .ok (.iload_n 2, 1) := dk_28 (dk_at dksX4_isOneOf_0 2 rfl rfl)
theorem dX4_isOneOf_3 : decode cX4_isOneOf 3 = .ok (.aload_n 0, 1) := dk_42 (dk_at dksX4_isOneOf_0 3 rfl rfl)
theorem dX4_isOneOf_4 : decode cX4_isOneOf 4 = .ok (.invokevirtual 110, 3) := dk_182 0 110 (dk_at dksX4_isOneOf_0 4 rfl rfl)
theorem dX4_isOneOf_7 : decode cX4_isOneOf 7 = .ok (.if_icmp .ge 20, 3) := dk_162 0 20 (dk_at dksX4_isOneOf_0 7 rfl rfl)
theorem dX4_isOneOf_10 : decode cX4_isOneOf 10 = .ok (.aload_n 0, 1) := dk_42 (dk_at dksX4_isOneOf_0 10 rfl rfl)
theorem dX4_isOneOf_11 : decode cX4_isOneOf 11 = .ok (.iload_n 2, 1) := dk_28 (dk_at dksX4_isOneOf_0 11 rfl rfl)
theorem dX4_isOneOf_12 : decode cX4_isOneOf 12 = .ok (.invokevirtual 116, 3) := dk_182 0 116 (dk_at dksX4_isOneOf_0 12 rfl rfl)
theorem dX4_isOneOf_15 : decode cX4_isOneOf 15 = .ok (.iload_n 1, 1) := dk_27 (dk_at dksX4_isOneOf_0 15 rfl rfl)
theorem dX4_isOneOf_16 : decode cX4_isOneOf 16 = .ok (.if_icmp .ne 5, 3) := dk_160 0 5 (dk_at dksX4_isOneOf_0 16 rfl rfl)
theorem dX4_isOneOf_19 : decode cX4_isOneOf 19 = .ok (.iconst 1, 1) := dk_4 (dk_at dksX4_isOneOf_0 19 rfl rfl)
theorem dX4_isOneOf_20 : decode cX4_isOneOf 20 = .ok (.ireturn, 1) := dk_172 (dk_at dksX4_isOneOf_0 20 rfl rfl)
theorem dX4_isOneOf_21 : decode cX4_isOneOf 21 = .ok (.iinc 2 1, 3) := dk_132 2 1 (dk_at dksX4_isOneOf_0 21 rfl rfl)
theorem dX4_isOneOf_24 : decode cX4_isOneOf 24 = .ok (.goto (-22), 3) := dk_167 255 234 (dk_at dksX4_isOneOf_1 0 rfl rfl)
theorem dX4_isOneOf_27 : decode cX4_isOneOf 27 = .ok (.iconst 0, 1) := dk_3 (dk_at dksX4_isOneOf_1 3 rfl rfl)
theorem dX4_isOneOf_28 : decode cX4_isOneOf 28 = .ok (.ireturn, 1) := dk_172 (dk_at dksX4_isOneOf_1 4 rfl rfl)
abbrev cX4_isPatternNumber : ByteArray := prog_24_method_19_code
def yX4_isPatternNumber : MethodName := ⟨RX4, "isPatternNumber", "(CI)Z"⟩
def dkwX4_isPatternNumber_1 : List UInt8 := [27, 16, 157, 16, 99, 184, 0, 71, 153, 0, 7, 4, 167, 0, 4, 3, 172]
abbrev dktX4_isPatternNumber_1 : List UInt8 := dkwX4_isPatternNumber_1 ++ []
def dkwX4_isPatternNumber_0 : List UInt8 := [18, 120, 26, 184, 0, 122, 153, 0, 12, 27, 3, 8, 184, 0, 71, 167, 0, 25, 26, 16, 118, 160, 0, 14]
abbrev dktX4_isPatternNumber_0 : List UInt8 := dkwX4_isPatternNumber_0 ++ dktX4_isPatternNumber_1
theorem dksX4_isPatternNumber_0 : cX4_isPatternNumber.data.toList.drop 0 = dktX4_isPatternNumber_0 := by decide +kernel
theorem dksX4_isPatternNumber_1 : cX4_isPatternNumber.data.toList.drop 24 = dktX4_isPatternNumber_1 := dk_seg dksX4_isPatternNumber_0 24 rfl rfl
theorem dX4_isPatternNumber_0 : decode cX4_isPatternNumber 0 = .ok (.ldc 120, 2) := dk_18 120 (dk_at dksX4_isPatternNumber_0 0 rfl rfl)
theorem dX4_isPatternNumber_2 : decode cX4_isPatternNumber 2 = .ok (.iload_n 0, 1) := dk_26 (dk_at dksX4_isPatternNumber_0 2 rfl rfl)
theorem dX4_isPatternNumber_3 : decode cX4_isPatternNumber 3 = .ok (.invokestatic 122, 3) := dk_184 0 122 (dk_at dksX4_isPatternNumber_0 3 rfl rfl)
theorem dX4_isPatternNumber_6 : decode cX4_isPatternNumber 6 = .ok (.ifCond .eq 12, 3) := dk_153 0 12 (dk_at dksX4_isPatternNumber_0 6 rfl rfl)
theorem dX4_isPatternNumber_9 : decode cX4_isPatternNumber 9 = .ok (.iload_n 1, 1) := dk_27 (dk_at dksX4_isPatternNumber_0 9 rfl rfl)
theorem dX4_isPatternNumber_10 : decode cX4_isPatternNumber 10 = .ok (.iconst 0, 1) := dk_3 (dk_at dksX4_isPatternNumber_0 10 rfl rfl)
theorem dX4_isPatternNumber_11 : decode cX4_isPatternNumber 11 = .ok (.iconst 5, 1) := dk_8 (dk_at dksX4_isPatternNumber_0 11 rfl rfl)
theorem dX4_isPatternNumber_12 : decode cX4_isPatternNumber 12 = .ok (.invokestatic 71, 3) := dk_184 0 71 (dk_at dksX4_isPatternNumber_0 12 rfl rfl)
theorem dX4_isPatternNumber_15 : decode cX4_isPatternNumber 15 = .ok (.goto 25, 3) := dk_167 0 25 (dk_at dksX4_isPatternNumber_0 15 rfl rfl)
theorem dX4_isPatternNumber_18 : decode cX4_isPatternNumber 18 = .ok (.iload_n 0, 1) := dk_26 (dk_at dksX4_isPatternNumber_0 18 rfl rfl)
theorem dX4_isPatternNumber_19 : decode cX4_isPatternNumber 19 = .ok (.bipush 118, 2) := dk_16 118 (dk_at dksX4_isPatternNumber_0 19 rfl rfl)
theorem dX4_isPatternNumber_21 : decode cX4_isPatternNumber 21 = .ok (.if_icmp .ne 14, 3) := dk_160 0 14 (dk_at dksX4_isPatternNumber_0 21 rfl rfl)
theorem dX4_isPatternNumber_24 : decode cX4_isPatternNumber 24 = .ok (.iload_n 1, 1) := dk_27 (dk_at dksX4_isPatternNumber_1 0 rfl rfl)
theorem dX4_isPatternNumber_25 : decode cX4_isPatternNumber 25 = .ok (.bipush (-99), 2) := dk_16 157 (dk_at dksX4_isPatternNumber_1 1 rfl rfl)
theorem dX4_isPatternNumber_27 : decode cX4_isPatternNumber 27 = .ok (.bipush 99, 2) := dk_16 99 (dk_at dksX4_isPatternNumber_1 3 rfl rfl)
theorem dX4_isPatternNumber_29 : decode cX4_isPatternNumber 29 = .ok (.invokestatic 71, 3) := dk_184 0 71 (dk_at dksX4_isPatternNumber_1 5 rfl rfl)
theorem dX4_isPatternNumber_32 : decode cX4_isPatternNumber 32 = .ok (.ifCond .eq 7, 3) := dk_153 0 7 (dk_at dksX4_isPatternNumber_1 8 rfl rfl)
theorem dX4_isPatternNumber_35 : decode cX4_isPatternNumber 35 = .ok (.iconst 1, 1) := dk_4 (dk_at dksX4_isPatternNumber_1 11 rfl rfl)
theorem dX4_isPatternNumber_36 : decode cX4_isPatternNumber 36 = .ok (.goto 4, 3) := dk_167 0 4 (dk_at dksX4_isPatternNumber_1 12 rfl rfl)
theorem dX4_isPatternNumber_39 : decode cX4_isPatternNumber 39 = .ok (.iconst 0, 1) := dk_3 (dk_at dksX4_isPatternNumber_1 15 rfl rfl)
theorem dX4_isPatternNumber_40 : decode cX4_isPatternNumber 40 = .ok (.ireturn, 1) := dk_172 (dk_at dksX4_isPatternNumber_1 16 rfl rfl)
abbrev cX4_arePatterns : ByteArray := prog_24_method_20_code
def yX4_arePatterns : MethodName := ⟨RX4, "arePatterns", "(CII)Z"⟩
def dkwX4_arePatterns_1 : List UInt8 := [153, 0, 11, 42, 29, 182, 0, 128, 153, 0, 7, 4, 167, 0, 4, 3, 172]
abbrev dktX4_arePatterns_1 : List UInt8 := dkwX4_arePatterns_1 ++ []
def dkwX4_arePatterns_0 : List UInt8 := [18, 126, 27, 184, 0, 122, 153, 0, 11, 42, 28, 182, 0, 128, 153, 0, 24, 18, 131, 27, 184, 0, 122]
abbrev dktX4_arePatterns_0 : List UInt8 := dkwX4_arePatterns_0 ++ dktX4_arePatterns_1
theorem dksX4_arePatterns_0 : cX4_arePatterns.data.toList.drop 0 = dktX4_arePatterns_0 := by decide +kernel
theorem dksX4_arePatterns_1 : cX4_arePatterns.data.toList.drop 23 = dktX4_arePatterns_1 := dk_seg dksX4_arePatterns_0 23 rfl rfl
theorem dX4_arePatterns_0 : decode cX4_arePatterns 0 = .ok (.ldc 126, 2) := dk_18 126 (dk_at dksX4_arePatterns_0 0 rfl rfl)
theorem dX4_arePatterns_2 : decode cX4_arePatterns 2 = .ok (.iload_n 1, 1) := dk_27 (dk_at dksX4_arePatterns_0 2 rfl rfl)
theorem dX4_arePatterns_3 : decode cX4_arePatterns 3 = .ok (.invokestatic 122, 3) := dk_184 0 122 (dk_at dksX4_arePatterns_0 3 rfl rfl)
theorem dX4_arePatterns_6 : decode cX4_arePatterns 6 = .ok (.ifCond .eq 11, 3) := dk_153 0 11 (dk_at dksX4_arePatterns_0 6 rfl rfl)
theorem dX4_arePatterns_9 : decode cX4_arePatterns 9 = .ok (.aload_n 0, 1) := dk_42 (dk_at dksX4_arePatterns_0 9 rfl rfl)
theorem dX4_arePatterns_10 : decode cX4_arePatterns 10 = .ok (.iload_n 2, 1) := dk_28 (dk_at dksX4_arePatterns_0 10 rfl rfl)
theorem dX4_arePatterns_11 : decode cX4_arePatterns 11 = .ok (.invokevirtual 128, 3) := dk_182 0 128 (dk_at dksX4_arePatterns_0 11 rfl rfl)
theorem dX4_arePatterns_14 : decode cX4_arePatterns 14 = .ok (.ifCond .eq 24, 3) := dk_153 0 24 (dk_at dksX4_arePatterns_0 14 rfl rfl)
theorem dX4_arePatterns_17 : decode cX4_arePatterns 17 = .ok (.ldc 131, 2) := dk_18 131 (dk_at dksX4_arePatterns_0 17 rfl rfl)
theorem dX4_arePatterns_19 : decode cX4_arePatterns 19 = .ok (.iload_n 1, 1) := dk_27 (dk_at dksX4_arePatterns_0 19 rfl rfl)
theorem dX4_arePatterns_20 : decode cX4_arePatterns 20 = .ok (.invokestatic 122, 3) := dk_184 0 122 (dk_at dksX4_arePatterns_0 20 rfl rfl)
theorem dX4_arePatterns_23 : decode cX4_arePatterns 23 = .ok (.ifCond .eq 11, 3) := dk_153 0 11 (dk_at dksX4_arePatterns_1 0 rfl rfl)
theorem dX4_arePatterns_26 : decode cX4_arePatterns 26 = .ok (.aload_n 0, 1) := dk_42 (dk_at dksX4_arePatterns_1 3 rfl rfl)
theorem dX4_arePatterns_27 : decode cX4_arePatterns 27 = .ok (.iload_n 3, 1) := dk_29 (dk_at dksX4_arePatterns_1 4 rfl rfl)
theorem dX4_arePatterns_28 : decode cX4_arePatterns 28 = .ok (.invokevirtual 128, 3) := dk_182 0 128 (dk_at dksX4_arePatterns_1 5 rfl rfl)
theorem dX4_arePatterns_31 : decode cX4_arePatterns 31 = .ok (.ifCond .eq 7, 3) := dk_153 0 7 (dk_at dksX4_arePatterns_1 8 rfl rfl)
theorem dX4_arePatterns_34 : decode cX4_arePatterns 34 = .ok (.iconst 1, 1) := dk_4 (dk_at dksX4_arePatterns_1 11 rfl rfl)
theorem dX4_arePatterns_35 : decode cX4_arePatterns 35 = .ok (.goto 4, 3) := dk_167 0 4 (dk_at dksX4_arePatterns_1 12 rfl rfl)
theorem dX4_arePatterns_38 : decode cX4_arePatterns 38 = .ok (.iconst 0, 1) := dk_3 (dk_at dksX4_arePatterns_1 15 rfl rfl)
theorem dX4_arePatterns_39 : decode cX4_arePatterns 39 = .ok (.ireturn, 1) := dk_172 (dk_at dksX4_arePatterns_1 16 rfl rfl)
abbrev cX4_isPattern : ByteArray := prog_24_method_18_code
def yX4_isPattern : MethodName := ⟨RX4, "isPattern", "(I)Z"⟩
def dkwX4_isPattern_0 : List UInt8 := [27, 3, 42, 180, 0, 58, 4, 100, 184, 0, 71, 172]
abbrev dktX4_isPattern_0 : List UInt8 := dkwX4_isPattern_0 ++ []
theorem dksX4_isPattern_0 : cX4_isPattern.data.toList.drop 0 = dktX4_isPattern_0 := by decide +kernel
theorem dX4_isPattern_0 : decode cX4_isPattern 0 = .ok (.iload_n 1, 1) := dk_27 (dk_at dksX4_isPattern_0 0 rfl rfl)
theorem dX4_isPattern_1 : decode cX4_isPattern 1 = .ok (.iconst 0, 1) := dk_3 (dk_at dksX4_isPattern_0 1 rfl rfl)
theorem dX4_isPattern_2 : decode cX4_isPattern 2 = .ok (.aload_n 0, 1) := dk_42 (dk_at dksX4_isPattern_0 2 rfl rfl)
theorem dX4_isPattern_3 : decode cX4_isPattern 3 = .ok (.getfield 58, 3) := dk_180 0 58 (dk_at dksX4_isPattern_0 3 rfl rfl)
theorem dX4_isPattern_6 : decode cX4_isPattern 6 = .ok (.iconst 1, 1) := dk_4 (dk_at dksX4_isPattern_0 6 rfl rfl)
theorem dX4_isPattern_7 : decode cX4_isPattern 7 = .ok (.isub, 1) := dk_100 (dk_at dksX4_isPattern_0 7 rfl rfl)
theorem dX4_isPattern_8 : decode cX4_isPattern 8 = .ok (.invokestatic 71, 3) := dk_184 0 71 (dk_at dksX4_isPattern_0 8 rfl rfl)
theorem dX4_isPattern_11 : decode cX4_isPattern 11 = .ok (.ireturn, 1) := dk_172 (dk_at dksX4_isPattern_0 11 rfl rfl)
abbrev cX4_addAdvice : ByteArray := prog_24_method_23_code
def yX4_addAdvice : MethodName := ⟨RX4, "addAdvice", "(ICIII)I"⟩
def dkwX4_addAdvice_6 : List UInt8 := [180, 0, 61, 4, 84, 42, 89, 180, 0, 61, 4, 96, 181, 0, 61, 42, 180, 0, 61, 4, 100, 172]
abbrev dktX4_addAdvice_6 : List UInt8 := dkwX4_addAdvice_6 ++ []
def dkwX4_addAdvice_5 : List UInt8 := [180, 0, 61, 21, 4, 79, 42, 180, 0, 34, 42, 180, 0, 61, 21, 5, 79, 42, 180, 0, 44, 42]
abbrev dktX4_addAdvice_5 : List UInt8 := dkwX4_addAdvice_5 ++ dktX4_addAdvice_6
def dkwX4_addAdvice_4 : List UInt8 := [180, 0, 41, 42, 180, 0, 61, 28, 85, 42, 180, 0, 28, 42, 180, 0, 61, 29, 79, 42, 180, 0, 31, 42]
abbrev dktX4_addAdvice_4 : List UInt8 := dkwX4_addAdvice_4 ++ dktX4_addAdvice_5
def dkwX4_addAdvice_3 : List UInt8 := [181, 0, 51, 42, 180, 0, 51, 158, 0, 5, 3, 172, 42, 180, 0, 25, 42, 180, 0, 61, 27, 79, 42]
abbrev dktX4_addAdvice_3 : List UInt8 := dkwX4_addAdvice_3 ++ dktX4_addAdvice_4
def dkwX4_addAdvice_2 : List UInt8 := [182, 0, 128, 154, 0, 7, 5, 167, 0, 17, 42, 180, 0, 61, 16, 12, 160, 0, 7, 6, 167, 0, 4, 3]
abbrev dktX4_addAdvice_2 : List UInt8 := dkwX4_addAdvice_2 ++ dktX4_addAdvice_3
def dkwX4_addAdvice_1 : List UInt8 := [184, 0, 71, 153, 0, 13, 21, 5, 3, 5, 184, 0, 71, 154, 0, 7, 4, 167, 0, 29, 42, 29]
abbrev dktX4_addAdvice_1 : List UInt8 := dkwX4_addAdvice_1 ++ dktX4_addAdvice_2
def dkwX4_addAdvice_0 : List UInt8 := [42, 27, 184, 0, 142, 153, 0, 34, 18, 145, 28, 184, 0, 122, 153, 0, 25, 21, 4, 16, 157, 16, 99]
abbrev dktX4_addAdvice_0 : List UInt8 := dkwX4_addAdvice_0 ++ dktX4_addAdvice_1
theorem dksX4_addAdvice_0 : cX4_addAdvice.data.toList.drop 0 = dktX4_addAdvice_0 := by decide +kernel
theorem dksX4_addAdvice_1 : cX4_addAdvice.data.toList.drop 23 = dktX4_addAdvice_1 := dk_seg dksX4_addAdvice_0 23 rfl rfl
theorem dksX4_addAdvice_2 : cX4_addAdvice.data.toList.drop 45 = dktX4_addAdvice_2 := dk_seg dksX4_addAdvice_1 22 rfl rfl
theorem dksX4_addAdvice_3 : cX4_addAdvice.data.toList.drop 69 = dktX4_addAdvice_3 := dk_seg dksX4_addAdvice_2 24 rfl rfl
theorem dksX4_addAdvice_4 : cX4_addAdvice.data.toList.drop 92 = dktX4_addAdvice_4 := dk_seg dksX4_addAdvice_3 23 rfl rfl
theorem dksX4_addAdvice_5 : cX4_addAdvice.data.toList.drop 116 = dktX4_addAdvice_5 := dk_seg dksX4_addAdvice_4 24 rfl rfl
theorem dksX4_addAdvice_6 : cX4_addAdvice.data.toList.drop 138 = dktX4_addAdvice_6 := dk_seg dksX4_addAdvice_5 22 rfl rfl
theorem dX4_addAdvice_0 : decode cX4_addAdvice 0 = .ok (.aload_n 0, 1) := dk_42 (dk_at dksX4_addAdvice_0 0 rfl rfl)
theorem dX4_addAdvice_1 : decode cX4_addAdvice 1 = .ok (.iload_n 1, 1) := dk_27 (dk_at dksX4_addAdvice_0 1 rfl rfl)
theorem dX4_addAdvice_2 : decode cX4_addAdvice 2 = .ok (.invokestatic 142, 3) := dk_184 0 142 (dk_at dksX4_addAdvice_0 2 rfl rfl)
theorem dX4_addAdvice_5 : decode cX4_addAdvice 5 = .ok (.ifCond .eq 34, 3) := dk_153 0 34 (dk_at dksX4_addAdvice_0 5 rfl rfl)
theorem dX4_addAdvice_8 : decode cX4_addAdvice 8 = .ok (.ldc 145, 2) := dk_18 145 (dk_at dksX4_addAdvice_0 8 rfl rfl)
theorem dX4_addAdvice_10 : decode cX4_addAdvice 10 = .ok (.iload_n 2, 1) := dk_28 (dk_at dksX4_addAdvice_0 10 rfl rfl)
theorem dX4_addAdvice_11 : decode cX4_addAdvice 11 = .ok (.invokestatic 122, 3) := dk_184 0 122 (dk_at dksX4_addAdvice_0 11 rfl rfl)
theorem dX4_addAdvice_14 : decode cX4_addAdvice 14 = .ok (.ifCond .eq 25, 3) := dk_153 0 25 (dk_at dksX4_addAdvice_0 14 rfl rfl)
theorem dX4_addAdvice_17 : decode cX4_addAdvice 17 = .ok (.iload 4, 2) := dk_21 4 (dk_at dksX4_addAdvice_0 17 rfl rfl)
theorem dX4_addAdvice_19 : decode cX4_addAdvice 19 = .ok (.bipush (-99), 2) := dk_16 157 (dk_at dksX4_addAdvice_0 19 rfl rfl)
theorem dX4_addAdvice_21 : decode cX4_addAdvice 21 = .ok (.bipush 99, 2) := dk_16 99 (dk_at dksX4_addAdvice_0 21 rfl rfl)
theorem dX4_addAdvice_23 : decode cX4_addAdvice 23 = .ok (.invokestatic 71, 3) := dk_184 0 71 (dk_at dksX4_addAdvice_1 0 rfl rfl)
theorem dX4_addAdvice_26 : decode cX4_addAdvice 26 = .ok (.ifCond .eq 13, 3) := dk_153 0 13 (dk_at dksX4_addAdvice_1 3 rfl rfl)
theorem dX4_addAdvice_29 : decode cX4_addAdvice 29 = .ok (.iload 5, 2) := dk_21 5 (dk_at dksX4_addAdvice_1 6 rfl rfl)
theorem dX4_addAdvice_31 : decode cX4_addAdvice 31 = .ok (.iconst 0, 1) := dk_3 (dk_at dksX4_addAdvice_1 8 rfl rfl)
theorem dX4_addAdvice_32 : decode cX4_addAdvice 32 = .ok (.iconst 2, 1) := dk_5 (dk_at dksX4_addAdvice_1 9 rfl rfl)
theorem dX4_addAdvice_33 : decode cX4_addAdvice 33 = .ok (.invokestatic 71, 3) := dk_184 0 71 (dk_at dksX4_addAdvice_1 10 rfl rfl)
theorem dX4_addAdvice_36 : decode cX4_addAdvice 36 = .ok (.ifCond .ne 7, 3) := dk_154 0 7 (dk_at dksX4_addAdvice_1 13 rfl rfl)
theorem dX4_addAdvice_39 : decode cX4_addAdvice 39 = .ok (.iconst 1, 1) := dk_4 (dk_at dksX4_addAdvice_1 16 rfl rfl)
theorem dX4_addAdvice_40 : decode cX4_addAdvice 40 = .ok (.goto 29, 3) := dk_167 0 29 (dk_at dksX4_addAdvice_1 17 rfl rfl)
theorem dX4_addAdvice_43 : decode cX4_addAdvice 43 = .ok (.aload_n 0, 1) := dk_42 (dk_at dksX4_addAdvice_1 20 rfl rfl)
theorem dX4_addAdvice_44 : decode cX4_addAdvice 44 = .ok (.iload_n 3, 1) := dk_29 (dk_at dksX4_addAdvice_1 21 rfl rfl)
theorem dX4_addAdvice_45 : decode cX4_addAdvice 45 = .ok (.invokevirtual 128, 3) := dk_182 0 128 (dk_at dksX4_addAdvice_2 0 rfl rfl)
theorem dX4_addAdvice_48 : decode cX4_addAdvice 48 = .ok (.ifCond .ne 7, 3) := dk_154 0 7 (dk_at dksX4_addAdvice_2 3 rfl rfl)
theorem dX4_addAdvice_51 : decode cX4_addAdvice 51 = .ok (.iconst 2, 1) := dk_5 (dk_at dksX4_addAdvice_2 6 rfl rfl)
theorem dX4_addAdvice_52 : decode cX4_addAdvice 52 = .ok (.goto 17, 3) := dk_167 0 17 (dk_at dksX4_addAdvice_2 7 rfl rfl)
theorem dX4_addAdvice_55 : decode cX4_addAdvice 55 = .ok (.aload_n 0, 1) := dk_42 (dk_at dksX4_addAdvice_2 10 rfl rfl)
theorem dX4_addAdvice_56 : decode cX4_addAdvice 56 = .ok (.getfield 61, 3) := dk_180 0 61 (dk_at dksX4_addAdvice_2 11 rfl rfl)
theorem dX4_addAdvice_59 : decode cX4_addAdvice 59 = .ok (.bipush 12, 2) := dk_16 12 (dk_at dksX4_addAdvice_2 14 rfl rfl)
theorem dX4_addAdvice_61 : decode cX4_addAdvice 61 = .ok (.if_icmp .ne 7, 3) := dk_160 0 7 (dk_at dksX4_addAdvice_2 16 rfl rfl)
theorem dX4_addAdvice_64 : decode cX4_addAdvice 64 = .ok (.iconst 3, 1) := dk_6 (dk_at dksX4_addAdvice_2 19 rfl rfl)
theorem dX4_addAdvice_65 : decode cX4_addAdvice 65 = .ok (.goto 4, 3) := dk_167 0 4 (dk_at dksX4_addAdvice_2 20 rfl rfl)
theorem dX4_addAdvice_68 : decode cX4_addAdvice 68 = .ok (.iconst 0, 1) := dk_3 (dk_at dksX4_addAdvice_2 23 rfl rfl)
theorem dX4_addAdvice_69 : decode cX4_addAdvice 69 = .ok (.putfield 51, 3) := dk_181 0 51 (dk_at dksX4_addAdvice_3 0 rfl rfl)
theorem dX4_addAdvice_72 : decode cX4_addAdvice 72 = .ok (.aload_n 0, 1) := dk_42 (dk_at dksX4_addAdvice_3 3 rfl rfl)
theorem dX4_addAdvice_73 : decode cX4_addAdvice 73 = .ok (.getfield 51, 3) := dk_180 0 51 (dk_at dksX4_addAdvice_3 4 rfl rfl)
theorem dX4_addAdvice_76 : decode cX4_addAdvice 76 = .ok (.ifCond .le 5, 3) := dk_158 0 5 (dk_at dksX4_addAdvice_3 7 rfl rfl)
theorem dX4_addAdvice_79 : decode cX4_addAdvice 79 = .ok (.iconst 0, 1) := dk_3 (dk_at dksX4_addAdvice_3 10 rfl rfl)
theorem dX4_addAdvice_80 : decode cX4_addAdvice 80 = .ok (.ireturn, 1) := dk_172 (dk_at dksX4_addAdvice_3 11 rfl rfl)
theorem dX4_addAdvice_81 : decode cX4_addAdvice 81 = .ok (.aload_n 0, 1) := dk_42 (dk_at dksX4_addAdvice_3 12 rfl rfl)
theorem dX4_addAdvice_82 : decode cX4_addAdvice 82 = .ok (.getfield 25, 3) := dk_180 0 25 (dk_at dksX4_addAdvice_3 13 rfl rfl)
theorem dX4_addAdvice_85 : decode cX4_addAdvice 85 = .ok (.aload_n 0, 1) := dk_42 (dk_at dksX4_addAdvice_3 16 rfl rfl)
theorem dX4_addAdvice_86 : decode cX4_addAdvice 86 = .ok (.getfield 61, 3) := dk_180 0 61 (dk_at dksX4_addAdvice_3 17 rfl rfl)
theorem dX4_addAdvice_89 : decode cX4_addAdvice 89 = .ok (.iload_n 1, 1) := dk_27 (dk_at dksX4_addAdvice_3 20 rfl rfl)
theorem dX4_addAdvice_90 : decode cX4_addAdvice 90 = .ok (.iastore, 1) := dk_79 (dk_at dksX4_addAdvice_3 21 rfl rfl)
theorem dX4_addAdvice_91 : decode cX4_addAdvice 91 = .ok (.aload_n 0, 1) := dk_42 (dk_at dksX4_addAdvice_3 22 rfl rfl)
theorem dX4_addAdvice_92 : decode cX4_addAdvice 92 = .ok (.getfield 41, 3) := dk_180 0 41 (dk_at dksX4_addAdvice_4 0 rfl rfl)
theorem dX4_addAdvice_95 : decode cX4_addAdvice 95 = .ok (.aload_n 0, 1) := dk_42 (dk_at dksX4_addAdvice_4 3 rfl rfl)
theorem dX4_addAdvice_96 : decode cX4_addAdvice 96 = .ok (.getfield 61, 3) := dk_180 0 61 (dk_at dksX4_addAdvice_4 4 rfl rfl)
theorem dX4_addAdvice_99 : decode cX4_addAdvice 99 = .ok (.iload_n 2, 1) := dk_28 (dk_at dksX4_addAdvice_4 7 rfl rfl)
theorem dX4_addAdvice_100 : decode cX4_addAdvice 100 = .ok (.castore, 1) := dk_85 (dk_at dksX4_addAdvice_4 8 rfl rfl)
theorem dX4_addAdvice_101 : decode cX4_addAdvice 101 = .ok (.aload_n 0, 1) := dk_42 (dk_at dksX4_addAdvice_4 9 rfl rfl)
theorem dX4_addAdvice_102 : decode cX4_addAdvice 102 = .ok (.getfield 28, 3) := dk_180 0 28 (dk_at dksX4_addAdvice_4 10 rfl rfl)
theorem dX4_addAdvice_105 : decode cX4_addAdvice 105 = .ok (.aload_n 0, 1) := dk_42 (dk_at dksX4_addAdvice_4 13 rfl rfl)
theorem dX4_addAdvice_106 : decode cX4_addAdvice 106 = .ok (.getfield 61, 3) := dk_180 0 61 (dk_at dksX4_addAdvice_4 14 rfl rfl)
theorem dX4_addAdvice_109 : decode cX4_addAdvice 109 = .ok (.iload_n 3, 1) := dk_29 (dk_at dksX4_addAdvice_4 17 rfl rfl)
theorem dX4_addAdvice_110 : decode cX4_addAdvice 110 = .ok (.iastore, 1) := dk_79 (dk_at dksX4_addAdvice_4 18 rfl rfl)
theorem dX4_addAdvice_111 : decode cX4_addAdvice 111 = .ok (.aload_n 0, 1) := dk_42 (dk_at dksX4_addAdvice_4 19 rfl rfl)
theorem dX4_addAdvice_112 : decode cX4_addAdvice 112 = .ok (.getfield 31, 3) := dk_180 0 31 (dk_at dksX4_addAdvice_4 20 rfl rfl)
theorem dX4_addAdvice_115 : decode cX4_addAdvice 115 = .ok (.aload_n 0, 1) := dk_42 (dk_at dksX4_addAdvice_4 23 rfl rfl)
theorem dX4_addAdvice_116 : decode cX4_addAdvice 116 = .ok (.getfield 61, 3) := dk_180 0 61 (dk_at dksX4_addAdvice_5 0 rfl rfl)
theorem dX4_addAdvice_119 : decode cX4_addAdvice 119 = .ok (.iload 4, 2) := dk_21 4 (dk_at dksX4_addAdvice_5 3 rfl rfl)
theorem dX4_addAdvice_121 : decode cX4_addAdvice 121 = .ok (.iastore, 1) := dk_79 (dk_at dksX4_addAdvice_5 5 rfl rfl)
theorem dX4_addAdvice_122 : decode cX4_addAdvice 122 = .ok (.aload_n 0, 1) := dk_42 (dk_at dksX4_addAdvice_5 6 rfl rfl)
theorem dX4_addAdvice_123 : decode cX4_addAdvice 123 = .ok (.getfield 34, 3) := dk_180 0 34 (dk_at dksX4_addAdvice_5 7 rfl rfl)
theorem dX4_addAdvice_126 : decode cX4_addAdvice 126 = .ok (.aload_n 0, 1) := dk_42 (dk_at dksX4_addAdvice_5 10 rfl rfl)
theorem dX4_addAdvice_127 : decode cX4_addAdvice 127 = .ok (.getfield 61, 3) := dk_180 0 61 (dk_at dksX4_addAdvice_5 11 rfl rfl)
theorem dX4_addAdvice_130 : decode cX4_addAdvice 130 = .ok (.iload 5, 2) := dk_21 5 (dk_at dksX4_addAdvice_5 14 rfl rfl)
theorem dX4_addAdvice_132 : decode cX4_addAdvice 132 = .ok (.iastore, 1) := dk_79 (dk_at dksX4_addAdvice_5 16 rfl rfl)
theorem dX4_addAdvice_133 : decode cX4_addAdvice 133 = .ok (.aload_n 0, 1) := dk_42 (dk_at dksX4_addAdvice_5 17 rfl rfl)
theorem dX4_addAdvice_134 : decode cX4_addAdvice 134 = .ok (.getfield 44, 3) := dk_180 0 44 (dk_at dksX4_addAdvice_5 18 rfl rfl)
theorem dX4_addAdvice_137 : decode cX4_addAdvice 137 = .ok (.aload_n 0, 1) := dk_42 (dk_at dksX4_addAdvice_5 21 rfl rfl)
theorem dX4_addAdvice_138 : decode cX4_addAdvice 138 = .ok (.getfield 61, 3) := dk_180 0 61 (dk_at dksX4_addAdvice_6 0 rfl rfl)
theorem dX4_addAdvice_141 : decode cX4_addAdvice 141 = .ok (.iconst 1, 1) := dk_4 (dk_at dksX4_addAdvice_6 3 rfl rfl)
theorem dX4_addAdvice_142 : decode cX4_addAdvice 142 = .ok (.bastore, 1) := dk_84 (dk_at dksX4_addAdvice_6 4 rfl rfl)
theorem dX4_addAdvice_143 : decode cX4_addAdvice 143 = .ok (.aload_n 0, 1) := dk_42 (dk_at dksX4_addAdvice_6 5 rfl rfl)
theorem dX4_addAdvice_144 : decode cX4_addAdvice 144 = .ok (.dup, 1) := dk_89 (dk_at dksX4_addAdvice_6 6 rfl rfl)
theorem dX4_addAdvice_145 : decode cX4_addAdvice 145 = .ok (.getfield 61, 3) := dk_180 0 61 (dk_at dksX4_addAdvice_6 7 rfl rfl)
theorem dX4_addAdvice_148 : decode cX4_addAdvice 148 = .ok (.iconst 1, 1) := dk_4 (dk_at dksX4_addAdvice_6 10 rfl rfl)
theorem dX4_addAdvice_149 : decode cX4_addAdvice 149 = .ok (.iadd, 1) := dk_96 (dk_at dksX4_addAdvice_6 11 rfl rfl)
theorem dX4_addAdvice_150 : decode cX4_addAdvice 150 = .ok (.putfield 61, 3) := dk_181 0 61 (dk_at dksX4_addAdvice_6 12 rfl rfl)
theorem dX4_addAdvice_153 : decode cX4_addAdvice 153 = .ok (.aload_n 0, 1) := dk_42 (dk_at dksX4_addAdvice_6 15 rfl rfl)
theorem dX4_addAdvice_154 : decode cX4_addAdvice 154 = .ok (.getfield 61, 3) := dk_180 0 61 (dk_at dksX4_addAdvice_6 16 rfl rfl)
theorem dX4_addAdvice_157 : decode cX4_addAdvice 157 = .ok (.iconst 1, 1) := dk_4 (dk_at dksX4_addAdvice_6 19 rfl rfl)
theorem dX4_addAdvice_158 : decode cX4_addAdvice 158 = .ok (.isub, 1) := dk_100 (dk_at dksX4_addAdvice_6 20 rfl rfl)
theorem dX4_addAdvice_159 : decode cX4_addAdvice 159 = .ok (.ireturn, 1) := dk_172 (dk_at dksX4_addAdvice_6 21 rfl rfl)
abbrev cX4_isAspect : ByteArray := prog_24_method_22_code
def yX4_isAspect : MethodName := ⟨RX4, "isAspect", "(I)Z"⟩
def dkwX4_isAspect_0 : List UInt8 := [26, 3, 6, 184, 0, 71, 172]
abbrev dktX4_isAspect_0 : List UInt8 := dkwX4_isAspect_0 ++ []
theorem dksX4_isAspect_0 : cX4_isAspect.data.toList.drop 0 = dktX4_isAspect_0 := by decide +kernel
theorem dX4_isAspect_0 : decode cX4_isAspect 0 = .ok (.iload_n 0, 1) := dk_26 (dk_at dksX4_isAspect_0 0 rfl rfl)
theorem dX4_isAspect_1 : decode cX4_isAspect 1 = .ok (.iconst 0, 1) := dk_3 (dk_at dksX4_isAspect_0 1 rfl rfl)
theorem dX4_isAspect_2 : decode cX4_isAspect 2 = .ok (.iconst 3, 1) := dk_6 (dk_at dksX4_isAspect_0 2 rfl rfl)
theorem dX4_isAspect_3 : decode cX4_isAspect 3 = .ok (.invokestatic 71, 3) := dk_184 0 71 (dk_at dksX4_isAspect_0 3 rfl rfl)
theorem dX4_isAspect_6 : decode cX4_isAspect 6 = .ok (.ireturn, 1) := dk_172 (dk_at dksX4_isAspect_0 6 rfl rfl)
abbrev cX4_turn : ByteArray := prog_24_method_25_code
def yX4_turn : MethodName := ⟨RX4, "turn", "(IZ)Z"⟩
def dkwX4_turn_1 : List UInt8 := [180, 0, 44, 27, 28, 84, 29, 172]
abbrev dktX4_turn_1 : List UInt8 := dkwX4_turn_1 ++ []
def dkwX4_turn_0 : List UInt8 := [42, 42, 27, 182, 0, 147, 182, 0, 150, 158, 0, 5, 3, 172, 42, 180, 0, 44, 27, 51, 62, 42]
abbrev dktX4_turn_0 : List UInt8 := dkwX4_turn_0 ++ dktX4_turn_1
theorem dksX4_turn_0 : cX4_turn.data.toList.drop 0 = dktX4_turn_0 := by decide +kernel
theorem dksX4_turn_1 : cX4_turn.data.toList.drop 22 = dktX4_turn_1 := dk_seg dksX4_turn_0 22 rfl rfl
theorem dX4_turn_0 : decode cX4_turn 0 = .ok (.aload_n 0, 1) := dk_42 (dk_at dksX4_turn_0 0 rfl rfl)
theorem dX4_turn_1 : decode cX4_turn 1 = .ok (.aload_n 0, 1) := dk_42 (dk_at dksX4_turn_0 1 rfl rfl)
theorem dX4_turn_2 : decode cX4_turn 2 = .ok (.iload_n 1, 1) := dk_27 (dk_at dksX4_turn_0 2 rfl rfl)
theorem dX4_turn_3 : decode cX4_turn 3 = .ok (.invokevirtual 147, 3) := dk_182 0 147 (dk_at dksX4_turn_0 3 rfl rfl)
theorem dX4_turn_6 : decode cX4_turn 6 = .ok (.invokevirtual 150, 3) := dk_182 0 150 (dk_at dksX4_turn_0 6 rfl rfl)
theorem dX4_turn_9 : decode cX4_turn 9 = .ok (.ifCond .le 5, 3) := dk_158 0 5 (dk_at dksX4_turn_0 9 rfl rfl)
theorem dX4_turn_12 : decode cX4_turn 12 = .ok (.iconst 0, 1) := dk_3 (dk_at dksX4_turn_0 12 rfl rfl)
theorem dX4_turn_13 : decode cX4_turn 13 = .ok (.ireturn, 1) := dk_172 (dk_at dksX4_turn_0 13 rfl rfl)
theorem dX4_turn_14 : decode cX4_turn 14 = .ok (.aload_n 0, 1) := dk_42 (dk_at dksX4_turn_0 14 rfl rfl)
theorem dX4_turn_15 : decode cX4_turn 15 = .ok (.getfield 44, 3) := dk_180 0 44 (dk_at dksX4_turn_0 15 rfl rfl)
theorem dX4_turn_18 : decode cX4_turn 18 = .ok (.iload_n 1, 1) := dk_27 (dk_at dksX4_turn_0 18 rfl rfl)
theorem dX4_turn_19 : decode cX4_turn 19 = .ok (.baload, 1) := dk_51 (dk_at dksX4_turn_0 19 rfl rfl)
theorem dX4_turn_20 : decode cX4_turn 20 = .ok (.istore_n 3, 1) := dk_62 (dk_at dksX4_turn_0 20 rfl rfl)
theorem dX4_turn_21 : decode cX4_turn 21 = .ok (.aload_n 0, 1) := dk_42 (dk_at dksX4_turn_0 21 rfl rfl)
theorem dX4_turn_22 : decode cX4_turn 22 = .ok (.getfield 44, 3) := dk_180 0 44 (dk_at dksX4_turn_1 0 rfl rfl)
theorem dX4_turn_25 : decode cX4_turn 25 = .ok (.iload_n 1, 1) := dk_27 (dk_at dksX4_turn_1 3 rfl rfl)
theorem dX4_turn_26 : decode cX4_turn 26 = .ok (.iload_n 2, 1) := dk_28 (dk_at dksX4_turn_1 4 rfl rfl)
theorem dX4_turn_27 : decode cX4_turn 27 = .ok (.bastore, 1) := dk_84 (dk_at dksX4_turn_1 5 rfl rfl)
theorem dX4_turn_28 : decode cX4_turn 28 = .ok (.iload_n 3, 1) := dk_29 (dk_at dksX4_turn_1 6 rfl rfl)
theorem dX4_turn_29 : decode cX4_turn 29 = .ok (.ireturn, 1) := dk_172 (dk_at dksX4_turn_1 7 rfl rfl)
abbrev cX4_isAdvice : ByteArray := prog_24_method_24_code
def yX4_isAdvice : MethodName := ⟨RX4, "isAdvice", "(I)Z"⟩
def dkwX4_isAdvice_0 : List UInt8 := [27, 3, 42, 180, 0, 61, 4, 100, 184, 0, 71, 172]
abbrev dktX4_isAdvice_0 : List UInt8 := dkwX4_isAdvice_0 ++ []
theorem dksX4_isAdvice_0 : cX4_isAdvice.data.toList.drop 0 = dktX4_isAdvice_0 := by decide +kernel
theorem dX4_isAdvice_0 : decode cX4_isAdvice 0 = .ok (.iload_n 1, 1) := dk_27 (dk_at dksX4_isAdvice_0 0 rfl rfl)
theorem dX4_isAdvice_1 : decode cX4_isAdvice 1 = .ok (.iconst 0, 1) := dk_3 (dk_at dksX4_isAdvice_0 1 rfl rfl)
theorem dX4_isAdvice_2 : decode cX4_isAdvice 2 = .ok (.aload_n 0, 1) := dk_42 (dk_at dksX4_isAdvice_0 2 rfl rfl)
theorem dX4_isAdvice_3 : decode cX4_isAdvice 3 = .ok (.getfield 61, 3) := dk_180 0 61 (dk_at dksX4_isAdvice_0 3 rfl rfl)
theorem dX4_isAdvice_6 : decode cX4_isAdvice 6 = .ok (.iconst 1, 1) := dk_4 (dk_at dksX4_isAdvice_0 6 rfl rfl)
theorem dX4_isAdvice_7 : decode cX4_isAdvice 7 = .ok (.isub, 1) := dk_100 (dk_at dksX4_isAdvice_0 7 rfl rfl)
theorem dX4_isAdvice_8 : decode cX4_isAdvice 8 = .ok (.invokestatic 71, 3) := dk_184 0 71 (dk_at dksX4_isAdvice_0 8 rfl rfl)
theorem dX4_isAdvice_11 : decode cX4_isAdvice 11 = .ok (.ireturn, 1) := dk_172 (dk_at dksX4_isAdvice_0 11 rfl rfl)
abbrev cX4_checked : ByteArray := prog_24_method_5_code
def yX4_checked : MethodName := ⟨RX4, "checked", "(Z)I"⟩
def dkwX4_checked_0 : List UInt8 := [42, 27, 153, 0, 7, 3, 167, 0, 4, 4, 181, 0, 51, 42, 180, 0, 51, 172]
abbrev dktX4_checked_0 : List UInt8 := dkwX4_checked_0 ++ []
theorem dksX4_checked_0 : cX4_checked.data.toList.drop 0 = dktX4_checked_0 := by decide +kernel
theorem dX4_checked_0 : decode cX4_checked 0 = .ok (.aload_n 0, 1) := dk_42 (dk_at dksX4_checked_0 0 rfl rfl)
theorem dX4_checked_1 : decode cX4_checked 1 = .ok (.iload_n 1, 1) := dk_27 (dk_at dksX4_checked_0 1 rfl rfl)
theorem dX4_checked_2 : decode cX4_checked 2 = .ok (.ifCond .eq 7, 3) := dk_153 0 7 (dk_at dksX4_checked_0 2 rfl rfl)
theorem dX4_checked_5 : decode cX4_checked 5 = .ok (.iconst 0, 1) := dk_3 (dk_at dksX4_checked_0 5 rfl rfl)
theorem dX4_checked_6 : decode cX4_checked 6 = .ok (.goto 4, 3) := dk_167 0 4 (dk_at dksX4_checked_0 6 rfl rfl)
theorem dX4_checked_9 : decode cX4_checked 9 = .ok (.iconst 1, 1) := dk_4 (dk_at dksX4_checked_0 9 rfl rfl)
theorem dX4_checked_10 : decode cX4_checked 10 = .ok (.putfield 51, 3) := dk_181 0 51 (dk_at dksX4_checked_0 10 rfl rfl)
theorem dX4_checked_13 : decode cX4_checked 13 = .ok (.aload_n 0, 1) := dk_42 (dk_at dksX4_checked_0 13 rfl rfl)
theorem dX4_checked_14 : decode cX4_checked 14 = .ok (.getfield 51, 3) := dk_180 0 51 (dk_at dksX4_checked_0 14 rfl rfl)
theorem dX4_checked_17 : decode cX4_checked 17 = .ok (.ireturn, 1) := dk_172 (dk_at dksX4_checked_0 17 rfl rfl)
abbrev cX4_precede : ByteArray := prog_24_method_26_code
def yX4_precede : MethodName := ⟨RX4, "precede", "(IIZ)Z"⟩
def dkwX4_precede_2 : List UInt8 := [180, 0, 48, 7, 27, 104, 28, 96, 29, 84, 21, 4, 172]
abbrev dktX4_precede_2 : List UInt8 := dkwX4_precede_2 ++ []
def dkwX4_precede_1 : List UInt8 := [3, 182, 0, 150, 158, 0, 5, 3, 172, 42, 180, 0, 48, 7, 27, 104, 28, 96, 51, 54, 4, 42]
abbrev dktX4_precede_1 : List UInt8 := dkwX4_precede_1 ++ dktX4_precede_2
def dkwX4_precede_0 : List UInt8 := [42, 27, 184, 0, 142, 153, 0, 19, 28, 184, 0, 142, 153, 0, 12, 27, 28, 159, 0, 7, 4, 167, 0, 4]
abbrev dktX4_precede_0 : List UInt8 := dkwX4_precede_0 ++ dktX4_precede_1
theorem dksX4_precede_0 : cX4_precede.data.toList.drop 0 = dktX4_precede_0 := by decide +kernel
theorem dksX4_precede_1 : cX4_precede.data.toList.drop 24 = dktX4_precede_1 := dk_seg dksX4_precede_0 24 rfl rfl
theorem dksX4_precede_2 : cX4_precede.data.toList.drop 46 = dktX4_precede_2 := dk_seg dksX4_precede_1 22 rfl rfl
theorem dX4_precede_0 : decode cX4_precede 0 = .ok (.aload_n 0, 1) := dk_42 (dk_at dksX4_precede_0 0 rfl rfl)
theorem dX4_precede_1 : decode cX4_precede 1 = .ok (.iload_n 1, 1) := dk_27 (dk_at dksX4_precede_0 1 rfl rfl)
theorem dX4_precede_2 : decode cX4_precede 2 = .ok (.invokestatic 142, 3) := dk_184 0 142 (dk_at dksX4_precede_0 2 rfl rfl)
theorem dX4_precede_5 : decode cX4_precede 5 = .ok (.ifCond .eq 19, 3) := dk_153 0 19 (dk_at dksX4_precede_0 5 rfl rfl)
theorem dX4_precede_8 : decode cX4_precede 8 = .ok (.iload_n 2, 1) := dk_28 (dk_at dksX4_precede_0 8 rfl rfl)
theorem dX4_precede_9 : decode cX4_precede 9 = .ok (.invokestatic 142, 3) := dk_184 0 142 (dk_at dksX4_precede_0 9 rfl rfl)
theorem dX4_precede_12 : decode cX4_precede 12 = .ok (.ifCond .eq 12, 3) := dk_153 0 12 (dk_at dksX4_precede_0 12 rfl rfl)
theorem dX4_precede_15 : decode cX4_precede 15 = .ok (.iload_n 1, 1) := dk_27 (dk_at dksX4_precede_0 15 rfl rfl)
theorem dX4_precede_16 : decode cX4_precede 16 = .ok (.iload_n 2, 1) := dk_28 (dk_at dksX4_precede_0 16 rfl rfl)
theorem dX4_precede_17 : decode cX4_precede 17 = .ok (.if_icmp .eq 7, 3) := dk_159 0 7 (dk_at dksX4_precede_0 17 rfl rfl)
theorem dX4_precede_20 : decode cX4_precede 20 = .ok (.iconst 1, 1) := dk_4 (dk_at dksX4_precede_0 20 rfl rfl)
theorem dX4_precede_21 : decode cX4_precede 21 = .ok (.goto 4, 3) := dk_167 0 4 (dk_at dksX4_precede_0 21 rfl rfl)
theorem dX4_precede_24 : decode cX4_precede 24 = .ok (.iconst 0, 1) := dk_3 (dk_at dksX4_precede_1 0 rfl rfl)
theorem dX4_precede_25 : decode cX4_precede 25 = .ok (.invokevirtual 150, 3) := dk_182 0 150 (dk_at dksX4_precede_1 1 rfl rfl)
theorem dX4_precede_28 : decode cX4_precede 28 = .ok (.ifCond .le 5, 3) := dk_158 0 5 (dk_at dksX4_precede_1 4 rfl rfl)
theorem dX4_precede_31 : decode cX4_precede 31 = .ok (.iconst 0, 1) := dk_3 (dk_at dksX4_precede_1 7 rfl rfl)
theorem dX4_precede_32 : decode cX4_precede 32 = .ok (.ireturn, 1) := dk_172 (dk_at dksX4_precede_1 8 rfl rfl)
theorem dX4_precede_33 : decode cX4_precede 33 = .ok (.aload_n 0, 1) := dk_42 (dk_at dksX4_precede_1 9 rfl rfl)
theorem dX4_precede_34 : decode cX4_precede 34 = .ok (.getfield 48, 3) := dk_180 0 48 (dk_at dksX4_precede_1 10 rfl rfl)
theorem dX4_precede_37 : decode cX4_precede 37 = .ok (.iconst 4, 1) := dk_7 (dk_at dksX4_precede_1 13 rfl rfl)
theorem dX4_precede_38 : decode cX4_precede 38 = .ok (.iload_n 1, 1) := dk_27 (dk_at dksX4_precede_1 14 rfl rfl)
theorem dX4_precede_39 : decode cX4_precede 39 = .ok (.imul, 1) := dk_104 (dk_at dksX4_precede_1 15 rfl rfl)
theorem dX4_precede_40 : decode cX4_precede 40 = .ok (.iload_n 2, 1) := dk_28 (dk_at dksX4_precede_1 16 rfl rfl)
theorem dX4_precede_41 : decode cX4_precede 41 = .ok (.iadd, 1) := dk_96 (dk_at dksX4_precede_1 17 rfl rfl)
theorem dX4_precede_42 : decode cX4_precede 42 = .ok (.baload, 1) := dk_51 (dk_at dksX4_precede_1 18 rfl rfl)
theorem dX4_precede_43 : decode cX4_precede 43 = .ok (.istore 4, 2) := dk_54 4 (dk_at dksX4_precede_1 19 rfl rfl)
theorem dX4_precede_45 : decode cX4_precede 45 = .ok (.aload_n 0, 1) := dk_42 (dk_at dksX4_precede_1 21 rfl rfl)
theorem dX4_precede_46 : decode cX4_precede 46 = .ok (.getfield 48, 3) := dk_180 0 48 (dk_at dksX4_precede_2 0 rfl rfl)
theorem dX4_precede_49 : decode cX4_precede 49 = .ok (.iconst 4, 1) := dk_7 (dk_at dksX4_precede_2 3 rfl rfl)
theorem dX4_precede_50 : decode cX4_precede 50 = .ok (.iload_n 1, 1) := dk_27 (dk_at dksX4_precede_2 4 rfl rfl)
theorem dX4_precede_51 : decode cX4_precede 51 = .ok (.imul, 1) := dk_104 (dk_at dksX4_precede_2 5 rfl rfl)
theorem dX4_precede_52 : decode cX4_precede 52 = .ok (.iload_n 2, 1) := dk_28 (dk_at dksX4_precede_2 6 rfl rfl)
theorem dX4_precede_53 : decode cX4_precede 53 = .ok (.iadd, 1) := dk_96 (dk_at dksX4_precede_2 7 rfl rfl)
theorem dX4_precede_54 : decode cX4_precede 54 = .ok (.iload_n 3, 1) := dk_29 (dk_at dksX4_precede_2 8 rfl rfl)
theorem dX4_precede_55 : decode cX4_precede 55 = .ok (.bastore, 1) := dk_84 (dk_at dksX4_precede_2 9 rfl rfl)
theorem dX4_precede_56 : decode cX4_precede 56 = .ok (.iload 4, 2) := dk_21 4 (dk_at dksX4_precede_2 10 rfl rfl)
theorem dX4_precede_58 : decode cX4_precede 58 = .ok (.ireturn, 1) := dk_172 (dk_at dksX4_precede_2 12 rfl rfl)
abbrev cX4_isRing : ByteArray := prog_24_method_29_code
def yX4_isRing : MethodName := ⟨RX4, "isRing", "()Z"⟩
def dkwX4_isRing_0 : List UInt8 := [42, 3, 181, 0, 51, 42, 182, 0, 174, 182, 0, 178, 7, 162, 0, 7, 4, 167, 0, 4, 3, 172]
abbrev dktX4_isRing_0 : List UInt8 := dkwX4_isRing_0 ++ []
theorem dksX4_isRing_0 : cX4_isRing.data.toList.drop 0 = dktX4_isRing_0 := by decide +kernel
theorem dX4_isRing_0 : decode cX4_isRing 0 = .ok (.aload_n 0, 1) := dk_42 (dk_at dksX4_isRing_0 0 rfl rfl)
theorem dX4_isRing_1 : decode cX4_isRing 1 = .ok (.iconst 0, 1) := dk_3 (dk_at dksX4_isRing_0 1 rfl rfl)
theorem dX4_isRing_2 : decode cX4_isRing 2 = .ok (.putfield 51, 3) := dk_181 0 51 (dk_at dksX4_isRing_0 2 rfl rfl)
theorem dX4_isRing_5 : decode cX4_isRing 5 = .ok (.aload_n 0, 1) := dk_42 (dk_at dksX4_isRing_0 5 rfl rfl)
theorem dX4_isRing_6 : decode cX4_isRing 6 = .ok (.invokevirtual 174, 3) := dk_182 0 174 (dk_at dksX4_isRing_0 6 rfl rfl)
theorem dX4_isRing_9 : decode cX4_isRing 9 = .ok (.invokevirtual 178, 3) := dk_182 0 178 (dk_at dksX4_isRing_0 9 rfl rfl)
theorem dX4_isRing_12 : decode cX4_isRing 12 = .ok (.iconst 4, 1) := dk_7 (dk_at dksX4_isRing_0 12 rfl rfl)
theorem dX4_isRing_13 : decode cX4_isRing 13 = .ok (.if_icmp .ge 7, 3) := dk_162 0 7 (dk_at dksX4_isRing_0 13 rfl rfl)
theorem dX4_isRing_16 : decode cX4_isRing 16 = .ok (.iconst 1, 1) := dk_4 (dk_at dksX4_isRing_0 16 rfl rfl)
theorem dX4_isRing_17 : decode cX4_isRing 17 = .ok (.goto 4, 3) := dk_167 0 4 (dk_at dksX4_isRing_0 17 rfl rfl)
theorem dX4_isRing_20 : decode cX4_isRing 20 = .ok (.iconst 0, 1) := dk_3 (dk_at dksX4_isRing_0 20 rfl rfl)
theorem dX4_isRing_21 : decode cX4_isRing 21 = .ok (.ireturn, 1) := dk_172 (dk_at dksX4_isRing_0 21 rfl rfl)
abbrev cX4_order : ByteArray := prog_24_method_28_code
def yX4_order : MethodName := ⟨RX4, "order", "()Ljava/util/ArrayList;"⟩
def dkwX4_order_2 : List UInt8 := [4, 61, 132, 3, 1, 167, 255, 221, 167, 255, 210, 43, 176]
abbrev dktX4_order_2 : List UInt8 := dkwX4_order_2 ++ []
def dkwX4_order_1 : List UInt8 := [154, 0, 32, 42, 29, 43, 182, 0, 167, 154, 0, 6, 167, 0, 14, 43, 29, 184, 0, 154, 182, 0, 171, 87]
abbrev dktX4_order_1 : List UInt8 := dkwX4_order_1 ++ dktX4_order_2
def dkwX4_order_0 : List UInt8 := [187, 0, 161, 89, 183, 0, 166, 76, 4, 61, 28, 153, 0, 48, 3, 61, 3, 62, 29, 7, 162, 0, 36, 28]
abbrev dktX4_order_0 : List UInt8 := dkwX4_order_0 ++ dktX4_order_1
theorem dksX4_order_0 : cX4_order.data.toList.drop 0 = dktX4_order_0 := by decide +kernel
theorem dksX4_order_1 : cX4_order.data.toList.drop 24 = dktX4_order_1 := dk_seg dksX4_order_0 24 rfl rfl
theorem dksX4_order_2 : cX4_order.data.toList.drop 48 = dktX4_order_2 := dk_seg dksX4_order_1 24 rfl rfl
theorem dX4_order_0 : decode cX4_order 0 = .ok (.new 161, 3) := dk_187 0 161 (dk_at dksX4_order_0 0 rfl rfl)
theorem dX4_order_3 : decode cX4_order 3 = .ok (.dup, 1) := dk_89 (dk_at dksX4_order_0 3 rfl rfl)
theorem dX4_order_4 : decode cX4_order 4 = .ok (.invokespecial 166, 3) := dk_183 0 166 (dk_at dksX4_order_0 4 rfl rfl)
theorem dX4_order_7 : decode cX4_order 7 = .ok (.astore_n 1, 1) := dk_76 (dk_at dksX4_order_0 7 rfl rfl)
theorem dX4_order_8 : decode cX4_order 8 = .ok (.iconst 1, 1) := dk_4 (dk_at dksX4_order_0 8 rfl rfl)
theorem dX4_order_9 : decode cX4_order 9 = .ok (.istore_n 2, 1) := dk_61 (dk_at dksX4_order_0 9 rfl rfl)
theorem dX4_order_10 : decode cX4_order 10 = .ok (.iload_n 2, 1) := dk_28 (dk_at dksX4_order_0 10 rfl rfl)
theorem dX4_order_11 : decode cX4_order 11 = .ok (.ifCond .eq 48, 3) := dk_153 0 48 (dk_at dksX4_order_0 11 rfl rfl)
theorem dX4_order_14 : decode cX4_order 14 = .ok (.iconst 0, 1) := dk_3 (dk_at dksX4_order_0 14 rfl rfl)
theorem dX4_order_15 : decode cX4_order 15 = .ok (.istore_n 2, 1) := dk_61 (dk_at dksX4_order_0 15 rfl rfl)
theorem dX4_order_16 : decode cX4_order 16 = .ok (.iconst 0, 1) := dk_3 (dk_at dksX4_order_0 16 rfl rfl)
theorem dX4_order_17 : decode cX4_order 17 = .ok (.istore_n 3, 1) := dk_62 (dk_at dksX4_order_0 17 rfl rfl)
theorem dX4_order_18 : decode cX4_order 18 = .ok (.iload_n 3, 1) := dk_29 (dk_at dksX4_order_0 18 rfl rfl)
theorem dX4_order_19 : decode cX4_order 19 = .ok (.iconst 4, 1) := dk_7 (dk_at dksX4_order_0 19 rfl rfl)
theorem dX4_order_20 : decode cX4_order 20 = .ok (.if_icmp .ge 36, 3) := dk_162 0 36 (dk_at dksX4_order_0 20 rfl rfl)
theorem dX4_order_23 : decode cX4_order 23 = .ok (.iload_n 2, 1) := dk_28 (dk_at dksX4_order_0 23 rfl rfl)
theorem dX4_order_24 : decode cX4_order 24 = .ok (.ifCond .ne 32, 3) := dk_154 0 32 (dk_at dksX4_order_1 0 rfl rfl)
theorem dX4_order_27 : decode cX4_order 27 = .ok (.aload_n 0, 1) := dk_42 (dk_at dksX4_order_1 3 rfl rfl)
theorem dX4_order_28 : decode cX4_order 28 = .ok (.iload_n 3, 1) := dk_29 (dk_at dksX4_order_1 4 rfl rfl)
theorem dX4_order_29 : decode cX4_order 29 = .ok (.aload_n 1, 1) := dk_43 (dk_at dksX4_order_1 5 rfl rfl)
theorem dX4_order_30 : decode cX4_order 30 = .ok (.invokevirtual 167, 3) := dk_182 0 167 (dk_at dksX4_order_1 6 rfl rfl)
theorem dX4_order_33 : decode cX4_order 33 = .ok (.ifCond .ne 6, 3) := dk_154 0 6 (dk_at dksX4_order_1 9 rfl rfl)
theorem dX4_order_36 : decode cX4_order 36 = .ok (.goto 14, 3) := dk_167 0 14 (dk_at dksX4_order_1 12 rfl rfl)
theorem dX4_order_39 : decode cX4_order 39 = .ok (.aload_n 1, 1) := dk_43 (dk_at dksX4_order_1 15 rfl rfl)
theorem dX4_order_40 : decode cX4_order 40 = .ok (.iload_n 3, 1) := dk_29 (dk_at dksX4_order_1 16 rfl rfl)
theorem dX4_order_41 : decode cX4_order 41 = .ok (.invokestatic 154, 3) := dk_184 0 154 (dk_at dksX4_order_1 17 rfl rfl)
theorem dX4_order_44 : decode cX4_order 44 = .ok (.invokevirtual 171, 3) := dk_182 0 171 (dk_at dksX4_order_1 20 rfl rfl)
theorem dX4_order_47 : decode cX4_order 47 = .ok (.pop, 1) := dk_87 (dk_at dksX4_order_1 23 rfl rfl)
theorem dX4_order_48 : decode cX4_order 48 = .ok (.iconst 1, 1) := dk_4 (dk_at dksX4_order_2 0 rfl rfl)
theorem dX4_order_49 : decode cX4_order 49 = .ok (.istore_n 2, 1) := dk_61 (dk_at dksX4_order_2 1 rfl rfl)
theorem dX4_order_50 : decode cX4_order 50 = .ok (.iinc 3 1, 3) := dk_132 3 1 (dk_at dksX4_order_2 2 rfl rfl)
theorem dX4_order_53 : decode cX4_order 53 = .ok (.goto (-35), 3) := dk_167 255 221 (dk_at dksX4_order_2 5 rfl rfl)
theorem dX4_order_56 : decode cX4_order 56 = .ok (.goto (-46), 3) := dk_167 255 210 (dk_at dksX4_order_2 8 rfl rfl)
theorem dX4_order_59 : decode cX4_order 59 = .ok (.aload_n 1, 1) := dk_43 (dk_at dksX4_order_2 11 rfl rfl)
theorem dX4_order_60 : decode cX4_order 60 = .ok (.areturn, 1) := dk_176 (dk_at dksX4_order_2 12 rfl rfl)
abbrev cX4_isNext : ByteArray := prog_24_method_27_code
def yX4_isNext : MethodName := ⟨RX4, "isNext", "(ILjava/util/ArrayList;)Z"⟩
def dkwX4_isNext_2 : List UInt8 := [132, 3, 1, 167, 255, 222, 4, 172]
abbrev dktX4_isNext_2 : List UInt8 := dkwX4_isNext_2 ++ []
def dkwX4_isNext_1 : List UInt8 := [7, 29, 104, 27, 96, 51, 153, 0, 16, 44, 29, 184, 0, 154, 182, 0, 160, 154, 0, 5, 3, 172]
abbrev dktX4_isNext_1 : List UInt8 := dkwX4_isNext_1 ++ dktX4_isNext_2
def dkwX4_isNext_0 : List UInt8 := [44, 27, 184, 0, 154, 182, 0, 160, 153, 0, 5, 3, 172, 3, 62, 29, 7, 162, 0, 35, 42, 180, 0, 48]
abbrev dktX4_isNext_0 : List UInt8 := dkwX4_isNext_0 ++ dktX4_isNext_1
theorem dksX4_isNext_0 : cX4_isNext.data.toList.drop 0 = dktX4_isNext_0 := by decide +kernel
theorem dksX4_isNext_1 : cX4_isNext.data.toList.drop 24 = dktX4_isNext_1 := dk_seg dksX4_isNext_0 24 rfl rfl
theorem dksX4_isNext_2 : cX4_isNext.data.toList.drop 46 = dktX4_isNext_2 := dk_seg dksX4_isNext_1 22 rfl rfl
theorem dX4_isNext_0 : decode cX4_isNext 0 = .ok (.aload_n 2, 1) := dk_44 (dk_at dksX4_isNext_0 0 rfl rfl)
theorem dX4_isNext_1 : decode cX4_isNext 1 = .ok (.iload_n 1, 1) := dk_27 (dk_at dksX4_isNext_0 1 rfl rfl)
theorem dX4_isNext_2 : decode cX4_isNext 2 = .ok (.invokestatic 154, 3) := dk_184 0 154 (dk_at dksX4_isNext_0 2 rfl rfl)
theorem dX4_isNext_5 : decode cX4_isNext 5 = .ok (.invokevirtual 160, 3) := dk_182 0 160 (dk_at dksX4_isNext_0 5 rfl rfl)
theorem dX4_isNext_8 : decode cX4_isNext 8 = .ok (.ifCond .eq 5, 3) := dk_153 0 5 (dk_at dksX4_isNext_0 8 rfl rfl)
theorem dX4_isNext_11 : decode cX4_isNext 11 = .ok (.iconst 0, 1) := dk_3 (dk_at dksX4_isNext_0 11 rfl rfl)
theorem dX4_isNext_12 : decode cX4_isNext 12 = .ok (.ireturn, 1) := dk_172 (dk_at dksX4_isNext_0 12 rfl rfl)
theorem dX4_isNext_13 : decode cX4_isNext 13 = .ok (.iconst 0, 1) := dk_3 (dk_at dksX4_isNext_0 13 rfl rfl)
theorem dX4_isNext_14 : decode cX4_isNext 14 = .ok (.istore_n 3, 1) := dk_62 (dk_at dksX4_isNext_0 14 rfl rfl)
theorem dX4_isNext_15 : decode cX4_isNext 15 = .ok (.iload_n 3, 1) := dk_29 (dk_at dksX4_isNext_0 15 rfl rfl)
theorem dX4_isNext_16 : decode cX4_isNext 16 = .ok (.iconst 4, 1) := dk_7 (dk_at dksX4_isNext_0 16 rfl rfl)
theorem dX4_isNext_17 : decode cX4_isNext 17 = .ok (.if_icmp .ge 35, 3) := dk_162 0 35 (dk_at dksX4_isNext_0 17 rfl rfl)
theorem dX4_isNext_20 : decode cX4_isNext 20 = .ok (.aload_n 0, 1) := dk_42 (dk_at dksX4_isNext_0 20 rfl rfl)
theorem dX4_isNext_21 : decode cX4_isNext 21 = .ok (.getfield 48, 3) := dk_180 0 48 (dk_at dksX4_isNext_0 21 rfl rfl)
theorem dX4_isNext_24 : decode cX4_isNext 24 = .ok (.iconst 4, 1) := dk_7 (dk_at dksX4_isNext_1 0 rfl rfl)
theorem dX4_isNext_25 : decode cX4_isNext 25 = .ok (.iload_n 3, 1) := dk_29 (dk_at dksX4_isNext_1 1 rfl rfl)
theorem dX4_isNext_26 : decode cX4_isNext 26 = .ok (.imul, 1) := dk_104 (dk_at dksX4_isNext_1 2 rfl rfl)
theorem dX4_isNext_27 : decode cX4_isNext 27 = .ok (.iload_n 1, 1) := dk_27 (dk_at dksX4_isNext_1 3 rfl rfl)
theorem dX4_isNext_28 : decode cX4_isNext 28 = .ok (.iadd, 1) := dk_96 (dk_at dksX4_isNext_1 4 rfl rfl)
theorem dX4_isNext_29 : decode cX4_isNext 29 = .ok (.baload, 1) := dk_51 (dk_at dksX4_isNext_1 5 rfl rfl)
theorem dX4_isNext_30 : decode cX4_isNext 30 = .ok (.ifCond .eq 16, 3) := dk_153 0 16 (dk_at dksX4_isNext_1 6 rfl rfl)
theorem dX4_isNext_33 : decode cX4_isNext 33 = .ok (.aload_n 2, 1) := dk_44 (dk_at dksX4_isNext_1 9 rfl rfl)
theorem dX4_isNext_34 : decode cX4_isNext 34 = .ok (.iload_n 3, 1) := dk_29 (dk_at dksX4_isNext_1 10 rfl rfl)
theorem dX4_isNext_35 : decode cX4_isNext 35 = .ok (.invokestatic 154, 3) := dk_184 0 154 (dk_at dksX4_isNext_1 11 rfl rfl)
theorem dX4_isNext_38 : decode cX4_isNext 38 = .ok (.invokevirtual 160, 3) := dk_182 0 160 (dk_at dksX4_isNext_1 14 rfl rfl)
theorem dX4_isNext_41 : decode cX4_isNext 41 = .ok (.ifCond .ne 5, 3) := dk_154 0 5 (dk_at dksX4_isNext_1 17 rfl rfl)
theorem dX4_isNext_44 : decode cX4_isNext 44 = .ok (.iconst 0, 1) := dk_3 (dk_at dksX4_isNext_1 20 rfl rfl)
theorem dX4_isNext_45 : decode cX4_isNext 45 = .ok (.ireturn, 1) := dk_172 (dk_at dksX4_isNext_1 21 rfl rfl)
theorem dX4_isNext_46 : decode cX4_isNext 46 = .ok (.iinc 3 1, 3) := dk_132 3 1 (dk_at dksX4_isNext_2 0 rfl rfl)
theorem dX4_isNext_49 : decode cX4_isNext 49 = .ok (.goto (-34), 3) := dk_167 255 222 (dk_at dksX4_isNext_2 3 rfl rfl)
theorem dX4_isNext_52 : decode cX4_isNext 52 = .ok (.iconst 1, 1) := dk_4 (dk_at dksX4_isNext_2 6 rfl rfl)
theorem dX4_isNext_53 : decode cX4_isNext 53 = .ok (.ireturn, 1) := dk_172 (dk_at dksX4_isNext_2 7 rfl rfl)
abbrev cX4_aspectAt : ByteArray := prog_24_method_30_code
def yX4_aspectAt : MethodName := ⟨RX4, "aspectAt", "(I)I"⟩
def dkwX4_aspectAt_2 : List UInt8 := [182, 0, 181, 192, 0, 155, 182, 0, 185, 172]
abbrev dktX4_aspectAt_2 : List UInt8 := dkwX4_aspectAt_2 ++ []
def dkwX4_aspectAt_1 : List UInt8 := [167, 0, 4, 3, 181, 0, 51, 42, 180, 0, 51, 158, 0, 7, 3, 167, 0, 17, 42, 182, 0, 174, 27]
abbrev dktX4_aspectAt_1 : List UInt8 := dkwX4_aspectAt_1 ++ dktX4_aspectAt_2
def dkwX4_aspectAt_0 : List UInt8 := [42, 27, 184, 0, 142, 154, 0, 7, 4, 167, 0, 19, 42, 182, 0, 174, 182, 0, 178, 7, 162, 0, 7, 5]
abbrev dktX4_aspectAt_0 : List UInt8 := dkwX4_aspectAt_0 ++ dktX4_aspectAt_1
theorem dksX4_aspectAt_0 : cX4_aspectAt.data.toList.drop 0 = dktX4_aspectAt_0 := by decide +kernel
theorem dksX4_aspectAt_1 : cX4_aspectAt.data.toList.drop 24 = dktX4_aspectAt_1 := dk_seg dksX4_aspectAt_0 24 rfl rfl
theorem dksX4_aspectAt_2 : cX4_aspectAt.data.toList.drop 47 = dktX4_aspectAt_2 := dk_seg dksX4_aspectAt_1 23 rfl rfl
theorem dX4_aspectAt_0 : decode cX4_aspectAt 0 = .ok (.aload_n 0, 1) := dk_42 (dk_at dksX4_aspectAt_0 0 rfl rfl)
theorem dX4_aspectAt_1 : decode cX4_aspectAt 1 = .ok (.iload_n 1, 1) := dk_27 (dk_at dksX4_aspectAt_0 1 rfl rfl)
theorem dX4_aspectAt_2 : decode cX4_aspectAt 2 = .ok (.invokestatic 142, 3) := dk_184 0 142 (dk_at dksX4_aspectAt_0 2 rfl rfl)
theorem dX4_aspectAt_5 : decode cX4_aspectAt 5 = .ok (.ifCond .ne 7, 3) := dk_154 0 7 (dk_at dksX4_aspectAt_0 5 rfl rfl)
theorem dX4_aspectAt_8 : decode cX4_aspectAt 8 = .ok (.iconst 1, 1) := dk_4 (dk_at dksX4_aspectAt_0 8 rfl rfl)
theorem dX4_aspectAt_9 : decode cX4_aspectAt 9 = .ok (.goto 19, 3) := dk_167 0 19 (dk_at dksX4_aspectAt_0 9 rfl rfl)
theorem dX4_aspectAt_12 : decode cX4_aspectAt 12 = .ok (.aload_n 0, 1) := dk_42 (dk_at dksX4_aspectAt_0 12 rfl rfl)
theorem dX4_aspectAt_13 : decode cX4_aspectAt 13 = .ok (.invokevirtual 174, 3) := dk_182 0 174 (dk_at dksX4_aspectAt_0 13 rfl rfl)
theorem dX4_aspectAt_16 : decode cX4_aspectAt 16 = .ok (.invokevirtual 178, 3) := dk_182 0 178 (dk_at dksX4_aspectAt_0 16 rfl rfl)
theorem dX4_aspectAt_19 : decode cX4_aspectAt 19 = .ok (.iconst 4, 1) := dk_7 (dk_at dksX4_aspectAt_0 19 rfl rfl)
theorem dX4_aspectAt_20 : decode cX4_aspectAt 20 = .ok (.if_icmp .ge 7, 3) := dk_162 0 7 (dk_at dksX4_aspectAt_0 20 rfl rfl)
theorem dX4_aspectAt_23 : decode cX4_aspectAt 23 = .ok (.iconst 2, 1) := dk_5 (dk_at dksX4_aspectAt_0 23 rfl rfl)
theorem dX4_aspectAt_24 : decode cX4_aspectAt 24 = .ok (.goto 4, 3) := dk_167 0 4 (dk_at dksX4_aspectAt_1 0 rfl rfl)
theorem dX4_aspectAt_27 : decode cX4_aspectAt 27 = .ok (.iconst 0, 1) := dk_3 (dk_at dksX4_aspectAt_1 3 rfl rfl)
theorem dX4_aspectAt_28 : decode cX4_aspectAt 28 = .ok (.putfield 51, 3) := dk_181 0 51 (dk_at dksX4_aspectAt_1 4 rfl rfl)
theorem dX4_aspectAt_31 : decode cX4_aspectAt 31 = .ok (.aload_n 0, 1) := dk_42 (dk_at dksX4_aspectAt_1 7 rfl rfl)
theorem dX4_aspectAt_32 : decode cX4_aspectAt 32 = .ok (.getfield 51, 3) := dk_180 0 51 (dk_at dksX4_aspectAt_1 8 rfl rfl)
theorem dX4_aspectAt_35 : decode cX4_aspectAt 35 = .ok (.ifCond .le 7, 3) := dk_158 0 7 (dk_at dksX4_aspectAt_1 11 rfl rfl)
theorem dX4_aspectAt_38 : decode cX4_aspectAt 38 = .ok (.iconst 0, 1) := dk_3 (dk_at dksX4_aspectAt_1 14 rfl rfl)
theorem dX4_aspectAt_39 : decode cX4_aspectAt 39 = .ok (.goto 17, 3) := dk_167 0 17 (dk_at dksX4_aspectAt_1 15 rfl rfl)
theorem dX4_aspectAt_42 : decode cX4_aspectAt 42 = .ok (.aload_n 0, 1) := dk_42 (dk_at dksX4_aspectAt_1 18 rfl rfl)
theorem dX4_aspectAt_43 : decode cX4_aspectAt 43 = .ok (.invokevirtual 174, 3) := dk_182 0 174 (dk_at dksX4_aspectAt_1 19 rfl rfl)
theorem dX4_aspectAt_46 : decode cX4_aspectAt 46 = .ok (.iload_n 1, 1) := dk_27 (dk_at dksX4_aspectAt_1 22 rfl rfl)
theorem dX4_aspectAt_47 : decode cX4_aspectAt 47 = .ok (.invokevirtual 181, 3) := dk_182 0 181 (dk_at dksX4_aspectAt_2 0 rfl rfl)
theorem dX4_aspectAt_50 : decode cX4_aspectAt 50 = .ok (.checkcast 155, 3) := dk_192 0 155 (dk_at dksX4_aspectAt_2 3 rfl rfl)
theorem dX4_aspectAt_53 : decode cX4_aspectAt 53 = .ok (.invokevirtual 185, 3) := dk_182 0 185 (dk_at dksX4_aspectAt_2 6 rfl rfl)
theorem dX4_aspectAt_56 : decode cX4_aspectAt 56 = .ok (.ireturn, 1) := dk_172 (dk_at dksX4_aspectAt_2 9 rfl rfl)
abbrev cX4_places : ByteArray := prog_24_method_38_code
def yX4_places : MethodName := ⟨RX4, "places", "(II)I"⟩
def dkwX4_places_1 : List UInt8 := [182, 0, 232, 182, 0, 178, 172]
abbrev dktX4_places_1 : List UInt8 := dkwX4_places_1 ++ []
def dkwX4_places_0 : List UInt8 := [42, 42, 27, 28, 182, 0, 103, 181, 0, 51, 42, 180, 0, 51, 158, 0, 7, 3, 167, 0, 12, 42, 27, 28]
abbrev dktX4_places_0 : List UInt8 := dkwX4_places_0 ++ dktX4_places_1
theorem dksX4_places_0 : cX4_places.data.toList.drop 0 = dktX4_places_0 := by decide +kernel
theorem dksX4_places_1 : cX4_places.data.toList.drop 24 = dktX4_places_1 := dk_seg dksX4_places_0 24 rfl rfl
theorem dX4_places_0 : decode cX4_places 0 = .ok (.aload_n 0, 1) := dk_42 (dk_at dksX4_places_0 0 rfl rfl)
theorem dX4_places_1 : decode cX4_places 1 = .ok (.aload_n 0, 1) := dk_42 (dk_at dksX4_places_0 1 rfl rfl)
theorem dX4_places_2 : decode cX4_places 2 = .ok (.iload_n 1, 1) := dk_27 (dk_at dksX4_places_0 2 rfl rfl)
theorem dX4_places_3 : decode cX4_places 3 = .ok (.iload_n 2, 1) := dk_28 (dk_at dksX4_places_0 3 rfl rfl)
theorem dX4_places_4 : decode cX4_places 4 = .ok (.invokevirtual 103, 3) := dk_182 0 103 (dk_at dksX4_places_0 4 rfl rfl)
theorem dX4_places_7 : decode cX4_places 7 = .ok (.putfield 51, 3) := dk_181 0 51 (dk_at dksX4_places_0 7 rfl rfl)
theorem dX4_places_10 : decode cX4_places 10 = .ok (.aload_n 0, 1) := dk_42 (dk_at dksX4_places_0 10 rfl rfl)
theorem dX4_places_11 : decode cX4_places 11 = .ok (.getfield 51, 3) := dk_180 0 51 (dk_at dksX4_places_0 11 rfl rfl)
theorem dX4_places_14 : decode cX4_places 14 = .ok (.ifCond .le 7, 3) := dk_158 0 7 (dk_at dksX4_places_0 14 rfl rfl)
theorem dX4_places_17 : decode cX4_places 17 = .ok (.iconst 0, 1) := dk_3 (dk_at dksX4_places_0 17 rfl rfl)
theorem dX4_places_18 : decode cX4_places 18 = .ok (.goto 12, 3) := dk_167 0 12 (dk_at dksX4_places_0 18 rfl rfl)
theorem dX4_places_21 : decode cX4_places 21 = .ok (.aload_n 0, 1) := dk_42 (dk_at dksX4_places_0 21 rfl rfl)
theorem dX4_places_22 : decode cX4_places 22 = .ok (.iload_n 1, 1) := dk_27 (dk_at dksX4_places_0 22 rfl rfl)
theorem dX4_places_23 : decode cX4_places 23 = .ok (.iload_n 2, 1) := dk_28 (dk_at dksX4_places_0 23 rfl rfl)
theorem dX4_places_24 : decode cX4_places 24 = .ok (.invokevirtual 232, 3) := dk_182 0 232 (dk_at dksX4_places_1 0 rfl rfl)
theorem dX4_places_27 : decode cX4_places 27 = .ok (.invokevirtual 178, 3) := dk_182 0 178 (dk_at dksX4_places_1 3 rfl rfl)
theorem dX4_places_30 : decode cX4_places 30 = .ok (.ireturn, 1) := dk_172 (dk_at dksX4_places_1 6 rfl rfl)
abbrev cX4_spots : ByteArray := prog_24_method_31_code
def yX4_spots : MethodName := ⟨RX4, "spots", "(II)Ljava/util/ArrayList;"⟩
def dkwX4_spots_7 : List UInt8 := [183, 0, 190, 182, 0, 171, 87, 132, 5, 1, 167, 255, 124, 45, 176]
abbrev dktX4_spots_7 : List UInt8 := dkwX4_spots_7 ++ []
def dkwX4_spots_6 : List UInt8 := [187, 0, 188, 89, 16, 99, 25, 4, 180, 0, 100, 21, 5, 46, 25, 4, 180, 0, 97, 21, 5, 46, 21, 5]
abbrev dktX4_spots_6 : List UInt8 := dkwX4_spots_6 ++ dktX4_spots_7
def dkwX4_spots_5 : List UInt8 := [180, 0, 97, 21, 5, 46, 25, 4, 180, 0, 97, 21, 5, 46, 21, 5, 183, 0, 190, 182, 0, 171, 87, 45]
abbrev dktX4_spots_5 : List UInt8 := dkwX4_spots_5 ++ dktX4_spots_6
def dkwX4_spots_4 : List UInt8 := [182, 0, 171, 87, 21, 6, 16, 109, 159, 0, 6, 167, 0, 67, 45, 187, 0, 188, 89, 16, 109, 25, 4]
abbrev dktX4_spots_4 : List UInt8 := dkwX4_spots_4 ++ dktX4_spots_5
def dkwX4_spots_3 : List UInt8 := [153, 0, 28, 45, 187, 0, 188, 89, 21, 6, 25, 4, 180, 0, 97, 21, 5, 46, 2, 21, 5, 183, 0, 190]
abbrev dktX4_spots_3 : List UInt8 := dkwX4_spots_3 ++ dktX4_spots_4
def dkwX4_spots_2 : List UInt8 := [180, 0, 90, 162, 0, 128, 25, 4, 180, 0, 94, 21, 5, 52, 54, 6, 18, 193, 21, 6, 184, 0, 122]
abbrev dktX4_spots_2 : List UInt8 := dkwX4_spots_2 ++ dktX4_spots_3
def dkwX4_spots_1 : List UInt8 := [187, 0, 188, 89, 16, 101, 28, 2, 2, 183, 0, 190, 182, 0, 171, 87, 3, 54, 5, 21, 5, 25, 4]
abbrev dktX4_spots_1 : List UInt8 := dkwX4_spots_1 ++ dktX4_spots_2
def dkwX4_spots_0 : List UInt8 := [187, 0, 161, 89, 183, 0, 166, 78, 42, 27, 28, 182, 0, 86, 58, 4, 25, 4, 199, 0, 5, 45, 176, 45]
abbrev dktX4_spots_0 : List UInt8 := dkwX4_spots_0 ++ dktX4_spots_1
theorem dksX4_spots_0 : cX4_spots.data.toList.drop 0 = dktX4_spots_0 := by decide +kernel
theorem dksX4_spots_1 : cX4_spots.data.toList.drop 24 = dktX4_spots_1 := dk_seg dksX4_spots_0 24 rfl rfl
theorem dksX4_spots_2 : cX4_spots.data.toList.drop 47 = dktX4_spots_2 := dk_seg dksX4_spots_1 23 rfl rfl
theorem dksX4_spots_3 : cX4_spots.data.toList.drop 70 = dktX4_spots_3 := dk_seg dksX4_spots_2 23 rfl rfl
theorem dksX4_spots_4 : cX4_spots.data.toList.drop 94 = dktX4_spots_4 := dk_seg dksX4_spots_3 24 rfl rfl
theorem dksX4_spots_5 : cX4_spots.data.toList.drop 117 = dktX4_spots_5 := dk_seg dksX4_spots_4 23 rfl rfl
theorem dksX4_spots_6 : cX4_spots.data.toList.drop 141 = dktX4_spots_6 := dk_seg dksX4_spots_5 24 rfl rfl
theorem dksX4_spots_7 : cX4_spots.data.toList.drop 165 = dktX4_spots_7 := dk_seg dksX4_spots_6 24 rfl rfl
theorem dX4_spots_0 : decode cX4_spots 0 = .ok (.new 161, 3) := dk_187 0 161 (dk_at dksX4_spots_0 0 rfl rfl)
theorem dX4_spots_3 : decode cX4_spots 3 = .ok (.dup, 1) := dk_89 (dk_at dksX4_spots_0 3 rfl rfl)
theorem dX4_spots_4 : decode cX4_spots 4 = .ok (.invokespecial 166, 3) := dk_183 0 166 (dk_at dksX4_spots_0 4 rfl rfl)
theorem dX4_spots_7 : decode cX4_spots 7 = .ok (.astore_n 3, 1) := dk_78 (dk_at dksX4_spots_0 7 rfl rfl)
theorem dX4_spots_8 : decode cX4_spots 8 = .ok (.aload_n 0, 1) := dk_42 (dk_at dksX4_spots_0 8 rfl rfl)
theorem dX4_spots_9 : decode cX4_spots 9 = .ok (.iload_n 1, 1) := dk_27 (dk_at dksX4_spots_0 9 rfl rfl)
theorem dX4_spots_10 : decode cX4_spots 10 = .ok (.iload_n 2, 1) := dk_28 (dk_at dksX4_spots_0 10 rfl rfl)
theorem dX4_spots_11 : decode cX4_spots 11 = .ok (.invokevirtual 86, 3) := dk_182 0 86 (dk_at dksX4_spots_0 11 rfl rfl)
theorem dX4_spots_14 : decode cX4_spots 14 = .ok (.astore 4, 2) := dk_58 4 (dk_at dksX4_spots_0 14 rfl rfl)
theorem dX4_spots_16 : decode cX4_spots 16 = .ok (.aload 4, 2) := dk_25 4 (dk_at dksX4_spots_0 16 rfl rfl)
theorem dX4_spots_18 : decode cX4_spots 18 = .ok (.ifnonnull 5, 3) := dk_199 0 5 (dk_at dksX4_spots_0 18 rfl rfl)
theorem dX4_spots_21 : decode cX4_spots 21 = .ok (.aload_n 3, 1) := dk_45 (dk_at dksX4_spots_0 21 rfl rfl)
theorem dX4_spots_22 : decode cX4_spots 22 = .ok (.areturn, 1) := dk_176 (dk_at dksX4_spots_0 22 rfl rfl)
theorem dX4_spots_23 : decode cX4_spots 23 = .ok (.aload_n 3, 1) := dk_45 (dk_at dksX4_spots_0 23 rfl rfl)
theorem dX4_spots_24 : decode cX4_spots 24 = .ok (.new 188, 3) := dk_187 0 188 (dk_at dksX4_spots_1 0 rfl rfl)
theorem dX4_spots_27 : decode cX4_spots 27 = .ok (.dup, 1) := dk_89 (dk_at dksX4_spots_1 3 rfl rfl)
theorem dX4_spots_28 : decode cX4_spots 28 = .ok (.bipush 101, 2) := dk_16 101 (dk_at dksX4_spots_1 4 rfl rfl)
theorem dX4_spots_30 : decode cX4_spots 30 = .ok (.iload_n 2, 1) := dk_28 (dk_at dksX4_spots_1 6 rfl rfl)
theorem dX4_spots_31 : decode cX4_spots 31 = .ok (.iconst (-1), 1) := dk_2 (dk_at dksX4_spots_1 7 rfl rfl)
theorem dX4_spots_32 : decode cX4_spots 32 = .ok (.iconst (-1), 1) := dk_2 (dk_at dksX4_spots_1 8 rfl rfl)
theorem dX4_spots_33 : decode cX4_spots 33 = .ok (.invokespecial 190, 3) := dk_183 0 190 (dk_at dksX4_spots_1 9 rfl rfl)
theorem dX4_spots_36 : decode cX4_spots 36 = .ok (.invokevirtual 171, 3) := dk_182 0 171 (dk_at dksX4_spots_1 12 rfl rfl)
theorem dX4_spots_39 : decode cX4_spots 39 = .ok (.pop, 1) := dk_87 (dk_at dksX4_spots_1 15 rfl rfl)
theorem dX4_spots_40 : decode cX4_spots 40 = .ok (.iconst 0, 1) := dk_3 (dk_at dksX4_spots_1 16 rfl rfl)
theorem dX4_spots_41 : decode cX4_spots 41 = .ok (.istore 5, 2) := dk_54 5 (dk_at dksX4_spots_1 17 rfl rfl)
theorem dX4_spots_43 : decode cX4_spots 43 = .ok (.iload 5, 2) := dk_21 5 (dk_at dksX4_spots_1 19 rfl rfl)
theorem dX4_spots_45 : decode cX4_spots 45 = .ok (.aload 4, 2) := dk_25 4 (dk_at dksX4_spots_1 21 rfl rfl)
theorem dX4_spots_47 : decode cX4_spots 47 = .ok (.getfield 90, 3) := dk_180 0 90 (dk_at dksX4_spots_2 0 rfl rfl)
theorem dX4_spots_50 : decode cX4_spots 50 = .ok (.if_icmp .ge 128, 3) := dk_162 0 128 (dk_at dksX4_spots_2 3 rfl rfl)
theorem dX4_spots_53 : decode cX4_spots 53 = .ok (.aload 4, 2) := dk_25 4 (dk_at dksX4_spots_2 6 rfl rfl)
theorem dX4_spots_55 : decode cX4_spots 55 = .ok (.getfield 94, 3) := dk_180 0 94 (dk_at dksX4_spots_2 8 rfl rfl)
theorem dX4_spots_58 : decode cX4_spots 58 = .ok (.iload 5, 2) := dk_21 5 (dk_at dksX4_spots_2 11 rfl rfl)
theorem dX4_spots_60 : decode cX4_spots 60 = .ok (.caload, 1) := dk_52 (dk_at dksX4_spots_2 13 rfl rfl)
theorem dX4_spots_61 : decode cX4_spots 61 = .ok (.istore 6, 2) := dk_54 6 (dk_at dksX4_spots_2 14 rfl rfl)
theorem dX4_spots_63 : decode cX4_spots 63 = .ok (.ldc 193, 2) := dk_18 193 (dk_at dksX4_spots_2 16 rfl rfl)
theorem dX4_spots_65 : decode cX4_spots 65 = .ok (.iload 6, 2) := dk_21 6 (dk_at dksX4_spots_2 18 rfl rfl)
theorem dX4_spots_67 : decode cX4_spots 67 = .ok (.invokestatic 122, 3) := dk_184 0 122 (dk_at dksX4_spots_2 20 rfl rfl)
theorem dX4_spots_70 : decode cX4_spots 70 = .ok (.ifCond .eq 28, 3) := dk_153 0 28 (dk_at dksX4_spots_3 0 rfl rfl)
theorem dX4_spots_73 : decode cX4_spots 73 = .ok (.aload_n 3, 1) := dk_45 (dk_at dksX4_spots_3 3 rfl rfl)
theorem dX4_spots_74 : decode cX4_spots 74 = .ok (.new 188, 3) := dk_187 0 188 (dk_at dksX4_spots_3 4 rfl rfl)
theorem dX4_spots_77 : decode cX4_spots 77 = .ok (.dup, 1) := dk_89 (dk_at dksX4_spots_3 7 rfl rfl)
theorem dX4_spots_78 : decode cX4_spots 78 = .ok (.iload 6, 2) := dk_21 6 (dk_at dksX4_spots_3 8 rfl rfl)
theorem dX4_spots_80 : decode cX4_spots 80 = .ok (.aload 4, 2) := dk_25 4 (dk_at dksX4_spots_3 10 rfl rfl)
theorem dX4_spots_82 : decode cX4_spots 82 = .ok (.getfield 97, 3) := dk_180 0 97 (dk_at dksX4_spots_3 12 rfl rfl)
theorem dX4_spots_85 : decode cX4_spots 85 = .ok (.iload 5, 2) := dk_21 5 (dk_at dksX4_spots_3 15 rfl rfl)
theorem dX4_spots_87 : decode cX4_spots 87 = .ok (.iaload, 1) := dk_46 (dk_at dksX4_spots_3 17 rfl rfl)
theorem dX4_spots_88 : decode cX4_spots 88 = .ok (.iconst (-1), 1) := dk_2 (dk_at dksX4_spots_3 18 rfl rfl)
theorem dX4_spots_89 : decode cX4_spots 89 = .ok (.iload 5, 2) := dk_21 5 (dk_at dksX4_spots_3 19 rfl rfl)
theorem dX4_spots_91 : decode cX4_spots 91 = .ok (.invokespecial 190, 3) := dk_183 0 190 (dk_at dksX4_spots_3 21 rfl rfl)
theorem dX4_spots_94 : decode cX4_spots 94 = .ok (.invokevirtual 171, 3) := dk_182 0 171 (dk_at dksX4_spots_4 0 rfl rfl)
theorem dX4_spots_97 : decode cX4_spots 97 = .ok (.pop, 1) := dk_87 (dk_at dksX4_spots_4 3 rfl rfl)
theorem dX4_spots_98 : decode cX4_spots 98 = .ok (.iload 6, 2) := dk_21 6 (dk_at dksX4_spots_4 4 rfl rfl)
theorem dX4_spots_100 : decode cX4_spots 100 = .ok (.bipush 109, 2) := dk_16 109 (dk_at dksX4_spots_4 6 rfl rfl)
theorem dX4_spots_102 : decode cX4_spots 102 = .ok (.if_icmp .eq 6, 3) := dk_159 0 6 (dk_at dksX4_spots_4 8 rfl rfl)
theorem dX4_spots_105 : decode cX4_spots 105 = .ok (.goto 67, 3) := dk_167 0 67 (dk_at dksX4_spots_4 11 rfl rfl)
theorem dX4_spots_108 : decode cX4_spots 108 = .ok (.aload_n 3, 1) := dk_45 (dk_at dksX4_spots_4 14 rfl rfl)
theorem dX4_spots_109 : decode cX4_spots 109 = .ok (.new 188, 3) := dk_187 0 188 (dk_at dksX4_spots_4 15 rfl rfl)
theorem dX4_spots_112 : decode cX4_spots 112 = .ok (.dup, 1) := dk_89 (dk_at dksX4_spots_4 18 rfl rfl)
theorem dX4_spots_113 : decode cX4_spots 113 = .ok (.bipush 109, 2) := dk_16 109 (dk_at dksX4_spots_4 19 rfl rfl)
theorem dX4_spots_115 : decode cX4_spots 115 = .ok (.aload 4, 2) := dk_25 4 (dk_at dksX4_spots_4 21 rfl rfl)
theorem dX4_spots_117 : decode cX4_spots 117 = .ok (.getfield 97, 3) := dk_180 0 97 (dk_at dksX4_spots_5 0 rfl rfl)
theorem dX4_spots_120 : decode cX4_spots 120 = .ok (.iload 5, 2) := dk_21 5 (dk_at dksX4_spots_5 3 rfl rfl)
theorem dX4_spots_122 : decode cX4_spots 122 = .ok (.iaload, 1) := dk_46 (dk_at dksX4_spots_5 5 rfl rfl)
theorem dX4_spots_123 : decode cX4_spots 123 = .ok (.aload 4, 2) := dk_25 4 (dk_at dksX4_spots_5 6 rfl rfl)
theorem dX4_spots_125 : decode cX4_spots 125 = .ok (.getfield 97, 3) := dk_180 0 97 (dk_at dksX4_spots_5 8 rfl rfl)
theorem dX4_spots_128 : decode cX4_spots 128 = .ok (.iload 5, 2) := dk_21 5 (dk_at dksX4_spots_5 11 rfl rfl)
theorem dX4_spots_130 : decode cX4_spots 130 = .ok (.iaload, 1) := dk_46 (dk_at dksX4_spots_5 13 rfl rfl)
theorem dX4_spots_131 : decode cX4_spots 131 = .ok (.iload 5, 2) := dk_21 5 (dk_at dksX4_spots_5 14 rfl rfl)
theorem dX4_spots_133 : decode cX4_spots 133 = .ok (.invokespecial 190, 3) := dk_183 0 190 (dk_at dksX4_spots_5 16 rfl rfl)
theorem dX4_spots_136 : decode cX4_spots 136 = .ok (.invokevirtual 171, 3) := dk_182 0 171 (dk_at dksX4_spots_5 19 rfl rfl)
theorem dX4_spots_139 : decode cX4_spots 139 = .ok (.pop, 1) := dk_87 (dk_at dksX4_spots_5 22 rfl rfl)
theorem dX4_spots_140 : decode cX4_spots 140 = .ok (.aload_n 3, 1) := dk_45 (dk_at dksX4_spots_5 23 rfl rfl)
theorem dX4_spots_141 : decode cX4_spots 141 = .ok (.new 188, 3) := dk_187 0 188 (dk_at dksX4_spots_6 0 rfl rfl)
theorem dX4_spots_144 : decode cX4_spots 144 = .ok (.dup, 1) := dk_89 (dk_at dksX4_spots_6 3 rfl rfl)
theorem dX4_spots_145 : decode cX4_spots 145 = .ok (.bipush 99, 2) := dk_16 99 (dk_at dksX4_spots_6 4 rfl rfl)
theorem dX4_spots_147 : decode cX4_spots 147 = .ok (.aload 4, 2) := dk_25 4 (dk_at dksX4_spots_6 6 rfl rfl)
theorem dX4_spots_149 : decode cX4_spots 149 = .ok (.getfield 100, 3) := dk_180 0 100 (dk_at dksX4_spots_6 8 rfl rfl)
theorem dX4_spots_152 : decode cX4_spots 152 = .ok (.iload 5, 2) := dk_21 5 (dk_at dksX4_spots_6 11 rfl rfl)
theorem dX4_spots_154 : decode cX4_spots 154 = .ok (.iaload, 1) := dk_46 (dk_at dksX4_spots_6 13 rfl rfl)
theorem dX4_spots_155 : decode cX4_spots 155 = .ok (.aload 4, 2) := dk_25 4 (dk_at dksX4_spots_6 14 rfl rfl)
theorem dX4_spots_157 : decode cX4_spots 157 = .ok (.getfield 97, 3) := dk_180 0 97 (dk_at dksX4_spots_6 16 rfl rfl)
theorem dX4_spots_160 : decode cX4_spots 160 = .ok (.iload 5, 2) := dk_21 5 (dk_at dksX4_spots_6 19 rfl rfl)
theorem dX4_spots_162 : decode cX4_spots 162 = .ok (.iaload, 1) := dk_46 (dk_at dksX4_spots_6 21 rfl rfl)
theorem dX4_spots_163 : decode cX4_spots 163 = .ok (.iload 5, 2) := dk_21 5 (dk_at dksX4_spots_6 22 rfl rfl)
theorem dX4_spots_165 : decode cX4_spots 165 = .ok (.invokespecial 190, 3) := dk_183 0 190 (dk_at dksX4_spots_7 0 rfl rfl)
theorem dX4_spots_168 : decode cX4_spots 168 = .ok (.invokevirtual 171, 3) := dk_182 0 171 (dk_at dksX4_spots_7 3 rfl rfl)
theorem dX4_spots_171 : decode cX4_spots 171 = .ok (.pop, 1) := dk_87 (dk_at dksX4_spots_7 6 rfl rfl)
theorem dX4_spots_172 : decode cX4_spots 172 = .ok (.iinc 5 1, 3) := dk_132 5 1 (dk_at dksX4_spots_7 7 rfl rfl)
theorem dX4_spots_175 : decode cX4_spots 175 = .ok (.goto (-132), 3) := dk_167 255 124 (dk_at dksX4_spots_7 10 rfl rfl)
theorem dX4_spots_178 : decode cX4_spots 178 = .ok (.aload_n 3, 1) := dk_45 (dk_at dksX4_spots_7 13 rfl rfl)
theorem dX4_spots_179 : decode cX4_spots 179 = .ok (.areturn, 1) := dk_176 (dk_at dksX4_spots_7 14 rfl rfl)
abbrev cX4_match : ByteArray := prog_24_method_39_code
def yX4_match : MethodName := ⟨RX4, "match", "(IIII)C"⟩
def dkwX4_match_4 : List UInt8 := [182, 0, 221, 172]
abbrev dktX4_match_4 : List UInt8 := dkwX4_match_4 ++ []
def dkwX4_match_3 : List UInt8 := [42, 27, 28, 182, 0, 232, 29, 182, 0, 181, 192, 0, 188, 27, 28, 42, 180, 0, 28, 21, 4, 46]
abbrev dktX4_match_3 : List UInt8 := dkwX4_match_3 ++ dktX4_match_4
def dkwX4_match_2 : List UInt8 := [154, 0, 7, 6, 167, 0, 4, 3, 181, 0, 51, 42, 180, 0, 51, 158, 0, 8, 16, 32, 167, 0, 29, 42]
abbrev dktX4_match_2 : List UInt8 := dkwX4_match_2 ++ dktX4_match_3
def dkwX4_match_1 : List UInt8 := [182, 0, 232, 182, 0, 178, 4, 100, 184, 0, 71, 154, 0, 7, 5, 167, 0, 17, 42, 21, 4, 182, 0, 147]
abbrev dktX4_match_1 : List UInt8 := dkwX4_match_1 ++ dktX4_match_2
def dkwX4_match_0 : List UInt8 := [42, 42, 27, 28, 182, 0, 103, 181, 0, 51, 42, 180, 0, 51, 154, 0, 44, 42, 29, 3, 42, 27, 28]
abbrev dktX4_match_0 : List UInt8 := dkwX4_match_0 ++ dktX4_match_1
theorem dksX4_match_0 : cX4_match.data.toList.drop 0 = dktX4_match_0 := by decide +kernel
theorem dksX4_match_1 : cX4_match.data.toList.drop 23 = dktX4_match_1 := dk_seg dksX4_match_0 23 rfl rfl
theorem dksX4_match_2 : cX4_match.data.toList.drop 47 = dktX4_match_2 := dk_seg dksX4_match_1 24 rfl rfl
theorem dksX4_match_3 : cX4_match.data.toList.drop 71 = dktX4_match_3 := dk_seg dksX4_match_2 24 rfl rfl
theorem dksX4_match_4 : cX4_match.data.toList.drop 93 = dktX4_match_4 := dk_seg dksX4_match_3 22 rfl rfl
theorem dX4_match_0 : decode cX4_match 0 = .ok (.aload_n 0, 1) := dk_42 (dk_at dksX4_match_0 0 rfl rfl)
theorem dX4_match_1 : decode cX4_match 1 = .ok (.aload_n 0, 1) := dk_42 (dk_at dksX4_match_0 1 rfl rfl)
theorem dX4_match_2 : decode cX4_match 2 = .ok (.iload_n 1, 1) := dk_27 (dk_at dksX4_match_0 2 rfl rfl)
theorem dX4_match_3 : decode cX4_match 3 = .ok (.iload_n 2, 1) := dk_28 (dk_at dksX4_match_0 3 rfl rfl)
theorem dX4_match_4 : decode cX4_match 4 = .ok (.invokevirtual 103, 3) := dk_182 0 103 (dk_at dksX4_match_0 4 rfl rfl)
theorem dX4_match_7 : decode cX4_match 7 = .ok (.putfield 51, 3) := dk_181 0 51 (dk_at dksX4_match_0 7 rfl rfl)
theorem dX4_match_10 : decode cX4_match 10 = .ok (.aload_n 0, 1) := dk_42 (dk_at dksX4_match_0 10 rfl rfl)
theorem dX4_match_11 : decode cX4_match 11 = .ok (.getfield 51, 3) := dk_180 0 51 (dk_at dksX4_match_0 11 rfl rfl)
theorem dX4_match_14 : decode cX4_match 14 = .ok (.ifCond .ne 44, 3) := dk_154 0 44 (dk_at dksX4_match_0 14 rfl rfl)
theorem dX4_match_17 : decode cX4_match 17 = .ok (.aload_n 0, 1) := dk_42 (dk_at dksX4_match_0 17 rfl rfl)
theorem dX4_match_18 : decode cX4_match 18 = .ok (.iload_n 3, 1) := dk_29 (dk_at dksX4_match_0 18 rfl rfl)
theorem dX4_match_19 : decode cX4_match 19 = .ok (.iconst 0, 1) := dk_3 (dk_at dksX4_match_0 19 rfl rfl)
theorem dX4_match_20 : decode cX4_match 20 = .ok (.aload_n 0, 1) := dk_42 (dk_at dksX4_match_0 20 rfl rfl)
theorem dX4_match_21 : decode cX4_match 21 = .ok (.iload_n 1, 1) := dk_27 (dk_at dksX4_match_0 21 rfl rfl)
theorem dX4_match_22 : decode cX4_match 22 = .ok (.iload_n 2, 1) := dk_28 (dk_at dksX4_match_0 22 rfl rfl)
theorem dX4_match_23 : decode cX4_match 23 = .ok (.invokevirtual 232, 3) := dk_182 0 232 (dk_at dksX4_match_1 0 rfl rfl)
theorem dX4_match_26 : decode cX4_match 26 = .ok (.invokevirtual 178, 3) := dk_182 0 178 (dk_at dksX4_match_1 3 rfl rfl)
theorem dX4_match_29 : decode cX4_match 29 = .ok (.iconst 1, 1) := dk_4 (dk_at dksX4_match_1 6 rfl rfl)
theorem dX4_match_30 : decode cX4_match 30 = .ok (.isub, 1) := dk_100 (dk_at dksX4_match_1 7 rfl rfl)
theorem dX4_match_31 : decode cX4_match 31 = .ok (.invokestatic 71, 3) := dk_184 0 71 (dk_at dksX4_match_1 8 rfl rfl)
theorem dX4_match_34 : decode cX4_match 34 = .ok (.ifCond .ne 7, 3) := dk_154 0 7 (dk_at dksX4_match_1 11 rfl rfl)
theorem dX4_match_37 : decode cX4_match 37 = .ok (.iconst 2, 1) := dk_5 (dk_at dksX4_match_1 14 rfl rfl)
theorem dX4_match_38 : decode cX4_match 38 = .ok (.goto 17, 3) := dk_167 0 17 (dk_at dksX4_match_1 15 rfl rfl)
theorem dX4_match_41 : decode cX4_match 41 = .ok (.aload_n 0, 1) := dk_42 (dk_at dksX4_match_1 18 rfl rfl)
theorem dX4_match_42 : decode cX4_match 42 = .ok (.iload 4, 2) := dk_21 4 (dk_at dksX4_match_1 19 rfl rfl)
theorem dX4_match_44 : decode cX4_match 44 = .ok (.invokevirtual 147, 3) := dk_182 0 147 (dk_at dksX4_match_1 21 rfl rfl)
theorem dX4_match_47 : decode cX4_match 47 = .ok (.ifCond .ne 7, 3) := dk_154 0 7 (dk_at dksX4_match_2 0 rfl rfl)
theorem dX4_match_50 : decode cX4_match 50 = .ok (.iconst 3, 1) := dk_6 (dk_at dksX4_match_2 3 rfl rfl)
theorem dX4_match_51 : decode cX4_match 51 = .ok (.goto 4, 3) := dk_167 0 4 (dk_at dksX4_match_2 4 rfl rfl)
theorem dX4_match_54 : decode cX4_match 54 = .ok (.iconst 0, 1) := dk_3 (dk_at dksX4_match_2 7 rfl rfl)
theorem dX4_match_55 : decode cX4_match 55 = .ok (.putfield 51, 3) := dk_181 0 51 (dk_at dksX4_match_2 8 rfl rfl)
theorem dX4_match_58 : decode cX4_match 58 = .ok (.aload_n 0, 1) := dk_42 (dk_at dksX4_match_2 11 rfl rfl)
theorem dX4_match_59 : decode cX4_match 59 = .ok (.getfield 51, 3) := dk_180 0 51 (dk_at dksX4_match_2 12 rfl rfl)
theorem dX4_match_62 : decode cX4_match 62 = .ok (.ifCond .le 8, 3) := dk_158 0 8 (dk_at dksX4_match_2 15 rfl rfl)
theorem dX4_match_65 : decode cX4_match 65 = .ok (.bipush 32, 2) := dk_16 32 (dk_at dksX4_match_2 18 rfl rfl)
theorem dX4_match_67 : decode cX4_match 67 = .ok (.goto 29, 3) := dk_167 0 29 (dk_at dksX4_match_2 20 rfl rfl)
theorem dX4_match_70 : decode cX4_match 70 = .ok (.aload_n 0, 1) := dk_42 (dk_at dksX4_match_2 23 rfl rfl)
theorem dX4_match_71 : decode cX4_match 71 = .ok (.aload_n 0, 1) := dk_42 (dk_at dksX4_match_3 0 rfl rfl)
theorem dX4_match_72 : decode cX4_match 72 = .ok (.iload_n 1, 1) := dk_27 (dk_at dksX4_match_3 1 rfl rfl)
theorem dX4_match_73 : decode cX4_match 73 = .ok (.iload_n 2, 1) := dk_28 (dk_at dksX4_match_3 2 rfl rfl)
theorem dX4_match_74 : decode cX4_match 74 = .ok (.invokevirtual 232, 3) := dk_182 0 232 (dk_at dksX4_match_3 3 rfl rfl)
theorem dX4_match_77 : decode cX4_match 77 = .ok (.iload_n 3, 1) := dk_29 (dk_at dksX4_match_3 6 rfl rfl)
theorem dX4_match_78 : decode cX4_match 78 = .ok (.invokevirtual 181, 3) := dk_182 0 181 (dk_at dksX4_match_3 7 rfl rfl)
theorem dX4_match_81 : decode cX4_match 81 = .ok (.checkcast 188, 3) := dk_192 0 188 (dk_at dksX4_match_3 10 rfl rfl)
theorem dX4_match_84 : decode cX4_match 84 = .ok (.iload_n 1, 1) := dk_27 (dk_at dksX4_match_3 13 rfl rfl)
theorem dX4_match_85 : decode cX4_match 85 = .ok (.iload_n 2, 1) := dk_28 (dk_at dksX4_match_3 14 rfl rfl)
theorem dX4_match_86 : decode cX4_match 86 = .ok (.aload_n 0, 1) := dk_42 (dk_at dksX4_match_3 15 rfl rfl)
theorem dX4_match_87 : decode cX4_match 87 = .ok (.getfield 28, 3) := dk_180 0 28 (dk_at dksX4_match_3 16 rfl rfl)
theorem dX4_match_90 : decode cX4_match 90 = .ok (.iload 4, 2) := dk_21 4 (dk_at dksX4_match_3 19 rfl rfl)
theorem dX4_match_92 : decode cX4_match 92 = .ok (.iaload, 1) := dk_46 (dk_at dksX4_match_3 21 rfl rfl)
theorem dX4_match_93 : decode cX4_match 93 = .ok (.invokevirtual 221, 3) := dk_182 0 221 (dk_at dksX4_match_4 0 rfl rfl)
theorem dX4_match_96 : decode cX4_match 96 = .ok (.ireturn, 1) := dk_172 (dk_at dksX4_match_4 3 rfl rfl)
abbrev cX4_matches : ByteArray := prog_24_method_35_code
def yX4_matches : MethodName := ⟨RX4, "matches", "(LWeaversgateModel$Spot;III)C"⟩
def dkwX4_matches_7 : List UInt8 := [21, 5, 160, 0, 7, 4, 167, 0, 4, 3, 184, 0, 209, 172]
abbrev dktX4_matches_7 : List UInt8 := dkwX4_matches_7 ++ []
def dkwX4_matches_6 : List UInt8 := [43, 28, 29, 42, 180, 0, 22, 21, 4, 46, 182, 0, 221, 184, 0, 228, 167, 0, 20, 43, 182, 0, 202]
abbrev dktX4_matches_6 : List UInt8 := dkwX4_matches_6 ++ dktX4_matches_7
def dkwX4_matches_5 : List UInt8 := [29, 21, 6, 182, 0, 221, 184, 0, 224, 167, 0, 51, 21, 5, 42, 43, 28, 29, 21, 6, 182, 0, 221, 42]
abbrev dktX4_matches_5 : List UInt8 := dkwX4_matches_5 ++ dktX4_matches_6
def dkwX4_matches_4 : List UInt8 := [29, 21, 6, 182, 0, 221, 16, 121, 160, 0, 8, 16, 121, 167, 0, 71, 16, 109, 167, 0, 66, 42, 43, 28]
abbrev dktX4_matches_4 : List UInt8 := dkwX4_matches_4 ++ dktX4_matches_5
def dkwX4_matches_3 : List UInt8 := [21, 6, 160, 0, 7, 4, 167, 0, 4, 3, 184, 0, 209, 167, 0, 95, 16, 109, 167, 0, 90, 42, 43, 28]
abbrev dktX4_matches_3 : List UInt8 := dkwX4_matches_3 ++ dktX4_matches_4
def dkwX4_matches_2 : List UInt8 := [42, 43, 21, 6, 182, 0, 213, 167, 0, 124, 42, 43, 28, 29, 21, 6, 182, 0, 217, 167, 0, 112, 28]
abbrev dktX4_matches_2 : List UInt8 := dkwX4_matches_2 ++ dktX4_matches_3
def dkwX4_matches_1 : List UInt8 := [171, 0, 0, 0, 0, 0, 0, 190, 0, 0, 0, 8, 0, 0, 0, 33, 0, 0, 0, 144, 0, 0, 0, 38, 0, 0, 0, 159, 0, 0, 0, 102, 0, 0, 0, 120, 0, 0, 0, 110, 0, 0, 0, 76, 0, 0, 0, 116, 0, 0, 0, 86, 0, 0, 0, 118, 0, 0, 0, 115, 0, 0, 0, 119, 0, 0, 0, 98, 0, 0, 0, 124, 0, 0, 0, 159]
abbrev dktX4_matches_1 : List UInt8 := dkwX4_matches_1 ++ dktX4_matches_2
def dkwX4_matches_0 : List UInt8 := [42, 180, 0, 37, 21, 4, 52, 54, 5, 42, 180, 0, 19, 21, 4, 46, 54, 6, 21, 5]
abbrev dktX4_matches_0 : List UInt8 := dkwX4_matches_0 ++ dktX4_matches_1
theorem dksX4_matches_0 : cX4_matches.data.toList.drop 0 = dktX4_matches_0 := by decide +kernel
theorem dksX4_matches_1 : cX4_matches.data.toList.drop 20 = dktX4_matches_1 := dk_seg dksX4_matches_0 20 rfl rfl
theorem dksX4_matches_2 : cX4_matches.data.toList.drop 96 = dktX4_matches_2 := dk_seg dksX4_matches_1 76 rfl rfl
theorem dksX4_matches_3 : cX4_matches.data.toList.drop 119 = dktX4_matches_3 := dk_seg dksX4_matches_2 23 rfl rfl
theorem dksX4_matches_4 : cX4_matches.data.toList.drop 143 = dktX4_matches_4 := dk_seg dksX4_matches_3 24 rfl rfl
theorem dksX4_matches_5 : cX4_matches.data.toList.drop 167 = dktX4_matches_5 := dk_seg dksX4_matches_4 24 rfl rfl
theorem dksX4_matches_6 : cX4_matches.data.toList.drop 191 = dktX4_matches_6 := dk_seg dksX4_matches_5 24 rfl rfl
theorem dksX4_matches_7 : cX4_matches.data.toList.drop 214 = dktX4_matches_7 := dk_seg dksX4_matches_6 23 rfl rfl
theorem dX4_matches_0 : decode cX4_matches 0 = .ok (.aload_n 0, 1) := dk_42 (dk_at dksX4_matches_0 0 rfl rfl)
theorem dX4_matches_1 : decode cX4_matches 1 = .ok (.getfield 37, 3) := dk_180 0 37 (dk_at dksX4_matches_0 1 rfl rfl)
theorem dX4_matches_4 : decode cX4_matches 4 = .ok (.iload 4, 2) := dk_21 4 (dk_at dksX4_matches_0 4 rfl rfl)
theorem dX4_matches_6 : decode cX4_matches 6 = .ok (.caload, 1) := dk_52 (dk_at dksX4_matches_0 6 rfl rfl)
theorem dX4_matches_7 : decode cX4_matches 7 = .ok (.istore 5, 2) := dk_54 5 (dk_at dksX4_matches_0 7 rfl rfl)
theorem dX4_matches_9 : decode cX4_matches 9 = .ok (.aload_n 0, 1) := dk_42 (dk_at dksX4_matches_0 9 rfl rfl)
theorem dX4_matches_10 : decode cX4_matches 10 = .ok (.getfield 19, 3) := dk_180 0 19 (dk_at dksX4_matches_0 10 rfl rfl)
theorem dX4_matches_13 : decode cX4_matches 13 = .ok (.iload 4, 2) := dk_21 4 (dk_at dksX4_matches_0 13 rfl rfl)
theorem dX4_matches_15 : decode cX4_matches 15 = .ok (.iaload, 1) := dk_46 (dk_at dksX4_matches_0 15 rfl rfl)
theorem dX4_matches_16 : decode cX4_matches 16 = .ok (.istore 6, 2) := dk_54 6 (dk_at dksX4_matches_0 16 rfl rfl)
theorem dX4_matches_18 : decode cX4_matches 18 = .ok (.iload 5, 2) := dk_21 5 (dk_at dksX4_matches_0 18 rfl rfl)
theorem dX4_matches_20 : decode cX4_matches 20 = .ok (.lookupswitch 190 #[(33, 144), (38, 159), (102, 120), (110, 76), (116, 86), (118, 115), (119, 98), (124, 159)], 76) := by decide +kernel
theorem dX4_matches_96 : decode cX4_matches 96 = .ok (.aload_n 0, 1) := dk_42 (dk_at dksX4_matches_2 0 rfl rfl)
theorem dX4_matches_97 : decode cX4_matches 97 = .ok (.aload_n 1, 1) := dk_43 (dk_at dksX4_matches_2 1 rfl rfl)
theorem dX4_matches_98 : decode cX4_matches 98 = .ok (.iload 6, 2) := dk_21 6 (dk_at dksX4_matches_2 2 rfl rfl)
theorem dX4_matches_100 : decode cX4_matches 100 = .ok (.invokevirtual 213, 3) := dk_182 0 213 (dk_at dksX4_matches_2 4 rfl rfl)
theorem dX4_matches_103 : decode cX4_matches 103 = .ok (.goto 124, 3) := dk_167 0 124 (dk_at dksX4_matches_2 7 rfl rfl)
theorem dX4_matches_106 : decode cX4_matches 106 = .ok (.aload_n 0, 1) := dk_42 (dk_at dksX4_matches_2 10 rfl rfl)
theorem dX4_matches_107 : decode cX4_matches 107 = .ok (.aload_n 1, 1) := dk_43 (dk_at dksX4_matches_2 11 rfl rfl)
theorem dX4_matches_108 : decode cX4_matches 108 = .ok (.iload_n 2, 1) := dk_28 (dk_at dksX4_matches_2 12 rfl rfl)
theorem dX4_matches_109 : decode cX4_matches 109 = .ok (.iload_n 3, 1) := dk_29 (dk_at dksX4_matches_2 13 rfl rfl)
theorem dX4_matches_110 : decode cX4_matches 110 = .ok (.iload 6, 2) := dk_21 6 (dk_at dksX4_matches_2 14 rfl rfl)
theorem dX4_matches_112 : decode cX4_matches 112 = .ok (.invokevirtual 217, 3) := dk_182 0 217 (dk_at dksX4_matches_2 16 rfl rfl)
theorem dX4_matches_115 : decode cX4_matches 115 = .ok (.goto 112, 3) := dk_167 0 112 (dk_at dksX4_matches_2 19 rfl rfl)
theorem dX4_matches_118 : decode cX4_matches 118 = .ok (.iload_n 2, 1) := dk_28 (dk_at dksX4_matches_2 22 rfl rfl)
theorem dX4_matches_119 : decode cX4_matches 119 = .ok (.iload 6, 2) := dk_21 6 (dk_at dksX4_matches_3 0 rfl rfl)
theorem dX4_matches_121 : decode cX4_matches 121 = .ok (.if_icmp .ne 7, 3) := dk_160 0 7 (dk_at dksX4_matches_3 2 rfl rfl)
theorem dX4_matches_124 : decode cX4_matches 124 = .ok (.iconst 1, 1) := dk_4 (dk_at dksX4_matches_3 5 rfl rfl)
theorem dX4_matches_125 : decode cX4_matches 125 = .ok (.goto 4, 3) := dk_167 0 4 (dk_at dksX4_matches_3 6 rfl rfl)
theorem dX4_matches_128 : decode cX4_matches 128 = .ok (.iconst 0, 1) := dk_3 (dk_at dksX4_matches_3 9 rfl rfl)
theorem dX4_matches_129 : decode cX4_matches 129 = .ok (.invokestatic 209, 3) := dk_184 0 209 (dk_at dksX4_matches_3 10 rfl rfl)
theorem dX4_matches_132 : decode cX4_matches 132 = .ok (.goto 95, 3) := dk_167 0 95 (dk_at dksX4_matches_3 13 rfl rfl)
theorem dX4_matches_135 : decode cX4_matches 135 = .ok (.bipush 109, 2) := dk_16 109 (dk_at dksX4_matches_3 16 rfl rfl)
theorem dX4_matches_137 : decode cX4_matches 137 = .ok (.goto 90, 3) := dk_167 0 90 (dk_at dksX4_matches_3 18 rfl rfl)
theorem dX4_matches_140 : decode cX4_matches 140 = .ok (.aload_n 0, 1) := dk_42 (dk_at dksX4_matches_3 21 rfl rfl)
theorem dX4_matches_141 : decode cX4_matches 141 = .ok (.aload_n 1, 1) := dk_43 (dk_at dksX4_matches_3 22 rfl rfl)
theorem dX4_matches_142 : decode cX4_matches 142 = .ok (.iload_n 2, 1) := dk_28 (dk_at dksX4_matches_3 23 rfl rfl)
theorem dX4_matches_143 : decode cX4_matches 143 = .ok (.iload_n 3, 1) := dk_29 (dk_at dksX4_matches_4 0 rfl rfl)
theorem dX4_matches_144 : decode cX4_matches 144 = .ok (.iload 6, 2) := dk_21 6 (dk_at dksX4_matches_4 1 rfl rfl)
theorem dX4_matches_146 : decode cX4_matches 146 = .ok (.invokevirtual 221, 3) := dk_182 0 221 (dk_at dksX4_matches_4 3 rfl rfl)
theorem dX4_matches_149 : decode cX4_matches 149 = .ok (.bipush 121, 2) := dk_16 121 (dk_at dksX4_matches_4 6 rfl rfl)
theorem dX4_matches_151 : decode cX4_matches 151 = .ok (.if_icmp .ne 8, 3) := dk_160 0 8 (dk_at dksX4_matches_4 8 rfl rfl)
theorem dX4_matches_154 : decode cX4_matches 154 = .ok (.bipush 121, 2) := dk_16 121 (dk_at dksX4_matches_4 11 rfl rfl)
theorem dX4_matches_156 : decode cX4_matches 156 = .ok (.goto 71, 3) := dk_167 0 71 (dk_at dksX4_matches_4 13 rfl rfl)
theorem dX4_matches_159 : decode cX4_matches 159 = .ok (.bipush 109, 2) := dk_16 109 (dk_at dksX4_matches_4 16 rfl rfl)
theorem dX4_matches_161 : decode cX4_matches 161 = .ok (.goto 66, 3) := dk_167 0 66 (dk_at dksX4_matches_4 18 rfl rfl)
theorem dX4_matches_164 : decode cX4_matches 164 = .ok (.aload_n 0, 1) := dk_42 (dk_at dksX4_matches_4 21 rfl rfl)
theorem dX4_matches_165 : decode cX4_matches 165 = .ok (.aload_n 1, 1) := dk_43 (dk_at dksX4_matches_4 22 rfl rfl)
theorem dX4_matches_166 : decode cX4_matches 166 = .ok (.iload_n 2, 1) := dk_28 (dk_at dksX4_matches_4 23 rfl rfl)
theorem dX4_matches_167 : decode cX4_matches 167 = .ok (.iload_n 3, 1) := dk_29 (dk_at dksX4_matches_5 0 rfl rfl)
theorem dX4_matches_168 : decode cX4_matches 168 = .ok (.iload 6, 2) := dk_21 6 (dk_at dksX4_matches_5 1 rfl rfl)
theorem dX4_matches_170 : decode cX4_matches 170 = .ok (.invokevirtual 221, 3) := dk_182 0 221 (dk_at dksX4_matches_5 3 rfl rfl)
theorem dX4_matches_173 : decode cX4_matches 173 = .ok (.invokestatic 224, 3) := dk_184 0 224 (dk_at dksX4_matches_5 6 rfl rfl)
theorem dX4_matches_176 : decode cX4_matches 176 = .ok (.goto 51, 3) := dk_167 0 51 (dk_at dksX4_matches_5 9 rfl rfl)
theorem dX4_matches_179 : decode cX4_matches 179 = .ok (.iload 5, 2) := dk_21 5 (dk_at dksX4_matches_5 12 rfl rfl)
theorem dX4_matches_181 : decode cX4_matches 181 = .ok (.aload_n 0, 1) := dk_42 (dk_at dksX4_matches_5 14 rfl rfl)
theorem dX4_matches_182 : decode cX4_matches 182 = .ok (.aload_n 1, 1) := dk_43 (dk_at dksX4_matches_5 15 rfl rfl)
theorem dX4_matches_183 : decode cX4_matches 183 = .ok (.iload_n 2, 1) := dk_28 (dk_at dksX4_matches_5 16 rfl rfl)
theorem dX4_matches_184 : decode cX4_matches 184 = .ok (.iload_n 3, 1) := dk_29 (dk_at dksX4_matches_5 17 rfl rfl)
theorem dX4_matches_185 : decode cX4_matches 185 = .ok (.iload 6, 2) := dk_21 6 (dk_at dksX4_matches_5 18 rfl rfl)
theorem dX4_matches_187 : decode cX4_matches 187 = .ok (.invokevirtual 221, 3) := dk_182 0 221 (dk_at dksX4_matches_5 20 rfl rfl)
theorem dX4_matches_190 : decode cX4_matches 190 = .ok (.aload_n 0, 1) := dk_42 (dk_at dksX4_matches_5 23 rfl rfl)
theorem dX4_matches_191 : decode cX4_matches 191 = .ok (.aload_n 1, 1) := dk_43 (dk_at dksX4_matches_6 0 rfl rfl)
theorem dX4_matches_192 : decode cX4_matches 192 = .ok (.iload_n 2, 1) := dk_28 (dk_at dksX4_matches_6 1 rfl rfl)
theorem dX4_matches_193 : decode cX4_matches 193 = .ok (.iload_n 3, 1) := dk_29 (dk_at dksX4_matches_6 2 rfl rfl)
theorem dX4_matches_194 : decode cX4_matches 194 = .ok (.aload_n 0, 1) := dk_42 (dk_at dksX4_matches_6 3 rfl rfl)
theorem dX4_matches_195 : decode cX4_matches 195 = .ok (.getfield 22, 3) := dk_180 0 22 (dk_at dksX4_matches_6 4 rfl rfl)
theorem dX4_matches_198 : decode cX4_matches 198 = .ok (.iload 4, 2) := dk_21 4 (dk_at dksX4_matches_6 7 rfl rfl)
theorem dX4_matches_200 : decode cX4_matches 200 = .ok (.iaload, 1) := dk_46 (dk_at dksX4_matches_6 9 rfl rfl)
theorem dX4_matches_201 : decode cX4_matches 201 = .ok (.invokevirtual 221, 3) := dk_182 0 221 (dk_at dksX4_matches_6 10 rfl rfl)
theorem dX4_matches_204 : decode cX4_matches 204 = .ok (.invokestatic 228, 3) := dk_184 0 228 (dk_at dksX4_matches_6 13 rfl rfl)
theorem dX4_matches_207 : decode cX4_matches 207 = .ok (.goto 20, 3) := dk_167 0 20 (dk_at dksX4_matches_6 16 rfl rfl)
theorem dX4_matches_210 : decode cX4_matches 210 = .ok (.aload_n 1, 1) := dk_43 (dk_at dksX4_matches_6 19 rfl rfl)
theorem dX4_matches_211 : decode cX4_matches 211 = .ok (.invokevirtual 202, 3) := dk_182 0 202 (dk_at dksX4_matches_6 20 rfl rfl)
theorem dX4_matches_214 : decode cX4_matches 214 = .ok (.iload 5, 2) := dk_21 5 (dk_at dksX4_matches_7 0 rfl rfl)
theorem dX4_matches_216 : decode cX4_matches 216 = .ok (.if_icmp .ne 7, 3) := dk_160 0 7 (dk_at dksX4_matches_7 2 rfl rfl)
theorem dX4_matches_219 : decode cX4_matches 219 = .ok (.iconst 1, 1) := dk_4 (dk_at dksX4_matches_7 5 rfl rfl)
theorem dX4_matches_220 : decode cX4_matches 220 = .ok (.goto 4, 3) := dk_167 0 4 (dk_at dksX4_matches_7 6 rfl rfl)
theorem dX4_matches_223 : decode cX4_matches 223 = .ok (.iconst 0, 1) := dk_3 (dk_at dksX4_matches_7 9 rfl rfl)
theorem dX4_matches_224 : decode cX4_matches 224 = .ok (.invokestatic 209, 3) := dk_184 0 209 (dk_at dksX4_matches_7 10 rfl rfl)
theorem dX4_matches_227 : decode cX4_matches 227 = .ok (.ireturn, 1) := dk_172 (dk_at dksX4_matches_7 13 rfl rfl)
abbrev cX4_nameMatch : ByteArray := prog_24_method_34_code
def yX4_nameMatch : MethodName := ⟨RX4, "nameMatch", "(LWeaversgateModel$Spot;I)C"⟩
def dkwX4_nameMatch_1 : List UInt8 := [184, 0, 209, 167, 0, 18, 28, 43, 182, 0, 206, 163, 0, 8, 16, 109, 167, 0, 5, 16, 110, 172]
abbrev dktX4_nameMatch_1 : List UInt8 := dkwX4_nameMatch_1 ++ []
def dkwX4_nameMatch_0 : List UInt8 := [43, 182, 0, 202, 16, 104, 159, 0, 22, 43, 182, 0, 206, 28, 160, 0, 7, 4, 167, 0, 4, 3]
abbrev dktX4_nameMatch_0 : List UInt8 := dkwX4_nameMatch_0 ++ dktX4_nameMatch_1
theorem dksX4_nameMatch_0 : cX4_nameMatch.data.toList.drop 0 = dktX4_nameMatch_0 := by decide +kernel
theorem dksX4_nameMatch_1 : cX4_nameMatch.data.toList.drop 22 = dktX4_nameMatch_1 := dk_seg dksX4_nameMatch_0 22 rfl rfl
theorem dX4_nameMatch_0 : decode cX4_nameMatch 0 = .ok (.aload_n 1, 1) := dk_43 (dk_at dksX4_nameMatch_0 0 rfl rfl)
theorem dX4_nameMatch_1 : decode cX4_nameMatch 1 = .ok (.invokevirtual 202, 3) := dk_182 0 202 (dk_at dksX4_nameMatch_0 1 rfl rfl)
theorem dX4_nameMatch_4 : decode cX4_nameMatch 4 = .ok (.bipush 104, 2) := dk_16 104 (dk_at dksX4_nameMatch_0 4 rfl rfl)
theorem dX4_nameMatch_6 : decode cX4_nameMatch 6 = .ok (.if_icmp .eq 22, 3) := dk_159 0 22 (dk_at dksX4_nameMatch_0 6 rfl rfl)
theorem dX4_nameMatch_9 : decode cX4_nameMatch 9 = .ok (.aload_n 1, 1) := dk_43 (dk_at dksX4_nameMatch_0 9 rfl rfl)
theorem dX4_nameMatch_10 : decode cX4_nameMatch 10 = .ok (.invokevirtual 206, 3) := dk_182 0 206 (dk_at dksX4_nameMatch_0 10 rfl rfl)
theorem dX4_nameMatch_13 : decode cX4_nameMatch 13 = .ok (.iload_n 2, 1) := dk_28 (dk_at dksX4_nameMatch_0 13 rfl rfl)
theorem dX4_nameMatch_14 : decode cX4_nameMatch 14 = .ok (.if_icmp .ne 7, 3) := dk_160 0 7 (dk_at dksX4_nameMatch_0 14 rfl rfl)
theorem dX4_nameMatch_17 : decode cX4_nameMatch 17 = .ok (.iconst 1, 1) := dk_4 (dk_at dksX4_nameMatch_0 17 rfl rfl)
theorem dX4_nameMatch_18 : decode cX4_nameMatch 18 = .ok (.goto 4, 3) := dk_167 0 4 (dk_at dksX4_nameMatch_0 18 rfl rfl)
theorem dX4_nameMatch_21 : decode cX4_nameMatch 21 = .ok (.iconst 0, 1) := dk_3 (dk_at dksX4_nameMatch_0 21 rfl rfl)
theorem dX4_nameMatch_22 : decode cX4_nameMatch 22 = .ok (.invokestatic 209, 3) := dk_184 0 209 (dk_at dksX4_nameMatch_1 0 rfl rfl)
theorem dX4_nameMatch_25 : decode cX4_nameMatch 25 = .ok (.goto 18, 3) := dk_167 0 18 (dk_at dksX4_nameMatch_1 3 rfl rfl)
theorem dX4_nameMatch_28 : decode cX4_nameMatch 28 = .ok (.iload_n 2, 1) := dk_28 (dk_at dksX4_nameMatch_1 6 rfl rfl)
theorem dX4_nameMatch_29 : decode cX4_nameMatch 29 = .ok (.aload_n 1, 1) := dk_43 (dk_at dksX4_nameMatch_1 7 rfl rfl)
theorem dX4_nameMatch_30 : decode cX4_nameMatch 30 = .ok (.invokevirtual 206, 3) := dk_182 0 206 (dk_at dksX4_nameMatch_1 8 rfl rfl)
theorem dX4_nameMatch_33 : decode cX4_nameMatch 33 = .ok (.if_icmp .gt 8, 3) := dk_163 0 8 (dk_at dksX4_nameMatch_1 11 rfl rfl)
theorem dX4_nameMatch_36 : decode cX4_nameMatch 36 = .ok (.bipush 109, 2) := dk_16 109 (dk_at dksX4_nameMatch_1 14 rfl rfl)
theorem dX4_nameMatch_38 : decode cX4_nameMatch 38 = .ok (.goto 5, 3) := dk_167 0 5 (dk_at dksX4_nameMatch_1 16 rfl rfl)
theorem dX4_nameMatch_41 : decode cX4_nameMatch 41 = .ok (.bipush 110, 2) := dk_16 110 (dk_at dksX4_nameMatch_1 19 rfl rfl)
theorem dX4_nameMatch_43 : decode cX4_nameMatch 43 = .ok (.ireturn, 1) := dk_172 (dk_at dksX4_nameMatch_1 21 rfl rfl)
abbrev cX4_sure : ByteArray := prog_24_method_33_code
def yX4_sure : MethodName := ⟨RX4, "sure", "(Z)C"⟩
def dkwX4_sure_0 : List UInt8 := [26, 153, 0, 8, 16, 121, 167, 0, 5, 16, 110, 172]
abbrev dktX4_sure_0 : List UInt8 := dkwX4_sure_0 ++ []
theorem dksX4_sure_0 : cX4_sure.data.toList.drop 0 = dktX4_sure_0 := by decide +kernel
theorem dX4_sure_0 : decode cX4_sure 0 = .ok (.iload_n 0, 1) := dk_26 (dk_at dksX4_sure_0 0 rfl rfl)
theorem dX4_sure_1 : decode cX4_sure 1 = .ok (.ifCond .eq 8, 3) := dk_153 0 8 (dk_at dksX4_sure_0 1 rfl rfl)
theorem dX4_sure_4 : decode cX4_sure 4 = .ok (.bipush 121, 2) := dk_16 121 (dk_at dksX4_sure_0 4 rfl rfl)
theorem dX4_sure_6 : decode cX4_sure 6 = .ok (.goto 5, 3) := dk_167 0 5 (dk_at dksX4_sure_0 6 rfl rfl)
theorem dX4_sure_9 : decode cX4_sure 9 = .ok (.bipush 110, 2) := dk_16 110 (dk_at dksX4_sure_0 9 rfl rfl)
theorem dX4_sure_11 : decode cX4_sure 11 = .ok (.ireturn, 1) := dk_172 (dk_at dksX4_sure_0 11 rfl rfl)
abbrev cX4_classMatch : ByteArray := prog_24_method_32_code
def yX4_classMatch : MethodName := ⟨RX4, "classMatch", "(LWeaversgateModel$Spot;III)C"⟩
def dkwX4_classMatch_5 : List UInt8 := [167, 0, 5, 16, 109, 172]
abbrev dktX4_classMatch_5 : List UInt8 := dkwX4_classMatch_5 ++ []
def dkwX4_classMatch_4 : List UInt8 := [132, 7, 1, 167, 255, 167, 21, 6, 154, 0, 8, 16, 110, 167, 0, 15, 21, 5, 153, 0, 8, 16, 121]
abbrev dktX4_classMatch_4 : List UInt8 := dkwX4_classMatch_4 ++ dktX4_classMatch_5
def dkwX4_classMatch_3 : List UInt8 := [42, 21, 7, 21, 4, 182, 0, 198, 126, 54, 5, 21, 6, 42, 21, 7, 21, 4, 182, 0, 198, 128, 54, 6]
abbrev dktX4_classMatch_3 : List UInt8 := dkwX4_classMatch_3 ++ dktX4_classMatch_4
def dkwX4_classMatch_2 : List UInt8 := [43, 182, 0, 195, 160, 0, 7, 4, 167, 0, 4, 3, 54, 8, 21, 8, 154, 0, 6, 167, 0, 29, 21, 5]
abbrev dktX4_classMatch_2 : List UInt8 := dkwX4_classMatch_2 ++ dktX4_classMatch_3
def dkwX4_classMatch_1 : List UInt8 := [160, 0, 22, 42, 21, 7, 29, 182, 0, 107, 28, 160, 0, 7, 4, 167, 0, 21, 3, 167, 0, 17, 21, 7]
abbrev dktX4_classMatch_1 : List UInt8 := dkwX4_classMatch_1 ++ dktX4_classMatch_2
def dkwX4_classMatch_0 : List UInt8 := [4, 54, 5, 3, 54, 6, 3, 54, 7, 21, 7, 42, 180, 0, 55, 162, 0, 86, 43, 182, 0, 195, 2]
abbrev dktX4_classMatch_0 : List UInt8 := dkwX4_classMatch_0 ++ dktX4_classMatch_1
theorem dksX4_classMatch_0 : cX4_classMatch.data.toList.drop 0 = dktX4_classMatch_0 := by decide +kernel
theorem dksX4_classMatch_1 : cX4_classMatch.data.toList.drop 23 = dktX4_classMatch_1 := dk_seg dksX4_classMatch_0 23 rfl rfl
theorem dksX4_classMatch_2 : cX4_classMatch.data.toList.drop 47 = dktX4_classMatch_2 := dk_seg dksX4_classMatch_1 24 rfl rfl
theorem dksX4_classMatch_3 : cX4_classMatch.data.toList.drop 71 = dktX4_classMatch_3 := dk_seg dksX4_classMatch_2 24 rfl rfl
theorem dksX4_classMatch_4 : cX4_classMatch.data.toList.drop 95 = dktX4_classMatch_4 := dk_seg dksX4_classMatch_3 24 rfl rfl
theorem dksX4_classMatch_5 : cX4_classMatch.data.toList.drop 118 = dktX4_classMatch_5 := dk_seg dksX4_classMatch_4 23 rfl rfl
theorem dX4_classMatch_0 : decode cX4_classMatch 0 = .ok (.iconst 1, 1) := dk_4 (dk_at dksX4_classMatch_0 0 rfl rfl)
theorem dX4_classMatch_1 : decode cX4_classMatch 1 = .ok (.istore 5, 2) := dk_54 5 (dk_at dksX4_classMatch_0 1 rfl rfl)
theorem dX4_classMatch_3 : decode cX4_classMatch 3 = .ok (.iconst 0, 1) := dk_3 (dk_at dksX4_classMatch_0 3 rfl rfl)
theorem dX4_classMatch_4 : decode cX4_classMatch 4 = .ok (.istore 6, 2) := dk_54 6 (dk_at dksX4_classMatch_0 4 rfl rfl)
theorem dX4_classMatch_6 : decode cX4_classMatch 6 = .ok (.iconst 0, 1) := dk_3 (dk_at dksX4_classMatch_0 6 rfl rfl)
theorem dX4_classMatch_7 : decode cX4_classMatch 7 = .ok (.istore 7, 2) := dk_54 7 (dk_at dksX4_classMatch_0 7 rfl rfl)
theorem dX4_classMatch_9 : decode cX4_classMatch 9 = .ok (.iload 7, 2) := dk_21 7 (dk_at dksX4_classMatch_0 9 rfl rfl)
theorem dX4_classMatch_11 : decode cX4_classMatch 11 = .ok (.aload_n 0, 1) := dk_42 (dk_at dksX4_classMatch_0 11 rfl rfl)
theorem dX4_classMatch_12 : decode cX4_classMatch 12 = .ok (.getfield 55, 3) := dk_180 0 55 (dk_at dksX4_classMatch_0 12 rfl rfl)
theorem dX4_classMatch_15 : decode cX4_classMatch 15 = .ok (.if_icmp .ge 86, 3) := dk_162 0 86 (dk_at dksX4_classMatch_0 15 rfl rfl)
theorem dX4_classMatch_18 : decode cX4_classMatch 18 = .ok (.aload_n 1, 1) := dk_43 (dk_at dksX4_classMatch_0 18 rfl rfl)
theorem dX4_classMatch_19 : decode cX4_classMatch 19 = .ok (.invokevirtual 195, 3) := dk_182 0 195 (dk_at dksX4_classMatch_0 19 rfl rfl)
theorem dX4_classMatch_22 : decode cX4_classMatch 22 = .ok (.iconst (-1), 1) := dk_2 (dk_at dksX4_classMatch_0 22 rfl rfl)
theorem dX4_classMatch_23 : decode cX4_classMatch 23 = .ok (.if_icmp .ne 22, 3) := dk_160 0 22 (dk_at dksX4_classMatch_1 0 rfl rfl)
theorem dX4_classMatch_26 : decode cX4_classMatch 26 = .ok (.aload_n 0, 1) := dk_42 (dk_at dksX4_classMatch_1 3 rfl rfl)
theorem dX4_classMatch_27 : decode cX4_classMatch 27 = .ok (.iload 7, 2) := dk_21 7 (dk_at dksX4_classMatch_1 4 rfl rfl)
theorem dX4_classMatch_29 : decode cX4_classMatch 29 = .ok (.iload_n 3, 1) := dk_29 (dk_at dksX4_classMatch_1 6 rfl rfl)
theorem dX4_classMatch_30 : decode cX4_classMatch 30 = .ok (.invokevirtual 107, 3) := dk_182 0 107 (dk_at dksX4_classMatch_1 7 rfl rfl)
theorem dX4_classMatch_33 : decode cX4_classMatch 33 = .ok (.iload_n 2, 1) := dk_28 (dk_at dksX4_classMatch_1 10 rfl rfl)
theorem dX4_classMatch_34 : decode cX4_classMatch 34 = .ok (.if_icmp .ne 7, 3) := dk_160 0 7 (dk_at dksX4_classMatch_1 11 rfl rfl)
theorem dX4_classMatch_37 : decode cX4_classMatch 37 = .ok (.iconst 1, 1) := dk_4 (dk_at dksX4_classMatch_1 14 rfl rfl)
theorem dX4_classMatch_38 : decode cX4_classMatch 38 = .ok (.goto 21, 3) := dk_167 0 21 (dk_at dksX4_classMatch_1 15 rfl rfl)
theorem dX4_classMatch_41 : decode cX4_classMatch 41 = .ok (.iconst 0, 1) := dk_3 (dk_at dksX4_classMatch_1 18 rfl rfl)
theorem dX4_classMatch_42 : decode cX4_classMatch 42 = .ok (.goto 17, 3) := dk_167 0 17 (dk_at dksX4_classMatch_1 19 rfl rfl)
theorem dX4_classMatch_45 : decode cX4_classMatch 45 = .ok (.iload 7, 2) := dk_21 7 (dk_at dksX4_classMatch_1 22 rfl rfl)
theorem dX4_classMatch_47 : decode cX4_classMatch 47 = .ok (.aload_n 1, 1) := dk_43 (dk_at dksX4_classMatch_2 0 rfl rfl)
theorem dX4_classMatch_48 : decode cX4_classMatch 48 = .ok (.invokevirtual 195, 3) := dk_182 0 195 (dk_at dksX4_classMatch_2 1 rfl rfl)
theorem dX4_classMatch_51 : decode cX4_classMatch 51 = .ok (.if_icmp .ne 7, 3) := dk_160 0 7 (dk_at dksX4_classMatch_2 4 rfl rfl)
theorem dX4_classMatch_54 : decode cX4_classMatch 54 = .ok (.iconst 1, 1) := dk_4 (dk_at dksX4_classMatch_2 7 rfl rfl)
theorem dX4_classMatch_55 : decode cX4_classMatch 55 = .ok (.goto 4, 3) := dk_167 0 4 (dk_at dksX4_classMatch_2 8 rfl rfl)
theorem dX4_classMatch_58 : decode cX4_classMatch 58 = .ok (.iconst 0, 1) := dk_3 (dk_at dksX4_classMatch_2 11 rfl rfl)
theorem dX4_classMatch_59 : decode cX4_classMatch 59 = .ok (.istore 8, 2) := dk_54 8 (dk_at dksX4_classMatch_2 12 rfl rfl)
theorem dX4_classMatch_61 : decode cX4_classMatch 61 = .ok (.iload 8, 2) := dk_21 8 (dk_at dksX4_classMatch_2 14 rfl rfl)
theorem dX4_classMatch_63 : decode cX4_classMatch 63 = .ok (.ifCond .ne 6, 3) := dk_154 0 6 (dk_at dksX4_classMatch_2 16 rfl rfl)
theorem dX4_classMatch_66 : decode cX4_classMatch 66 = .ok (.goto 29, 3) := dk_167 0 29 (dk_at dksX4_classMatch_2 19 rfl rfl)
theorem dX4_classMatch_69 : decode cX4_classMatch 69 = .ok (.iload 5, 2) := dk_21 5 (dk_at dksX4_classMatch_2 22 rfl rfl)
theorem dX4_classMatch_71 : decode cX4_classMatch 71 = .ok (.aload_n 0, 1) := dk_42 (dk_at dksX4_classMatch_3 0 rfl rfl)
theorem dX4_classMatch_72 : decode cX4_classMatch 72 = .ok (.iload 7, 2) := dk_21 7 (dk_at dksX4_classMatch_3 1 rfl rfl)
theorem dX4_classMatch_74 : decode cX4_classMatch 74 = .ok (.iload 4, 2) := dk_21 4 (dk_at dksX4_classMatch_3 3 rfl rfl)
theorem dX4_classMatch_76 : decode cX4_classMatch 76 = .ok (.invokevirtual 198, 3) := dk_182 0 198 (dk_at dksX4_classMatch_3 5 rfl rfl)
theorem dX4_classMatch_79 : decode cX4_classMatch 79 = .ok (.iand, 1) := dk_126 (dk_at dksX4_classMatch_3 8 rfl rfl)
theorem dX4_classMatch_80 : decode cX4_classMatch 80 = .ok (.istore 5, 2) := dk_54 5 (dk_at dksX4_classMatch_3 9 rfl rfl)
theorem dX4_classMatch_82 : decode cX4_classMatch 82 = .ok (.iload 6, 2) := dk_21 6 (dk_at dksX4_classMatch_3 11 rfl rfl)
theorem dX4_classMatch_84 : decode cX4_classMatch 84 = .ok (.aload_n 0, 1) := dk_42 (dk_at dksX4_classMatch_3 13 rfl rfl)
theorem dX4_classMatch_85 : decode cX4_classMatch 85 = .ok (.iload 7, 2) := dk_21 7 (dk_at dksX4_classMatch_3 14 rfl rfl)
theorem dX4_classMatch_87 : decode cX4_classMatch 87 = .ok (.iload 4, 2) := dk_21 4 (dk_at dksX4_classMatch_3 16 rfl rfl)
theorem dX4_classMatch_89 : decode cX4_classMatch 89 = .ok (.invokevirtual 198, 3) := dk_182 0 198 (dk_at dksX4_classMatch_3 18 rfl rfl)
theorem dX4_classMatch_92 : decode cX4_classMatch 92 = .ok (.ior, 1) := dk_128 (dk_at dksX4_classMatch_3 21 rfl rfl)
theorem dX4_classMatch_93 : decode cX4_classMatch 93 = .ok (.istore 6, 2) := dk_54 6 (dk_at dksX4_classMatch_3 22 rfl rfl)
theorem dX4_classMatch_95 : decode cX4_classMatch 95 = .ok (.iinc 7 1, 3) := dk_132 7 1 (dk_at dksX4_classMatch_4 0 rfl rfl)
theorem dX4_classMatch_98 : decode cX4_classMatch 98 = .ok (.goto (-89), 3) := dk_167 255 167 (dk_at dksX4_classMatch_4 3 rfl rfl)
theorem dX4_classMatch_101 : decode cX4_classMatch 101 = .ok (.iload 6, 2) := dk_21 6 (dk_at dksX4_classMatch_4 6 rfl rfl)
theorem dX4_classMatch_103 : decode cX4_classMatch 103 = .ok (.ifCond .ne 8, 3) := dk_154 0 8 (dk_at dksX4_classMatch_4 8 rfl rfl)
theorem dX4_classMatch_106 : decode cX4_classMatch 106 = .ok (.bipush 110, 2) := dk_16 110 (dk_at dksX4_classMatch_4 11 rfl rfl)
theorem dX4_classMatch_108 : decode cX4_classMatch 108 = .ok (.goto 15, 3) := dk_167 0 15 (dk_at dksX4_classMatch_4 13 rfl rfl)
theorem dX4_classMatch_111 : decode cX4_classMatch 111 = .ok (.iload 5, 2) := dk_21 5 (dk_at dksX4_classMatch_4 16 rfl rfl)
theorem dX4_classMatch_113 : decode cX4_classMatch 113 = .ok (.ifCond .eq 8, 3) := dk_153 0 8 (dk_at dksX4_classMatch_4 18 rfl rfl)
theorem dX4_classMatch_116 : decode cX4_classMatch 116 = .ok (.bipush 121, 2) := dk_16 121 (dk_at dksX4_classMatch_4 21 rfl rfl)
theorem dX4_classMatch_118 : decode cX4_classMatch 118 = .ok (.goto 5, 3) := dk_167 0 5 (dk_at dksX4_classMatch_5 0 rfl rfl)
theorem dX4_classMatch_121 : decode cX4_classMatch 121 = .ok (.bipush 109, 2) := dk_16 109 (dk_at dksX4_classMatch_5 3 rfl rfl)
theorem dX4_classMatch_123 : decode cX4_classMatch 123 = .ok (.ireturn, 1) := dk_172 (dk_at dksX4_classMatch_5 5 rfl rfl)
abbrev cX4_isBelow : ByteArray := prog_24_method_16_code
def yX4_isBelow : MethodName := ⟨RX4, "isBelow", "(II)Z"⟩
def dkwX4_isBelow_1 : List UInt8 := [160, 0, 7, 4, 167, 0, 4, 3, 172]
abbrev dktX4_isBelow_1 : List UInt8 := dkwX4_isBelow_1 ++ []
def dkwX4_isBelow_0 : List UInt8 := [27, 62, 29, 2, 159, 0, 18, 29, 28, 159, 0, 13, 42, 180, 0, 15, 29, 46, 62, 167, 255, 239, 29, 28]
abbrev dktX4_isBelow_0 : List UInt8 := dkwX4_isBelow_0 ++ dktX4_isBelow_1
theorem dksX4_isBelow_0 : cX4_isBelow.data.toList.drop 0 = dktX4_isBelow_0 := by decide +kernel
theorem dksX4_isBelow_1 : cX4_isBelow.data.toList.drop 24 = dktX4_isBelow_1 := dk_seg dksX4_isBelow_0 24 rfl rfl
theorem dX4_isBelow_0 : decode cX4_isBelow 0 = .ok (.iload_n 1, 1) := dk_27 (dk_at dksX4_isBelow_0 0 rfl rfl)
theorem dX4_isBelow_1 : decode cX4_isBelow 1 = .ok (.istore_n 3, 1) := dk_62 (dk_at dksX4_isBelow_0 1 rfl rfl)
theorem dX4_isBelow_2 : decode cX4_isBelow 2 = .ok (.iload_n 3, 1) := dk_29 (dk_at dksX4_isBelow_0 2 rfl rfl)
theorem dX4_isBelow_3 : decode cX4_isBelow 3 = .ok (.iconst (-1), 1) := dk_2 (dk_at dksX4_isBelow_0 3 rfl rfl)
theorem dX4_isBelow_4 : decode cX4_isBelow 4 = .ok (.if_icmp .eq 18, 3) := dk_159 0 18 (dk_at dksX4_isBelow_0 4 rfl rfl)
theorem dX4_isBelow_7 : decode cX4_isBelow 7 = .ok (.iload_n 3, 1) := dk_29 (dk_at dksX4_isBelow_0 7 rfl rfl)
theorem dX4_isBelow_8 : decode cX4_isBelow 8 = .ok (.iload_n 2, 1) := dk_28 (dk_at dksX4_isBelow_0 8 rfl rfl)
theorem dX4_isBelow_9 : decode cX4_isBelow 9 = .ok (.if_icmp .eq 13, 3) := dk_159 0 13 (dk_at dksX4_isBelow_0 9 rfl rfl)
theorem dX4_isBelow_12 : decode cX4_isBelow 12 = .ok (.aload_n 0, 1) := dk_42 (dk_at dksX4_isBelow_0 12 rfl rfl)
theorem dX4_isBelow_13 : decode cX4_isBelow 13 = .ok (.getfield 15, 3) := dk_180 0 15 (dk_at dksX4_isBelow_0 13 rfl rfl)
theorem dX4_isBelow_16 : decode cX4_isBelow 16 = .ok (.iload_n 3, 1) := dk_29 (dk_at dksX4_isBelow_0 16 rfl rfl)
theorem dX4_isBelow_17 : decode cX4_isBelow 17 = .ok (.iaload, 1) := dk_46 (dk_at dksX4_isBelow_0 17 rfl rfl)
theorem dX4_isBelow_18 : decode cX4_isBelow 18 = .ok (.istore_n 3, 1) := dk_62 (dk_at dksX4_isBelow_0 18 rfl rfl)
theorem dX4_isBelow_19 : decode cX4_isBelow 19 = .ok (.goto (-17), 3) := dk_167 255 239 (dk_at dksX4_isBelow_0 19 rfl rfl)
theorem dX4_isBelow_22 : decode cX4_isBelow 22 = .ok (.iload_n 3, 1) := dk_29 (dk_at dksX4_isBelow_0 22 rfl rfl)
theorem dX4_isBelow_23 : decode cX4_isBelow 23 = .ok (.iload_n 2, 1) := dk_28 (dk_at dksX4_isBelow_0 23 rfl rfl)
theorem dX4_isBelow_24 : decode cX4_isBelow 24 = .ok (.if_icmp .ne 7, 3) := dk_160 0 7 (dk_at dksX4_isBelow_1 0 rfl rfl)
theorem dX4_isBelow_27 : decode cX4_isBelow 27 = .ok (.iconst 1, 1) := dk_4 (dk_at dksX4_isBelow_1 3 rfl rfl)
theorem dX4_isBelow_28 : decode cX4_isBelow 28 = .ok (.goto 4, 3) := dk_167 0 4 (dk_at dksX4_isBelow_1 4 rfl rfl)
theorem dX4_isBelow_31 : decode cX4_isBelow 31 = .ok (.iconst 0, 1) := dk_3 (dk_at dksX4_isBelow_1 7 rfl rfl)
theorem dX4_isBelow_32 : decode cX4_isBelow 32 = .ok (.ireturn, 1) := dk_172 (dk_at dksX4_isBelow_1 8 rfl rfl)
abbrev cX4_turned : ByteArray := prog_24_method_36_code
def yX4_turned : MethodName := ⟨RX4, "turned", "(C)C"⟩
def dkwX4_turned_1 : List UInt8 := [172]
abbrev dktX4_turned_1 : List UInt8 := dkwX4_turned_1 ++ []
def dkwX4_turned_0 : List UInt8 := [26, 16, 121, 160, 0, 8, 16, 110, 167, 0, 16, 26, 16, 110, 160, 0, 8, 16, 121, 167, 0, 5, 16, 109]
abbrev dktX4_turned_0 : List UInt8 := dkwX4_turned_0 ++ dktX4_turned_1
theorem dksX4_turned_0 : cX4_turned.data.toList.drop 0 = dktX4_turned_0 := by decide +kernel
theorem dksX4_turned_1 : cX4_turned.data.toList.drop 24 = dktX4_turned_1 := dk_seg dksX4_turned_0 24 rfl rfl
theorem dX4_turned_0 : decode cX4_turned 0 = .ok (.iload_n 0, 1) := dk_26 (dk_at dksX4_turned_0 0 rfl rfl)
theorem dX4_turned_1 : decode cX4_turned 1 = .ok (.bipush 121, 2) := dk_16 121 (dk_at dksX4_turned_0 1 rfl rfl)
theorem dX4_turned_3 : decode cX4_turned 3 = .ok (.if_icmp .ne 8, 3) := dk_160 0 8 (dk_at dksX4_turned_0 3 rfl rfl)
theorem dX4_turned_6 : decode cX4_turned 6 = .ok (.bipush 110, 2) := dk_16 110 (dk_at dksX4_turned_0 6 rfl rfl)
theorem dX4_turned_8 : decode cX4_turned 8 = .ok (.goto 16, 3) := dk_167 0 16 (dk_at dksX4_turned_0 8 rfl rfl)
theorem dX4_turned_11 : decode cX4_turned 11 = .ok (.iload_n 0, 1) := dk_26 (dk_at dksX4_turned_0 11 rfl rfl)
theorem dX4_turned_12 : decode cX4_turned 12 = .ok (.bipush 110, 2) := dk_16 110 (dk_at dksX4_turned_0 12 rfl rfl)
theorem dX4_turned_14 : decode cX4_turned 14 = .ok (.if_icmp .ne 8, 3) := dk_160 0 8 (dk_at dksX4_turned_0 14 rfl rfl)
theorem dX4_turned_17 : decode cX4_turned 17 = .ok (.bipush 121, 2) := dk_16 121 (dk_at dksX4_turned_0 17 rfl rfl)
theorem dX4_turned_19 : decode cX4_turned 19 = .ok (.goto 5, 3) := dk_167 0 5 (dk_at dksX4_turned_0 19 rfl rfl)
theorem dX4_turned_22 : decode cX4_turned 22 = .ok (.bipush 109, 2) := dk_16 109 (dk_at dksX4_turned_0 22 rfl rfl)
theorem dX4_turned_24 : decode cX4_turned 24 = .ok (.ireturn, 1) := dk_172 (dk_at dksX4_turned_1 0 rfl rfl)
abbrev cX4_joined : ByteArray := prog_24_method_37_code
def yX4_joined : MethodName := ⟨RX4, "joined", "(CCC)C"⟩
def dkwX4_joined_1 : List UInt8 := [29, 172, 27, 16, 109, 159, 0, 9, 28, 16, 109, 160, 0, 8, 16, 109, 167, 0, 7, 29, 184, 0, 224, 172]
abbrev dktX4_joined_1 : List UInt8 := dkwX4_joined_1 ++ []
def dkwX4_joined_0 : List UInt8 := [26, 16, 38, 160, 0, 8, 16, 110, 167, 0, 5, 16, 121, 62, 27, 29, 159, 0, 8, 28, 29, 160, 0, 5]
abbrev dktX4_joined_0 : List UInt8 := dkwX4_joined_0 ++ dktX4_joined_1
theorem dksX4_joined_0 : cX4_joined.data.toList.drop 0 = dktX4_joined_0 := by decide +kernel
theorem dksX4_joined_1 : cX4_joined.data.toList.drop 24 = dktX4_joined_1 := dk_seg dksX4_joined_0 24 rfl rfl
theorem dX4_joined_0 : decode cX4_joined 0 = .ok (.iload_n 0, 1) := dk_26 (dk_at dksX4_joined_0 0 rfl rfl)
theorem dX4_joined_1 : decode cX4_joined 1 = .ok (.bipush 38, 2) := dk_16 38 (dk_at dksX4_joined_0 1 rfl rfl)
theorem dX4_joined_3 : decode cX4_joined 3 = .ok (.if_icmp .ne 8, 3) := dk_160 0 8 (dk_at dksX4_joined_0 3 rfl rfl)
theorem dX4_joined_6 : decode cX4_joined 6 = .ok (.bipush 110, 2) := dk_16 110 (dk_at dksX4_joined_0 6 rfl rfl)
theorem dX4_joined_8 : decode cX4_joined 8 = .ok (.goto 5, 3) := dk_167 0 5 (dk_at dksX4_joined_0 8 rfl rfl)
theorem dX4_joined_11 : decode cX4_joined 11 = .ok (.bipush 121, 2) := dk_16 121 (dk_at dksX4_joined_0 11 rfl rfl)
theorem dX4_joined_13 : decode cX4_joined 13 = .ok (.istore_n 3, 1) := dk_62 (dk_at dksX4_joined_0 13 rfl rfl)
theorem dX4_joined_14 : decode cX4_joined 14 = .ok (.iload_n 1, 1) := dk_27 (dk_at dksX4_joined_0 14 rfl rfl)
theorem dX4_joined_15 : decode cX4_joined 15 = .ok (.iload_n 3, 1) := dk_29 (dk_at dksX4_joined_0 15 rfl rfl)
theorem dX4_joined_16 : decode cX4_joined 16 = .ok (.if_icmp .eq 8, 3) := dk_159 0 8 (dk_at dksX4_joined_0 16 rfl rfl)
theorem dX4_joined_19 : decode cX4_joined 19 = .ok (.iload_n 2, 1) := dk_28 (dk_at dksX4_joined_0 19 rfl rfl)
theorem dX4_joined_20 : decode cX4_joined 20 = .ok (.iload_n 3, 1) := dk_29 (dk_at dksX4_joined_0 20 rfl rfl)
theorem dX4_joined_21 : decode cX4_joined 21 = .ok (.if_icmp .ne 5, 3) := dk_160 0 5 (dk_at dksX4_joined_0 21 rfl rfl)
theorem dX4_joined_24 : decode cX4_joined 24 = .ok (.iload_n 3, 1) := dk_29 (dk_at dksX4_joined_1 0 rfl rfl)
theorem dX4_joined_25 : decode cX4_joined 25 = .ok (.ireturn, 1) := dk_172 (dk_at dksX4_joined_1 1 rfl rfl)
theorem dX4_joined_26 : decode cX4_joined 26 = .ok (.iload_n 1, 1) := dk_27 (dk_at dksX4_joined_1 2 rfl rfl)
theorem dX4_joined_27 : decode cX4_joined 27 = .ok (.bipush 109, 2) := dk_16 109 (dk_at dksX4_joined_1 3 rfl rfl)
theorem dX4_joined_29 : decode cX4_joined 29 = .ok (.if_icmp .eq 9, 3) := dk_159 0 9 (dk_at dksX4_joined_1 5 rfl rfl)
theorem dX4_joined_32 : decode cX4_joined 32 = .ok (.iload_n 2, 1) := dk_28 (dk_at dksX4_joined_1 8 rfl rfl)
theorem dX4_joined_33 : decode cX4_joined 33 = .ok (.bipush 109, 2) := dk_16 109 (dk_at dksX4_joined_1 9 rfl rfl)
theorem dX4_joined_35 : decode cX4_joined 35 = .ok (.if_icmp .ne 8, 3) := dk_160 0 8 (dk_at dksX4_joined_1 11 rfl rfl)
theorem dX4_joined_38 : decode cX4_joined 38 = .ok (.bipush 109, 2) := dk_16 109 (dk_at dksX4_joined_1 14 rfl rfl)
theorem dX4_joined_40 : decode cX4_joined 40 = .ok (.goto 7, 3) := dk_167 0 7 (dk_at dksX4_joined_1 16 rfl rfl)
theorem dX4_joined_43 : decode cX4_joined 43 = .ok (.iload_n 3, 1) := dk_29 (dk_at dksX4_joined_1 19 rfl rfl)
theorem dX4_joined_44 : decode cX4_joined 44 = .ok (.invokestatic 224, 3) := dk_184 0 224 (dk_at dksX4_joined_1 20 rfl rfl)
theorem dX4_joined_47 : decode cX4_joined 47 = .ok (.ireturn, 1) := dk_172 (dk_at dksX4_joined_1 23 rfl rfl)
abbrev cX4_residues : ByteArray := prog_24_method_41_code
def yX4_residues : MethodName := ⟨RX4, "residues", "()I"⟩
def dkwX4_residues_0 : List UInt8 := [42, 42, 16, 109, 182, 0, 250, 182, 0, 254, 172]
abbrev dktX4_residues_0 : List UInt8 := dkwX4_residues_0 ++ []
theorem dksX4_residues_0 : cX4_residues.data.toList.drop 0 = dktX4_residues_0 := by decide +kernel
theorem dX4_residues_0 : decode cX4_residues 0 = .ok (.aload_n 0, 1) := dk_42 (dk_at dksX4_residues_0 0 rfl rfl)
theorem dX4_residues_1 : decode cX4_residues 1 = .ok (.aload_n 0, 1) := dk_42 (dk_at dksX4_residues_0 1 rfl rfl)
theorem dX4_residues_2 : decode cX4_residues 2 = .ok (.bipush 109, 2) := dk_16 109 (dk_at dksX4_residues_0 2 rfl rfl)
theorem dX4_residues_4 : decode cX4_residues 4 = .ok (.invokevirtual 250, 3) := dk_182 0 250 (dk_at dksX4_residues_0 4 rfl rfl)
theorem dX4_residues_7 : decode cX4_residues 7 = .ok (.invokevirtual 254, 3) := dk_182 0 254 (dk_at dksX4_residues_0 7 rfl rfl)
theorem dX4_residues_10 : decode cX4_residues 10 = .ok (.ireturn, 1) := dk_172 (dk_at dksX4_residues_0 10 rfl rfl)
abbrev cX4_pairs : ByteArray := prog_24_method_40_code
def yX4_pairs : MethodName := ⟨RX4, "pairs", "(C)I"⟩
def dkwX4_pairs_6 : List UInt8 := [132, 3, 1, 167, 255, 121, 28, 172]
abbrev dktX4_pairs_6 : List UInt8 := dkwX4_pairs_6 ++ []
def dkwX4_pairs_5 : List UInt8 := [28, 21, 7, 153, 0, 7, 4, 167, 0, 4, 3, 96, 61, 132, 6, 1, 167, 255, 183, 167, 255, 155]
abbrev dktX4_pairs_5 : List UInt8 := dkwX4_pairs_5 ++ dktX4_pairs_6
def dkwX4_pairs_4 : List UInt8 := [16, 6, 112, 42, 180, 0, 28, 21, 6, 46, 182, 0, 221, 27, 160, 0, 7, 4, 167, 0, 4, 3, 54, 7]
abbrev dktX4_pairs_4 : List UInt8 := dkwX4_pairs_4 ++ dktX4_pairs_5
def dkwX4_pairs_3 : List UInt8 := [180, 0, 44, 21, 6, 51, 153, 0, 38, 27, 16, 32, 159, 0, 28, 42, 25, 5, 29, 16, 6, 108, 29]
abbrev dktX4_pairs_3 : List UInt8 := dkwX4_pairs_3 ++ dktX4_pairs_4
def dkwX4_pairs_2 : List UInt8 := [185, 0, 246, 1, 0, 192, 0, 188, 58, 5, 3, 54, 6, 21, 6, 42, 180, 0, 61, 162, 0, 70, 42]
abbrev dktX4_pairs_2 : List UInt8 := dkwX4_pairs_2 ++ dktX4_pairs_3
def dkwX4_pairs_1 : List UInt8 := [182, 0, 232, 182, 0, 236, 58, 4, 25, 4, 185, 0, 240, 1, 0, 153, 0, 97, 25, 4]
abbrev dktX4_pairs_1 : List UInt8 := dkwX4_pairs_1 ++ dktX4_pairs_2
def dkwX4_pairs_0 : List UInt8 := [3, 61, 3, 62, 29, 16, 6, 42, 180, 0, 55, 104, 162, 0, 130, 42, 29, 16, 6, 108, 29, 16, 6, 112]
abbrev dktX4_pairs_0 : List UInt8 := dkwX4_pairs_0 ++ dktX4_pairs_1
theorem dksX4_pairs_0 : cX4_pairs.data.toList.drop 0 = dktX4_pairs_0 := by decide +kernel
theorem dksX4_pairs_1 : cX4_pairs.data.toList.drop 24 = dktX4_pairs_1 := dk_seg dksX4_pairs_0 24 rfl rfl
theorem dksX4_pairs_2 : cX4_pairs.data.toList.drop 44 = dktX4_pairs_2 := dk_seg dksX4_pairs_1 20 rfl rfl
theorem dksX4_pairs_3 : cX4_pairs.data.toList.drop 67 = dktX4_pairs_3 := dk_seg dksX4_pairs_2 23 rfl rfl
theorem dksX4_pairs_4 : cX4_pairs.data.toList.drop 90 = dktX4_pairs_4 := dk_seg dksX4_pairs_3 23 rfl rfl
theorem dksX4_pairs_5 : cX4_pairs.data.toList.drop 114 = dktX4_pairs_5 := dk_seg dksX4_pairs_4 24 rfl rfl
theorem dksX4_pairs_6 : cX4_pairs.data.toList.drop 136 = dktX4_pairs_6 := dk_seg dksX4_pairs_5 22 rfl rfl
theorem dX4_pairs_0 : decode cX4_pairs 0 = .ok (.iconst 0, 1) := dk_3 (dk_at dksX4_pairs_0 0 rfl rfl)
theorem dX4_pairs_1 : decode cX4_pairs 1 = .ok (.istore_n 2, 1) := dk_61 (dk_at dksX4_pairs_0 1 rfl rfl)
theorem dX4_pairs_2 : decode cX4_pairs 2 = .ok (.iconst 0, 1) := dk_3 (dk_at dksX4_pairs_0 2 rfl rfl)
theorem dX4_pairs_3 : decode cX4_pairs 3 = .ok (.istore_n 3, 1) := dk_62 (dk_at dksX4_pairs_0 3 rfl rfl)
theorem dX4_pairs_4 : decode cX4_pairs 4 = .ok (.iload_n 3, 1) := dk_29 (dk_at dksX4_pairs_0 4 rfl rfl)
theorem dX4_pairs_5 : decode cX4_pairs 5 = .ok (.bipush 6, 2) := dk_16 6 (dk_at dksX4_pairs_0 5 rfl rfl)
theorem dX4_pairs_7 : decode cX4_pairs 7 = .ok (.aload_n 0, 1) := dk_42 (dk_at dksX4_pairs_0 7 rfl rfl)
theorem dX4_pairs_8 : decode cX4_pairs 8 = .ok (.getfield 55, 3) := dk_180 0 55 (dk_at dksX4_pairs_0 8 rfl rfl)
theorem dX4_pairs_11 : decode cX4_pairs 11 = .ok (.imul, 1) := dk_104 (dk_at dksX4_pairs_0 11 rfl rfl)
theorem dX4_pairs_12 : decode cX4_pairs 12 = .ok (.if_icmp .ge 130, 3) := dk_162 0 130 (dk_at dksX4_pairs_0 12 rfl rfl)
theorem dX4_pairs_15 : decode cX4_pairs 15 = .ok (.aload_n 0, 1) := dk_42 (dk_at dksX4_pairs_0 15 rfl rfl)
theorem dX4_pairs_16 : decode cX4_pairs 16 = .ok (.iload_n 3, 1) := dk_29 (dk_at dksX4_pairs_0 16 rfl rfl)
theorem dX4_pairs_17 : decode cX4_pairs 17 = .ok (.bipush 6, 2) := dk_16 6 (dk_at dksX4_pairs_0 17 rfl rfl)
theorem dX4_pairs_19 : decode cX4_pairs 19 = .ok (.idiv, 1) := dk_108 (dk_at dksX4_pairs_0 19 rfl rfl)
theorem dX4_pairs_20 : decode cX4_pairs 20 = .ok (.iload_n 3, 1) := dk_29 (dk_at dksX4_pairs_0 20 rfl rfl)
theorem dX4_pairs_21 : decode cX4_pairs 21 = .ok (.bipush 6, 2) := dk_16 6 (dk_at dksX4_pairs_0 21 rfl rfl)
theorem dX4_pairs_23 : decode cX4_pairs 23 = .ok (.irem, 1) := dk_112 (dk_at dksX4_pairs_0 23 rfl rfl)
theorem dX4_pairs_24 : decode cX4_pairs 24 = .ok (.invokevirtual 232, 3) := dk_182 0 232 (dk_at dksX4_pairs_1 0 rfl rfl)
theorem dX4_pairs_27 : decode cX4_pairs 27 = .ok (.invokevirtual 236, 3) := dk_182 0 236 (dk_at dksX4_pairs_1 3 rfl rfl)
theorem dX4_pairs_30 : decode cX4_pairs 30 = .ok (.astore 4, 2) := dk_58 4 (dk_at dksX4_pairs_1 6 rfl rfl)
theorem dX4_pairs_32 : decode cX4_pairs 32 = .ok (.aload 4, 2) := dk_25 4 (dk_at dksX4_pairs_1 8 rfl rfl)
theorem dX4_pairs_34 : decode cX4_pairs 34 = .ok (.invokeinterface 240 1, 5) := by decide +kernel
theorem dX4_pairs_39 : decode cX4_pairs 39 = .ok (.ifCond .eq 97, 3) := dk_153 0 97 (dk_at dksX4_pairs_1 15 rfl rfl)
theorem dX4_pairs_42 : decode cX4_pairs 42 = .ok (.aload 4, 2) := dk_25 4 (dk_at dksX4_pairs_1 18 rfl rfl)
theorem dX4_pairs_44 : decode cX4_pairs 44 = .ok (.invokeinterface 246 1, 5) := by decide +kernel
theorem dX4_pairs_49 : decode cX4_pairs 49 = .ok (.checkcast 188, 3) := dk_192 0 188 (dk_at dksX4_pairs_2 5 rfl rfl)
theorem dX4_pairs_52 : decode cX4_pairs 52 = .ok (.astore 5, 2) := dk_58 5 (dk_at dksX4_pairs_2 8 rfl rfl)
theorem dX4_pairs_54 : decode cX4_pairs 54 = .ok (.iconst 0, 1) := dk_3 (dk_at dksX4_pairs_2 10 rfl rfl)
theorem dX4_pairs_55 : decode cX4_pairs 55 = .ok (.istore 6, 2) := dk_54 6 (dk_at dksX4_pairs_2 11 rfl rfl)
theorem dX4_pairs_57 : decode cX4_pairs 57 = .ok (.iload 6, 2) := dk_21 6 (dk_at dksX4_pairs_2 13 rfl rfl)
theorem dX4_pairs_59 : decode cX4_pairs 59 = .ok (.aload_n 0, 1) := dk_42 (dk_at dksX4_pairs_2 15 rfl rfl)
theorem dX4_pairs_60 : decode cX4_pairs 60 = .ok (.getfield 61, 3) := dk_180 0 61 (dk_at dksX4_pairs_2 16 rfl rfl)
theorem dX4_pairs_63 : decode cX4_pairs 63 = .ok (.if_icmp .ge 70, 3) := dk_162 0 70 (dk_at dksX4_pairs_2 19 rfl rfl)
theorem dX4_pairs_66 : decode cX4_pairs 66 = .ok (.aload_n 0, 1) := dk_42 (dk_at dksX4_pairs_2 22 rfl rfl)
theorem dX4_pairs_67 : decode cX4_pairs 67 = .ok (.getfield 44, 3) := dk_180 0 44 (dk_at dksX4_pairs_3 0 rfl rfl)
theorem dX4_pairs_70 : decode cX4_pairs 70 = .ok (.iload 6, 2) := dk_21 6 (dk_at dksX4_pairs_3 3 rfl rfl)
theorem dX4_pairs_72 : decode cX4_pairs 72 = .ok (.baload, 1) := dk_51 (dk_at dksX4_pairs_3 5 rfl rfl)
theorem dX4_pairs_73 : decode cX4_pairs 73 = .ok (.ifCond .eq 38, 3) := dk_153 0 38 (dk_at dksX4_pairs_3 6 rfl rfl)
theorem dX4_pairs_76 : decode cX4_pairs 76 = .ok (.iload_n 1, 1) := dk_27 (dk_at dksX4_pairs_3 9 rfl rfl)
theorem dX4_pairs_77 : decode cX4_pairs 77 = .ok (.bipush 32, 2) := dk_16 32 (dk_at dksX4_pairs_3 10 rfl rfl)
theorem dX4_pairs_79 : decode cX4_pairs 79 = .ok (.if_icmp .eq 28, 3) := dk_159 0 28 (dk_at dksX4_pairs_3 12 rfl rfl)
theorem dX4_pairs_82 : decode cX4_pairs 82 = .ok (.aload_n 0, 1) := dk_42 (dk_at dksX4_pairs_3 15 rfl rfl)
theorem dX4_pairs_83 : decode cX4_pairs 83 = .ok (.aload 5, 2) := dk_25 5 (dk_at dksX4_pairs_3 16 rfl rfl)
theorem dX4_pairs_85 : decode cX4_pairs 85 = .ok (.iload_n 3, 1) := dk_29 (dk_at dksX4_pairs_3 18 rfl rfl)
theorem dX4_pairs_86 : decode cX4_pairs 86 = .ok (.bipush 6, 2) := dk_16 6 (dk_at dksX4_pairs_3 19 rfl rfl)
theorem dX4_pairs_88 : decode cX4_pairs 88 = .ok (.idiv, 1) := dk_108 (dk_at dksX4_pairs_3 21 rfl rfl)
theorem dX4_pairs_89 : decode cX4_pairs 89 = .ok (.iload_n 3, 1) := dk_29 (dk_at dksX4_pairs_3 22 rfl rfl)
theorem dX4_pairs_90 : decode cX4_pairs 90 = .ok (.bipush 6, 2) := dk_16 6 (dk_at dksX4_pairs_4 0 rfl rfl)
theorem dX4_pairs_92 : decode cX4_pairs 92 = .ok (.irem, 1) := dk_112 (dk_at dksX4_pairs_4 2 rfl rfl)
theorem dX4_pairs_93 : decode cX4_pairs 93 = .ok (.aload_n 0, 1) := dk_42 (dk_at dksX4_pairs_4 3 rfl rfl)
theorem dX4_pairs_94 : decode cX4_pairs 94 = .ok (.getfield 28, 3) := dk_180 0 28 (dk_at dksX4_pairs_4 4 rfl rfl)
theorem dX4_pairs_97 : decode cX4_pairs 97 = .ok (.iload 6, 2) := dk_21 6 (dk_at dksX4_pairs_4 7 rfl rfl)
theorem dX4_pairs_99 : decode cX4_pairs 99 = .ok (.iaload, 1) := dk_46 (dk_at dksX4_pairs_4 9 rfl rfl)
theorem dX4_pairs_100 : decode cX4_pairs 100 = .ok (.invokevirtual 221, 3) := dk_182 0 221 (dk_at dksX4_pairs_4 10 rfl rfl)
theorem dX4_pairs_103 : decode cX4_pairs 103 = .ok (.iload_n 1, 1) := dk_27 (dk_at dksX4_pairs_4 13 rfl rfl)
theorem dX4_pairs_104 : decode cX4_pairs 104 = .ok (.if_icmp .ne 7, 3) := dk_160 0 7 (dk_at dksX4_pairs_4 14 rfl rfl)
theorem dX4_pairs_107 : decode cX4_pairs 107 = .ok (.iconst 1, 1) := dk_4 (dk_at dksX4_pairs_4 17 rfl rfl)
theorem dX4_pairs_108 : decode cX4_pairs 108 = .ok (.goto 4, 3) := dk_167 0 4 (dk_at dksX4_pairs_4 18 rfl rfl)
theorem dX4_pairs_111 : decode cX4_pairs 111 = .ok (.iconst 0, 1) := dk_3 (dk_at dksX4_pairs_4 21 rfl rfl)
theorem dX4_pairs_112 : decode cX4_pairs 112 = .ok (.istore 7, 2) := dk_54 7 (dk_at dksX4_pairs_4 22 rfl rfl)
theorem dX4_pairs_114 : decode cX4_pairs 114 = .ok (.iload_n 2, 1) := dk_28 (dk_at dksX4_pairs_5 0 rfl rfl)
theorem dX4_pairs_115 : decode cX4_pairs 115 = .ok (.iload 7, 2) := dk_21 7 (dk_at dksX4_pairs_5 1 rfl rfl)
theorem dX4_pairs_117 : decode cX4_pairs 117 = .ok (.ifCond .eq 7, 3) := dk_153 0 7 (dk_at dksX4_pairs_5 3 rfl rfl)
theorem dX4_pairs_120 : decode cX4_pairs 120 = .ok (.iconst 1, 1) := dk_4 (dk_at dksX4_pairs_5 6 rfl rfl)
theorem dX4_pairs_121 : decode cX4_pairs 121 = .ok (.goto 4, 3) := dk_167 0 4 (dk_at dksX4_pairs_5 7 rfl rfl)
theorem dX4_pairs_124 : decode cX4_pairs 124 = .ok (.iconst 0, 1) := dk_3 (dk_at dksX4_pairs_5 10 rfl rfl)
theorem dX4_pairs_125 : decode cX4_pairs 125 = .ok (.iadd, 1) := dk_96 (dk_at dksX4_pairs_5 11 rfl rfl)
theorem dX4_pairs_126 : decode cX4_pairs 126 = .ok (.istore_n 2, 1) := dk_61 (dk_at dksX4_pairs_5 12 rfl rfl)
theorem dX4_pairs_127 : decode cX4_pairs 127 = .ok (.iinc 6 1, 3) := dk_132 6 1 (dk_at dksX4_pairs_5 13 rfl rfl)
theorem dX4_pairs_130 : decode cX4_pairs 130 = .ok (.goto (-73), 3) := dk_167 255 183 (dk_at dksX4_pairs_5 16 rfl rfl)
theorem dX4_pairs_133 : decode cX4_pairs 133 = .ok (.goto (-101), 3) := dk_167 255 155 (dk_at dksX4_pairs_5 19 rfl rfl)
theorem dX4_pairs_136 : decode cX4_pairs 136 = .ok (.iinc 3 1, 3) := dk_132 3 1 (dk_at dksX4_pairs_6 0 rfl rfl)
theorem dX4_pairs_139 : decode cX4_pairs 139 = .ok (.goto (-135), 3) := dk_167 255 121 (dk_at dksX4_pairs_6 3 rfl rfl)
theorem dX4_pairs_142 : decode cX4_pairs 142 = .ok (.iload_n 2, 1) := dk_28 (dk_at dksX4_pairs_6 6 rfl rfl)
theorem dX4_pairs_143 : decode cX4_pairs 143 = .ok (.ireturn, 1) := dk_172 (dk_at dksX4_pairs_6 7 rfl rfl)
abbrev cX4_plain : ByteArray := prog_24_method_4_code
def yX4_plain : MethodName := ⟨RX4, "plain", "(I)I"⟩
def dkwX4_plain_0 : List UInt8 := [42, 3, 181, 0, 51, 27, 172]
abbrev dktX4_plain_0 : List UInt8 := dkwX4_plain_0 ++ []
theorem dksX4_plain_0 : cX4_plain.data.toList.drop 0 = dktX4_plain_0 := by decide +kernel
theorem dX4_plain_0 : decode cX4_plain 0 = .ok (.aload_n 0, 1) := dk_42 (dk_at dksX4_plain_0 0 rfl rfl)
theorem dX4_plain_1 : decode cX4_plain 1 = .ok (.iconst 0, 1) := dk_3 (dk_at dksX4_plain_0 1 rfl rfl)
theorem dX4_plain_2 : decode cX4_plain 2 = .ok (.putfield 51, 3) := dk_181 0 51 (dk_at dksX4_plain_0 2 rfl rfl)
theorem dX4_plain_5 : decode cX4_plain 5 = .ok (.iload_n 1, 1) := dk_27 (dk_at dksX4_plain_0 5 rfl rfl)
theorem dX4_plain_6 : decode cX4_plain 6 = .ok (.ireturn, 1) := dk_172 (dk_at dksX4_plain_0 6 rfl rfl)
abbrev cX4_woven : ByteArray := prog_24_method_42_code
def yX4_woven : MethodName := ⟨RX4, "woven", "()I"⟩
def dkwX4_woven_0 : List UInt8 := [42, 42, 16, 121, 182, 0, 250, 182, 0, 254, 172]
abbrev dktX4_woven_0 : List UInt8 := dkwX4_woven_0 ++ []
theorem dksX4_woven_0 : cX4_woven.data.toList.drop 0 = dktX4_woven_0 := by decide +kernel
theorem dX4_woven_0 : decode cX4_woven 0 = .ok (.aload_n 0, 1) := dk_42 (dk_at dksX4_woven_0 0 rfl rfl)
theorem dX4_woven_1 : decode cX4_woven 1 = .ok (.aload_n 0, 1) := dk_42 (dk_at dksX4_woven_0 1 rfl rfl)
theorem dX4_woven_2 : decode cX4_woven 2 = .ok (.bipush 121, 2) := dk_16 121 (dk_at dksX4_woven_0 2 rfl rfl)
theorem dX4_woven_4 : decode cX4_woven 4 = .ok (.invokevirtual 250, 3) := dk_182 0 250 (dk_at dksX4_woven_0 4 rfl rfl)
theorem dX4_woven_7 : decode cX4_woven 7 = .ok (.invokevirtual 254, 3) := dk_182 0 254 (dk_at dksX4_woven_0 7 rfl rfl)
theorem dX4_woven_10 : decode cX4_woven 10 = .ok (.ireturn, 1) := dk_172 (dk_at dksX4_woven_0 10 rfl rfl)
abbrev cX4_run : ByteArray := prog_24_method_44_code
def yX4_run : MethodName := ⟨RX4, "run", "(III)C"⟩
def dkwX4_run_0 : List UInt8 := [42, 4, 27, 28, 29, 182, 1, 15, 172]
abbrev dktX4_run_0 : List UInt8 := dkwX4_run_0 ++ []
theorem dksX4_run_0 : cX4_run.data.toList.drop 0 = dktX4_run_0 := by decide +kernel
theorem dX4_run_0 : decode cX4_run 0 = .ok (.aload_n 0, 1) := dk_42 (dk_at dksX4_run_0 0 rfl rfl)
theorem dX4_run_1 : decode cX4_run 1 = .ok (.iconst 1, 1) := dk_4 (dk_at dksX4_run_0 1 rfl rfl)
theorem dX4_run_2 : decode cX4_run 2 = .ok (.iload_n 1, 1) := dk_27 (dk_at dksX4_run_0 2 rfl rfl)
theorem dX4_run_3 : decode cX4_run 3 = .ok (.iload_n 2, 1) := dk_28 (dk_at dksX4_run_0 3 rfl rfl)
theorem dX4_run_4 : decode cX4_run 4 = .ok (.iload_n 3, 1) := dk_29 (dk_at dksX4_run_0 4 rfl rfl)
theorem dX4_run_5 : decode cX4_run 5 = .ok (.invokevirtual 271, 3) := dk_182 1 15 (dk_at dksX4_run_0 5 rfl rfl)
theorem dX4_run_8 : decode cX4_run 8 = .ok (.ireturn, 1) := dk_172 (dk_at dksX4_run_0 8 rfl rfl)
abbrev cX4_ran : ByteArray := prog_24_method_43_code
def yX4_ran : MethodName := ⟨RX4, "ran", "(ZIII)C"⟩
def dkwX4_ran_3 : List UInt8 := [183, 1, 4, 28, 29, 21, 4, 182, 1, 7, 181, 0, 67, 42, 180, 0, 67, 180, 1, 11, 172]
abbrev dktX4_ran_3 : List UInt8 := dkwX4_ran_3 ++ []
def dkwX4_ran_2 : List UInt8 := [167, 0, 4, 3, 181, 0, 51, 42, 180, 0, 51, 158, 0, 6, 16, 32, 172, 42, 187, 1, 2, 89, 42, 27]
abbrev dktX4_ran_2 : List UInt8 := dkwX4_ran_2 ++ dktX4_ran_3
def dkwX4_ran_1 : List UInt8 := [16, 99, 184, 0, 71, 154, 0, 7, 5, 167, 0, 19, 42, 182, 0, 174, 182, 0, 178, 7, 162, 0, 7, 6]
abbrev dktX4_ran_1 : List UInt8 := dkwX4_ran_1 ++ dktX4_ran_2
def dkwX4_ran_0 : List UInt8 := [42, 42, 28, 182, 0, 75, 154, 0, 7, 4, 167, 0, 42, 29, 184, 0, 79, 153, 0, 15, 21, 4, 16, 157]
abbrev dktX4_ran_0 : List UInt8 := dkwX4_ran_0 ++ dktX4_ran_1
theorem dksX4_ran_0 : cX4_ran.data.toList.drop 0 = dktX4_ran_0 := by decide +kernel
theorem dksX4_ran_1 : cX4_ran.data.toList.drop 24 = dktX4_ran_1 := dk_seg dksX4_ran_0 24 rfl rfl
theorem dksX4_ran_2 : cX4_ran.data.toList.drop 48 = dktX4_ran_2 := dk_seg dksX4_ran_1 24 rfl rfl
theorem dksX4_ran_3 : cX4_ran.data.toList.drop 72 = dktX4_ran_3 := dk_seg dksX4_ran_2 24 rfl rfl
theorem dX4_ran_0 : decode cX4_ran 0 = .ok (.aload_n 0, 1) := dk_42 (dk_at dksX4_ran_0 0 rfl rfl)
theorem dX4_ran_1 : decode cX4_ran 1 = .ok (.aload_n 0, 1) := dk_42 (dk_at dksX4_ran_0 1 rfl rfl)
theorem dX4_ran_2 : decode cX4_ran 2 = .ok (.iload_n 2, 1) := dk_28 (dk_at dksX4_ran_0 2 rfl rfl)
theorem dX4_ran_3 : decode cX4_ran 3 = .ok (.invokevirtual 75, 3) := dk_182 0 75 (dk_at dksX4_ran_0 3 rfl rfl)
theorem dX4_ran_6 : decode cX4_ran 6 = .ok (.ifCond .ne 7, 3) := dk_154 0 7 (dk_at dksX4_ran_0 6 rfl rfl)
theorem dX4_ran_9 : decode cX4_ran 9 = .ok (.iconst 1, 1) := dk_4 (dk_at dksX4_ran_0 9 rfl rfl)
theorem dX4_ran_10 : decode cX4_ran 10 = .ok (.goto 42, 3) := dk_167 0 42 (dk_at dksX4_ran_0 10 rfl rfl)
theorem dX4_ran_13 : decode cX4_ran 13 = .ok (.iload_n 3, 1) := dk_29 (dk_at dksX4_ran_0 13 rfl rfl)
theorem dX4_ran_14 : decode cX4_ran 14 = .ok (.invokestatic 79, 3) := dk_184 0 79 (dk_at dksX4_ran_0 14 rfl rfl)
theorem dX4_ran_17 : decode cX4_ran 17 = .ok (.ifCond .eq 15, 3) := dk_153 0 15 (dk_at dksX4_ran_0 17 rfl rfl)
theorem dX4_ran_20 : decode cX4_ran 20 = .ok (.iload 4, 2) := dk_21 4 (dk_at dksX4_ran_0 20 rfl rfl)
theorem dX4_ran_22 : decode cX4_ran 22 = .ok (.bipush (-99), 2) := dk_16 157 (dk_at dksX4_ran_0 22 rfl rfl)
theorem dX4_ran_24 : decode cX4_ran 24 = .ok (.bipush 99, 2) := dk_16 99 (dk_at dksX4_ran_1 0 rfl rfl)
theorem dX4_ran_26 : decode cX4_ran 26 = .ok (.invokestatic 71, 3) := dk_184 0 71 (dk_at dksX4_ran_1 2 rfl rfl)
theorem dX4_ran_29 : decode cX4_ran 29 = .ok (.ifCond .ne 7, 3) := dk_154 0 7 (dk_at dksX4_ran_1 5 rfl rfl)
theorem dX4_ran_32 : decode cX4_ran 32 = .ok (.iconst 2, 1) := dk_5 (dk_at dksX4_ran_1 8 rfl rfl)
theorem dX4_ran_33 : decode cX4_ran 33 = .ok (.goto 19, 3) := dk_167 0 19 (dk_at dksX4_ran_1 9 rfl rfl)
theorem dX4_ran_36 : decode cX4_ran 36 = .ok (.aload_n 0, 1) := dk_42 (dk_at dksX4_ran_1 12 rfl rfl)
theorem dX4_ran_37 : decode cX4_ran 37 = .ok (.invokevirtual 174, 3) := dk_182 0 174 (dk_at dksX4_ran_1 13 rfl rfl)
theorem dX4_ran_40 : decode cX4_ran 40 = .ok (.invokevirtual 178, 3) := dk_182 0 178 (dk_at dksX4_ran_1 16 rfl rfl)
theorem dX4_ran_43 : decode cX4_ran 43 = .ok (.iconst 4, 1) := dk_7 (dk_at dksX4_ran_1 19 rfl rfl)
theorem dX4_ran_44 : decode cX4_ran 44 = .ok (.if_icmp .ge 7, 3) := dk_162 0 7 (dk_at dksX4_ran_1 20 rfl rfl)
theorem dX4_ran_47 : decode cX4_ran 47 = .ok (.iconst 3, 1) := dk_6 (dk_at dksX4_ran_1 23 rfl rfl)
theorem dX4_ran_48 : decode cX4_ran 48 = .ok (.goto 4, 3) := dk_167 0 4 (dk_at dksX4_ran_2 0 rfl rfl)
theorem dX4_ran_51 : decode cX4_ran 51 = .ok (.iconst 0, 1) := dk_3 (dk_at dksX4_ran_2 3 rfl rfl)
theorem dX4_ran_52 : decode cX4_ran 52 = .ok (.putfield 51, 3) := dk_181 0 51 (dk_at dksX4_ran_2 4 rfl rfl)
theorem dX4_ran_55 : decode cX4_ran 55 = .ok (.aload_n 0, 1) := dk_42 (dk_at dksX4_ran_2 7 rfl rfl)
theorem dX4_ran_56 : decode cX4_ran 56 = .ok (.getfield 51, 3) := dk_180 0 51 (dk_at dksX4_ran_2 8 rfl rfl)
theorem dX4_ran_59 : decode cX4_ran 59 = .ok (.ifCond .le 6, 3) := dk_158 0 6 (dk_at dksX4_ran_2 11 rfl rfl)
theorem dX4_ran_62 : decode cX4_ran 62 = .ok (.bipush 32, 2) := dk_16 32 (dk_at dksX4_ran_2 14 rfl rfl)
theorem dX4_ran_64 : decode cX4_ran 64 = .ok (.ireturn, 1) := dk_172 (dk_at dksX4_ran_2 16 rfl rfl)
theorem dX4_ran_65 : decode cX4_ran 65 = .ok (.aload_n 0, 1) := dk_42 (dk_at dksX4_ran_2 17 rfl rfl)
theorem dX4_ran_66 : decode cX4_ran 66 = .ok (.new 258, 3) := dk_187 1 2 (dk_at dksX4_ran_2 18 rfl rfl)
theorem dX4_ran_69 : decode cX4_ran 69 = .ok (.dup, 1) := dk_89 (dk_at dksX4_ran_2 21 rfl rfl)
theorem dX4_ran_70 : decode cX4_ran 70 = .ok (.aload_n 0, 1) := dk_42 (dk_at dksX4_ran_2 22 rfl rfl)
theorem dX4_ran_71 : decode cX4_ran 71 = .ok (.iload_n 1, 1) := dk_27 (dk_at dksX4_ran_2 23 rfl rfl)
theorem dX4_ran_72 : decode cX4_ran 72 = .ok (.invokespecial 260, 3) := dk_183 1 4 (dk_at dksX4_ran_3 0 rfl rfl)
theorem dX4_ran_75 : decode cX4_ran 75 = .ok (.iload_n 2, 1) := dk_28 (dk_at dksX4_ran_3 3 rfl rfl)
theorem dX4_ran_76 : decode cX4_ran 76 = .ok (.iload_n 3, 1) := dk_29 (dk_at dksX4_ran_3 4 rfl rfl)
theorem dX4_ran_77 : decode cX4_ran 77 = .ok (.iload 4, 2) := dk_21 4 (dk_at dksX4_ran_3 5 rfl rfl)
theorem dX4_ran_79 : decode cX4_ran 79 = .ok (.invokevirtual 263, 3) := dk_182 1 7 (dk_at dksX4_ran_3 7 rfl rfl)
theorem dX4_ran_82 : decode cX4_ran 82 = .ok (.putfield 67, 3) := dk_181 0 67 (dk_at dksX4_ran_3 10 rfl rfl)
theorem dX4_ran_85 : decode cX4_ran 85 = .ok (.aload_n 0, 1) := dk_42 (dk_at dksX4_ran_3 13 rfl rfl)
theorem dX4_ran_86 : decode cX4_ran 86 = .ok (.getfield 67, 3) := dk_180 0 67 (dk_at dksX4_ran_3 14 rfl rfl)
theorem dX4_ran_89 : decode cX4_ran 89 = .ok (.getfield 267, 3) := dk_180 1 11 (dk_at dksX4_ran_3 17 rfl rfl)
theorem dX4_ran_92 : decode cX4_ran 92 = .ok (.ireturn, 1) := dk_172 (dk_at dksX4_ran_3 20 rfl rfl)
abbrev cX4_runAsking : ByteArray := prog_24_method_45_code
def yX4_runAsking : MethodName := ⟨RX4, "runAsking", "(III)C"⟩
def dkwX4_runAsking_0 : List UInt8 := [42, 3, 27, 28, 29, 182, 1, 15, 172]
abbrev dktX4_runAsking_0 : List UInt8 := dkwX4_runAsking_0 ++ []
theorem dksX4_runAsking_0 : cX4_runAsking.data.toList.drop 0 = dktX4_runAsking_0 := by decide +kernel
theorem dX4_runAsking_0 : decode cX4_runAsking 0 = .ok (.aload_n 0, 1) := dk_42 (dk_at dksX4_runAsking_0 0 rfl rfl)
theorem dX4_runAsking_1 : decode cX4_runAsking 1 = .ok (.iconst 0, 1) := dk_3 (dk_at dksX4_runAsking_0 1 rfl rfl)
theorem dX4_runAsking_2 : decode cX4_runAsking 2 = .ok (.iload_n 1, 1) := dk_27 (dk_at dksX4_runAsking_0 2 rfl rfl)
theorem dX4_runAsking_3 : decode cX4_runAsking 3 = .ok (.iload_n 2, 1) := dk_28 (dk_at dksX4_runAsking_0 3 rfl rfl)
theorem dX4_runAsking_4 : decode cX4_runAsking 4 = .ok (.iload_n 3, 1) := dk_29 (dk_at dksX4_runAsking_0 4 rfl rfl)
theorem dX4_runAsking_5 : decode cX4_runAsking 5 = .ok (.invokevirtual 271, 3) := dk_182 1 15 (dk_at dksX4_runAsking_0 5 rfl rfl)
theorem dX4_runAsking_8 : decode cX4_runAsking 8 = .ok (.ireturn, 1) := dk_172 (dk_at dksX4_runAsking_0 8 rfl rfl)
abbrev cX4_result : ByteArray := prog_24_method_46_code
def yX4_result : MethodName := ⟨RX4, "result", "()I"⟩
def dkwX4_result_2 : List UInt8 := [180, 1, 19, 172]
abbrev dktX4_result_2 : List UInt8 := dkwX4_result_2 ++ []
def dkwX4_result_1 : List UInt8 := [160, 0, 7, 4, 167, 0, 4, 3, 182, 0, 150, 158, 0, 7, 3, 167, 0, 10, 42, 180, 0, 67]
abbrev dktX4_result_1 : List UInt8 := dkwX4_result_1 ++ dktX4_result_2
def dkwX4_result_0 : List UInt8 := [42, 42, 180, 0, 67, 180, 1, 11, 16, 114, 159, 0, 15, 42, 180, 0, 67, 180, 1, 11, 16, 120]
abbrev dktX4_result_0 : List UInt8 := dkwX4_result_0 ++ dktX4_result_1
theorem dksX4_result_0 : cX4_result.data.toList.drop 0 = dktX4_result_0 := by decide +kernel
theorem dksX4_result_1 : cX4_result.data.toList.drop 22 = dktX4_result_1 := dk_seg dksX4_result_0 22 rfl rfl
theorem dksX4_result_2 : cX4_result.data.toList.drop 44 = dktX4_result_2 := dk_seg dksX4_result_1 22 rfl rfl
theorem dX4_result_0 : decode cX4_result 0 = .ok (.aload_n 0, 1) := dk_42 (dk_at dksX4_result_0 0 rfl rfl)
theorem dX4_result_1 : decode cX4_result 1 = .ok (.aload_n 0, 1) := dk_42 (dk_at dksX4_result_0 1 rfl rfl)
theorem dX4_result_2 : decode cX4_result 2 = .ok (.getfield 67, 3) := dk_180 0 67 (dk_at dksX4_result_0 2 rfl rfl)
theorem dX4_result_5 : decode cX4_result 5 = .ok (.getfield 267, 3) := dk_180 1 11 (dk_at dksX4_result_0 5 rfl rfl)
theorem dX4_result_8 : decode cX4_result 8 = .ok (.bipush 114, 2) := dk_16 114 (dk_at dksX4_result_0 8 rfl rfl)
theorem dX4_result_10 : decode cX4_result 10 = .ok (.if_icmp .eq 15, 3) := dk_159 0 15 (dk_at dksX4_result_0 10 rfl rfl)
theorem dX4_result_13 : decode cX4_result 13 = .ok (.aload_n 0, 1) := dk_42 (dk_at dksX4_result_0 13 rfl rfl)
theorem dX4_result_14 : decode cX4_result 14 = .ok (.getfield 67, 3) := dk_180 0 67 (dk_at dksX4_result_0 14 rfl rfl)
theorem dX4_result_17 : decode cX4_result 17 = .ok (.getfield 267, 3) := dk_180 1 11 (dk_at dksX4_result_0 17 rfl rfl)
theorem dX4_result_20 : decode cX4_result 20 = .ok (.bipush 120, 2) := dk_16 120 (dk_at dksX4_result_0 20 rfl rfl)
theorem dX4_result_22 : decode cX4_result 22 = .ok (.if_icmp .ne 7, 3) := dk_160 0 7 (dk_at dksX4_result_1 0 rfl rfl)
theorem dX4_result_25 : decode cX4_result 25 = .ok (.iconst 1, 1) := dk_4 (dk_at dksX4_result_1 3 rfl rfl)
theorem dX4_result_26 : decode cX4_result 26 = .ok (.goto 4, 3) := dk_167 0 4 (dk_at dksX4_result_1 4 rfl rfl)
theorem dX4_result_29 : decode cX4_result 29 = .ok (.iconst 0, 1) := dk_3 (dk_at dksX4_result_1 7 rfl rfl)
theorem dX4_result_30 : decode cX4_result 30 = .ok (.invokevirtual 150, 3) := dk_182 0 150 (dk_at dksX4_result_1 8 rfl rfl)
theorem dX4_result_33 : decode cX4_result 33 = .ok (.ifCond .le 7, 3) := dk_158 0 7 (dk_at dksX4_result_1 11 rfl rfl)
theorem dX4_result_36 : decode cX4_result 36 = .ok (.iconst 0, 1) := dk_3 (dk_at dksX4_result_1 14 rfl rfl)
theorem dX4_result_37 : decode cX4_result 37 = .ok (.goto 10, 3) := dk_167 0 10 (dk_at dksX4_result_1 15 rfl rfl)
theorem dX4_result_40 : decode cX4_result 40 = .ok (.aload_n 0, 1) := dk_42 (dk_at dksX4_result_1 18 rfl rfl)
theorem dX4_result_41 : decode cX4_result 41 = .ok (.getfield 67, 3) := dk_180 0 67 (dk_at dksX4_result_1 19 rfl rfl)
theorem dX4_result_44 : decode cX4_result 44 = .ok (.getfield 275, 3) := dk_180 1 19 (dk_at dksX4_result_2 0 rfl rfl)
theorem dX4_result_47 : decode cX4_result 47 = .ok (.ireturn, 1) := dk_172 (dk_at dksX4_result_2 3 rfl rfl)
abbrev cX4_points : ByteArray := prog_24_method_47_code
def yX4_points : MethodName := ⟨RX4, "points", "()I"⟩
def dkwX4_points_0 : List UInt8 := [42, 42, 180, 0, 67, 180, 1, 22, 182, 0, 254, 172]
abbrev dktX4_points_0 : List UInt8 := dkwX4_points_0 ++ []
theorem dksX4_points_0 : cX4_points.data.toList.drop 0 = dktX4_points_0 := by decide +kernel
theorem dX4_points_0 : decode cX4_points 0 = .ok (.aload_n 0, 1) := dk_42 (dk_at dksX4_points_0 0 rfl rfl)
theorem dX4_points_1 : decode cX4_points 1 = .ok (.aload_n 0, 1) := dk_42 (dk_at dksX4_points_0 1 rfl rfl)
theorem dX4_points_2 : decode cX4_points 2 = .ok (.getfield 67, 3) := dk_180 0 67 (dk_at dksX4_points_0 2 rfl rfl)
theorem dX4_points_5 : decode cX4_points 5 = .ok (.getfield 278, 3) := dk_180 1 22 (dk_at dksX4_points_0 5 rfl rfl)
theorem dX4_points_8 : decode cX4_points 8 = .ok (.invokevirtual 254, 3) := dk_182 0 254 (dk_at dksX4_points_0 8 rfl rfl)
theorem dX4_points_11 : decode cX4_points 11 = .ok (.ireturn, 1) := dk_172 (dk_at dksX4_points_0 11 rfl rfl)
abbrev cX4_asked : ByteArray := prog_24_method_48_code
def yX4_asked : MethodName := ⟨RX4, "asked", "()I"⟩
def dkwX4_asked_0 : List UInt8 := [42, 42, 180, 0, 67, 180, 1, 25, 182, 0, 254, 172]
abbrev dktX4_asked_0 : List UInt8 := dkwX4_asked_0 ++ []
theorem dksX4_asked_0 : cX4_asked.data.toList.drop 0 = dktX4_asked_0 := by decide +kernel
theorem dX4_asked_0 : decode cX4_asked 0 = .ok (.aload_n 0, 1) := dk_42 (dk_at dksX4_asked_0 0 rfl rfl)
theorem dX4_asked_1 : decode cX4_asked 1 = .ok (.aload_n 0, 1) := dk_42 (dk_at dksX4_asked_0 1 rfl rfl)
theorem dX4_asked_2 : decode cX4_asked 2 = .ok (.getfield 67, 3) := dk_180 0 67 (dk_at dksX4_asked_0 2 rfl rfl)
theorem dX4_asked_5 : decode cX4_asked 5 = .ok (.getfield 281, 3) := dk_180 1 25 (dk_at dksX4_asked_0 5 rfl rfl)
theorem dX4_asked_8 : decode cX4_asked 8 = .ok (.invokevirtual 254, 3) := dk_182 0 254 (dk_at dksX4_asked_0 8 rfl rfl)
theorem dX4_asked_11 : decode cX4_asked 11 = .ok (.ireturn, 1) := dk_172 (dk_at dksX4_asked_0 11 rfl rfl)
abbrev cX4_traceLength : ByteArray := prog_24_method_49_code
def yX4_traceLength : MethodName := ⟨RX4, "traceLength", "()I"⟩
def dkwX4_traceLength_0 : List UInt8 := [42, 42, 180, 0, 67, 180, 1, 28, 182, 0, 178, 182, 0, 254, 172]
abbrev dktX4_traceLength_0 : List UInt8 := dkwX4_traceLength_0 ++ []
theorem dksX4_traceLength_0 : cX4_traceLength.data.toList.drop 0 = dktX4_traceLength_0 := by decide +kernel
theorem dX4_traceLength_0 : decode cX4_traceLength 0 = .ok (.aload_n 0, 1) := dk_42 (dk_at dksX4_traceLength_0 0 rfl rfl)
theorem dX4_traceLength_1 : decode cX4_traceLength 1 = .ok (.aload_n 0, 1) := dk_42 (dk_at dksX4_traceLength_0 1 rfl rfl)
theorem dX4_traceLength_2 : decode cX4_traceLength 2 = .ok (.getfield 67, 3) := dk_180 0 67 (dk_at dksX4_traceLength_0 2 rfl rfl)
theorem dX4_traceLength_5 : decode cX4_traceLength 5 = .ok (.getfield 284, 3) := dk_180 1 28 (dk_at dksX4_traceLength_0 5 rfl rfl)
theorem dX4_traceLength_8 : decode cX4_traceLength 8 = .ok (.invokevirtual 178, 3) := dk_182 0 178 (dk_at dksX4_traceLength_0 8 rfl rfl)
theorem dX4_traceLength_11 : decode cX4_traceLength 11 = .ok (.invokevirtual 254, 3) := dk_182 0 254 (dk_at dksX4_traceLength_0 11 rfl rfl)
theorem dX4_traceLength_14 : decode cX4_traceLength 14 = .ok (.ireturn, 1) := dk_172 (dk_at dksX4_traceLength_0 14 rfl rfl)
abbrev cX4_traceKind : ByteArray := prog_24_method_51_code
def yX4_traceKind : MethodName := ⟨RX4, "traceKind", "(I)C"⟩
def dkwX4_traceKind_1 : List UInt8 := [192, 1, 35, 182, 1, 37, 172]
abbrev dktX4_traceKind_1 : List UInt8 := dkwX4_traceKind_1 ++ []
def dkwX4_traceKind_0 : List UInt8 := [42, 27, 182, 1, 32, 158, 0, 8, 16, 32, 167, 0, 20, 42, 180, 0, 67, 180, 1, 28, 27, 182, 0, 181]
abbrev dktX4_traceKind_0 : List UInt8 := dkwX4_traceKind_0 ++ dktX4_traceKind_1
theorem dksX4_traceKind_0 : cX4_traceKind.data.toList.drop 0 = dktX4_traceKind_0 := by decide +kernel
theorem dksX4_traceKind_1 : cX4_traceKind.data.toList.drop 24 = dktX4_traceKind_1 := dk_seg dksX4_traceKind_0 24 rfl rfl
theorem dX4_traceKind_0 : decode cX4_traceKind 0 = .ok (.aload_n 0, 1) := dk_42 (dk_at dksX4_traceKind_0 0 rfl rfl)
theorem dX4_traceKind_1 : decode cX4_traceKind 1 = .ok (.iload_n 1, 1) := dk_27 (dk_at dksX4_traceKind_0 1 rfl rfl)
theorem dX4_traceKind_2 : decode cX4_traceKind 2 = .ok (.invokevirtual 288, 3) := dk_182 1 32 (dk_at dksX4_traceKind_0 2 rfl rfl)
theorem dX4_traceKind_5 : decode cX4_traceKind 5 = .ok (.ifCond .le 8, 3) := dk_158 0 8 (dk_at dksX4_traceKind_0 5 rfl rfl)
theorem dX4_traceKind_8 : decode cX4_traceKind 8 = .ok (.bipush 32, 2) := dk_16 32 (dk_at dksX4_traceKind_0 8 rfl rfl)
theorem dX4_traceKind_10 : decode cX4_traceKind 10 = .ok (.goto 20, 3) := dk_167 0 20 (dk_at dksX4_traceKind_0 10 rfl rfl)
theorem dX4_traceKind_13 : decode cX4_traceKind 13 = .ok (.aload_n 0, 1) := dk_42 (dk_at dksX4_traceKind_0 13 rfl rfl)
theorem dX4_traceKind_14 : decode cX4_traceKind 14 = .ok (.getfield 67, 3) := dk_180 0 67 (dk_at dksX4_traceKind_0 14 rfl rfl)
theorem dX4_traceKind_17 : decode cX4_traceKind 17 = .ok (.getfield 284, 3) := dk_180 1 28 (dk_at dksX4_traceKind_0 17 rfl rfl)
theorem dX4_traceKind_20 : decode cX4_traceKind 20 = .ok (.iload_n 1, 1) := dk_27 (dk_at dksX4_traceKind_0 20 rfl rfl)
theorem dX4_traceKind_21 : decode cX4_traceKind 21 = .ok (.invokevirtual 181, 3) := dk_182 0 181 (dk_at dksX4_traceKind_0 21 rfl rfl)
theorem dX4_traceKind_24 : decode cX4_traceKind 24 = .ok (.checkcast 291, 3) := dk_192 1 35 (dk_at dksX4_traceKind_1 0 rfl rfl)
theorem dX4_traceKind_27 : decode cX4_traceKind 27 = .ok (.invokevirtual 293, 3) := dk_182 1 37 (dk_at dksX4_traceKind_1 3 rfl rfl)
theorem dX4_traceKind_30 : decode cX4_traceKind 30 = .ok (.ireturn, 1) := dk_172 (dk_at dksX4_traceKind_1 6 rfl rfl)
abbrev cX4_wrongIndex : ByteArray := prog_24_method_50_code
def yX4_wrongIndex : MethodName := ⟨RX4, "wrongIndex", "(I)I"⟩
def dkwX4_wrongIndex_0 : List UInt8 := [42, 27, 3, 42, 180, 0, 67, 180, 1, 28, 182, 0, 178, 4, 100, 184, 0, 71, 182, 0, 150, 172]
abbrev dktX4_wrongIndex_0 : List UInt8 := dkwX4_wrongIndex_0 ++ []
theorem dksX4_wrongIndex_0 : cX4_wrongIndex.data.toList.drop 0 = dktX4_wrongIndex_0 := by decide +kernel
theorem dX4_wrongIndex_0 : decode cX4_wrongIndex 0 = .ok (.aload_n 0, 1) := dk_42 (dk_at dksX4_wrongIndex_0 0 rfl rfl)
theorem dX4_wrongIndex_1 : decode cX4_wrongIndex 1 = .ok (.iload_n 1, 1) := dk_27 (dk_at dksX4_wrongIndex_0 1 rfl rfl)
theorem dX4_wrongIndex_2 : decode cX4_wrongIndex 2 = .ok (.iconst 0, 1) := dk_3 (dk_at dksX4_wrongIndex_0 2 rfl rfl)
theorem dX4_wrongIndex_3 : decode cX4_wrongIndex 3 = .ok (.aload_n 0, 1) := dk_42 (dk_at dksX4_wrongIndex_0 3 rfl rfl)
theorem dX4_wrongIndex_4 : decode cX4_wrongIndex 4 = .ok (.getfield 67, 3) := dk_180 0 67 (dk_at dksX4_wrongIndex_0 4 rfl rfl)
theorem dX4_wrongIndex_7 : decode cX4_wrongIndex 7 = .ok (.getfield 284, 3) := dk_180 1 28 (dk_at dksX4_wrongIndex_0 7 rfl rfl)
theorem dX4_wrongIndex_10 : decode cX4_wrongIndex 10 = .ok (.invokevirtual 178, 3) := dk_182 0 178 (dk_at dksX4_wrongIndex_0 10 rfl rfl)
theorem dX4_wrongIndex_13 : decode cX4_wrongIndex 13 = .ok (.iconst 1, 1) := dk_4 (dk_at dksX4_wrongIndex_0 13 rfl rfl)
theorem dX4_wrongIndex_14 : decode cX4_wrongIndex 14 = .ok (.isub, 1) := dk_100 (dk_at dksX4_wrongIndex_0 14 rfl rfl)
theorem dX4_wrongIndex_15 : decode cX4_wrongIndex 15 = .ok (.invokestatic 71, 3) := dk_184 0 71 (dk_at dksX4_wrongIndex_0 15 rfl rfl)
theorem dX4_wrongIndex_18 : decode cX4_wrongIndex 18 = .ok (.invokevirtual 150, 3) := dk_182 0 150 (dk_at dksX4_wrongIndex_0 18 rfl rfl)
theorem dX4_wrongIndex_21 : decode cX4_wrongIndex 21 = .ok (.ireturn, 1) := dk_172 (dk_at dksX4_wrongIndex_0 21 rfl rfl)
abbrev cX4_traceValue : ByteArray := prog_24_method_52_code
def yX4_traceValue : MethodName := ⟨RX4, "traceValue", "(I)I"⟩
def dkwX4_traceValue_1 : List UInt8 := [192, 1, 35, 182, 1, 38, 172]
abbrev dktX4_traceValue_1 : List UInt8 := dkwX4_traceValue_1 ++ []
def dkwX4_traceValue_0 : List UInt8 := [42, 27, 182, 1, 32, 158, 0, 7, 3, 167, 0, 20, 42, 180, 0, 67, 180, 1, 28, 27, 182, 0, 181]
abbrev dktX4_traceValue_0 : List UInt8 := dkwX4_traceValue_0 ++ dktX4_traceValue_1
theorem dksX4_traceValue_0 : cX4_traceValue.data.toList.drop 0 = dktX4_traceValue_0 := by decide +kernel
theorem dksX4_traceValue_1 : cX4_traceValue.data.toList.drop 23 = dktX4_traceValue_1 := dk_seg dksX4_traceValue_0 23 rfl rfl
theorem dX4_traceValue_0 : decode cX4_traceValue 0 = .ok (.aload_n 0, 1) := dk_42 (dk_at dksX4_traceValue_0 0 rfl rfl)
theorem dX4_traceValue_1 : decode cX4_traceValue 1 = .ok (.iload_n 1, 1) := dk_27 (dk_at dksX4_traceValue_0 1 rfl rfl)
theorem dX4_traceValue_2 : decode cX4_traceValue 2 = .ok (.invokevirtual 288, 3) := dk_182 1 32 (dk_at dksX4_traceValue_0 2 rfl rfl)
theorem dX4_traceValue_5 : decode cX4_traceValue 5 = .ok (.ifCond .le 7, 3) := dk_158 0 7 (dk_at dksX4_traceValue_0 5 rfl rfl)
theorem dX4_traceValue_8 : decode cX4_traceValue 8 = .ok (.iconst 0, 1) := dk_3 (dk_at dksX4_traceValue_0 8 rfl rfl)
theorem dX4_traceValue_9 : decode cX4_traceValue 9 = .ok (.goto 20, 3) := dk_167 0 20 (dk_at dksX4_traceValue_0 9 rfl rfl)
theorem dX4_traceValue_12 : decode cX4_traceValue 12 = .ok (.aload_n 0, 1) := dk_42 (dk_at dksX4_traceValue_0 12 rfl rfl)
theorem dX4_traceValue_13 : decode cX4_traceValue 13 = .ok (.getfield 67, 3) := dk_180 0 67 (dk_at dksX4_traceValue_0 13 rfl rfl)
theorem dX4_traceValue_16 : decode cX4_traceValue 16 = .ok (.getfield 284, 3) := dk_180 1 28 (dk_at dksX4_traceValue_0 16 rfl rfl)
theorem dX4_traceValue_19 : decode cX4_traceValue 19 = .ok (.iload_n 1, 1) := dk_27 (dk_at dksX4_traceValue_0 19 rfl rfl)
theorem dX4_traceValue_20 : decode cX4_traceValue 20 = .ok (.invokevirtual 181, 3) := dk_182 0 181 (dk_at dksX4_traceValue_0 20 rfl rfl)
theorem dX4_traceValue_23 : decode cX4_traceValue 23 = .ok (.checkcast 291, 3) := dk_192 1 35 (dk_at dksX4_traceValue_1 0 rfl rfl)
theorem dX4_traceValue_26 : decode cX4_traceValue 26 = .ok (.invokevirtual 294, 3) := dk_182 1 38 (dk_at dksX4_traceValue_1 3 rfl rfl)
theorem dX4_traceValue_29 : decode cX4_traceValue 29 = .ok (.ireturn, 1) := dk_172 (dk_at dksX4_traceValue_1 6 rfl rfl)
abbrev cX4_traceAdvice : ByteArray := prog_24_method_53_code
def yX4_traceAdvice : MethodName := ⟨RX4, "traceAdvice", "(I)I"⟩
def dkwX4_traceAdvice_1 : List UInt8 := [192, 1, 35, 182, 1, 40, 172]
abbrev dktX4_traceAdvice_1 : List UInt8 := dkwX4_traceAdvice_1 ++ []
def dkwX4_traceAdvice_0 : List UInt8 := [42, 27, 182, 1, 32, 158, 0, 7, 3, 167, 0, 20, 42, 180, 0, 67, 180, 1, 28, 27, 182, 0, 181]
abbrev dktX4_traceAdvice_0 : List UInt8 := dkwX4_traceAdvice_0 ++ dktX4_traceAdvice_1
theorem dksX4_traceAdvice_0 : cX4_traceAdvice.data.toList.drop 0 = dktX4_traceAdvice_0 := by decide +kernel
theorem dksX4_traceAdvice_1 : cX4_traceAdvice.data.toList.drop 23 = dktX4_traceAdvice_1 := dk_seg dksX4_traceAdvice_0 23 rfl rfl
theorem dX4_traceAdvice_0 : decode cX4_traceAdvice 0 = .ok (.aload_n 0, 1) := dk_42 (dk_at dksX4_traceAdvice_0 0 rfl rfl)
theorem dX4_traceAdvice_1 : decode cX4_traceAdvice 1 = .ok (.iload_n 1, 1) := dk_27 (dk_at dksX4_traceAdvice_0 1 rfl rfl)
theorem dX4_traceAdvice_2 : decode cX4_traceAdvice 2 = .ok (.invokevirtual 288, 3) := dk_182 1 32 (dk_at dksX4_traceAdvice_0 2 rfl rfl)
theorem dX4_traceAdvice_5 : decode cX4_traceAdvice 5 = .ok (.ifCond .le 7, 3) := dk_158 0 7 (dk_at dksX4_traceAdvice_0 5 rfl rfl)
theorem dX4_traceAdvice_8 : decode cX4_traceAdvice 8 = .ok (.iconst 0, 1) := dk_3 (dk_at dksX4_traceAdvice_0 8 rfl rfl)
theorem dX4_traceAdvice_9 : decode cX4_traceAdvice 9 = .ok (.goto 20, 3) := dk_167 0 20 (dk_at dksX4_traceAdvice_0 9 rfl rfl)
theorem dX4_traceAdvice_12 : decode cX4_traceAdvice 12 = .ok (.aload_n 0, 1) := dk_42 (dk_at dksX4_traceAdvice_0 12 rfl rfl)
theorem dX4_traceAdvice_13 : decode cX4_traceAdvice 13 = .ok (.getfield 67, 3) := dk_180 0 67 (dk_at dksX4_traceAdvice_0 13 rfl rfl)
theorem dX4_traceAdvice_16 : decode cX4_traceAdvice 16 = .ok (.getfield 284, 3) := dk_180 1 28 (dk_at dksX4_traceAdvice_0 16 rfl rfl)
theorem dX4_traceAdvice_19 : decode cX4_traceAdvice 19 = .ok (.iload_n 1, 1) := dk_27 (dk_at dksX4_traceAdvice_0 19 rfl rfl)
theorem dX4_traceAdvice_20 : decode cX4_traceAdvice 20 = .ok (.invokevirtual 181, 3) := dk_182 0 181 (dk_at dksX4_traceAdvice_0 20 rfl rfl)
theorem dX4_traceAdvice_23 : decode cX4_traceAdvice 23 = .ok (.checkcast 291, 3) := dk_192 1 35 (dk_at dksX4_traceAdvice_1 0 rfl rfl)
theorem dX4_traceAdvice_26 : decode cX4_traceAdvice 26 = .ok (.invokevirtual 296, 3) := dk_182 1 40 (dk_at dksX4_traceAdvice_1 3 rfl rfl)
theorem dX4_traceAdvice_29 : decode cX4_traceAdvice 29 = .ok (.ireturn, 1) := dk_172 (dk_at dksX4_traceAdvice_1 6 rfl rfl)
abbrev cX4_traceSum : ByteArray := prog_24_method_54_code
def yX4_traceSum : MethodName := ⟨RX4, "traceSum", "()J"⟩
def dkwX4_traceSum_3 : List UInt8 := [167, 255, 190, 42, 3, 181, 0, 51, 31, 173]
abbrev dktX4_traceSum_3 : List UInt8 := dkwX4_traceSum_3 ++ []
def dkwX4_traceSum_2 : List UInt8 := [180, 1, 28, 29, 182, 0, 181, 192, 1, 35, 182, 1, 40, 133, 105, 97, 105, 97, 64, 132, 3, 1]
abbrev dktX4_traceSum_2 : List UInt8 := dkwX4_traceSum_2 ++ dktX4_traceSum_3
def dkwX4_traceSum_1 : List UInt8 := [180, 0, 67, 180, 1, 28, 29, 182, 0, 181, 192, 1, 35, 182, 1, 38, 133, 20, 1, 43, 42, 180, 0, 67]
abbrev dktX4_traceSum_1 : List UInt8 := dkwX4_traceSum_1 ++ dktX4_traceSum_2
def dkwX4_traceSum_0 : List UInt8 := [9, 64, 3, 62, 29, 42, 180, 0, 67, 180, 1, 28, 182, 0, 178, 162, 0, 58, 31, 29, 133, 10, 97, 42]
abbrev dktX4_traceSum_0 : List UInt8 := dkwX4_traceSum_0 ++ dktX4_traceSum_1
theorem dksX4_traceSum_0 : cX4_traceSum.data.toList.drop 0 = dktX4_traceSum_0 := by decide +kernel
theorem dksX4_traceSum_1 : cX4_traceSum.data.toList.drop 24 = dktX4_traceSum_1 := dk_seg dksX4_traceSum_0 24 rfl rfl
theorem dksX4_traceSum_2 : cX4_traceSum.data.toList.drop 48 = dktX4_traceSum_2 := dk_seg dksX4_traceSum_1 24 rfl rfl
theorem dksX4_traceSum_3 : cX4_traceSum.data.toList.drop 70 = dktX4_traceSum_3 := dk_seg dksX4_traceSum_2 22 rfl rfl
theorem dX4_traceSum_0 : decode cX4_traceSum 0 = .ok (.lconst 0, 1) := dk_9 (dk_at dksX4_traceSum_0 0 rfl rfl)
theorem dX4_traceSum_1 : decode cX4_traceSum 1 = .ok (.lstore_n 1, 1) := dk_64 (dk_at dksX4_traceSum_0 1 rfl rfl)
theorem dX4_traceSum_2 : decode cX4_traceSum 2 = .ok (.iconst 0, 1) := dk_3 (dk_at dksX4_traceSum_0 2 rfl rfl)
theorem dX4_traceSum_3 : decode cX4_traceSum 3 = .ok (.istore_n 3, 1) := dk_62 (dk_at dksX4_traceSum_0 3 rfl rfl)
theorem dX4_traceSum_4 : decode cX4_traceSum 4 = .ok (.iload_n 3, 1) := dk_29 (dk_at dksX4_traceSum_0 4 rfl rfl)
theorem dX4_traceSum_5 : decode cX4_traceSum 5 = .ok (.aload_n 0, 1) := dk_42 (dk_at dksX4_traceSum_0 5 rfl rfl)
theorem dX4_traceSum_6 : decode cX4_traceSum 6 = .ok (.getfield 67, 3) := dk_180 0 67 (dk_at dksX4_traceSum_0 6 rfl rfl)
theorem dX4_traceSum_9 : decode cX4_traceSum 9 = .ok (.getfield 284, 3) := dk_180 1 28 (dk_at dksX4_traceSum_0 9 rfl rfl)
theorem dX4_traceSum_12 : decode cX4_traceSum 12 = .ok (.invokevirtual 178, 3) := dk_182 0 178 (dk_at dksX4_traceSum_0 12 rfl rfl)
theorem dX4_traceSum_15 : decode cX4_traceSum 15 = .ok (.if_icmp .ge 58, 3) := dk_162 0 58 (dk_at dksX4_traceSum_0 15 rfl rfl)
theorem dX4_traceSum_18 : decode cX4_traceSum 18 = .ok (.lload_n 1, 1) := dk_31 (dk_at dksX4_traceSum_0 18 rfl rfl)
theorem dX4_traceSum_19 : decode cX4_traceSum 19 = .ok (.iload_n 3, 1) := dk_29 (dk_at dksX4_traceSum_0 19 rfl rfl)
theorem dX4_traceSum_20 : decode cX4_traceSum 20 = .ok (.i2l, 1) := dk_133 (dk_at dksX4_traceSum_0 20 rfl rfl)
theorem dX4_traceSum_21 : decode cX4_traceSum 21 = .ok (.lconst 1, 1) := dk_10 (dk_at dksX4_traceSum_0 21 rfl rfl)
theorem dX4_traceSum_22 : decode cX4_traceSum 22 = .ok (.ladd, 1) := dk_97 (dk_at dksX4_traceSum_0 22 rfl rfl)
theorem dX4_traceSum_23 : decode cX4_traceSum 23 = .ok (.aload_n 0, 1) := dk_42 (dk_at dksX4_traceSum_0 23 rfl rfl)
theorem dX4_traceSum_24 : decode cX4_traceSum 24 = .ok (.getfield 67, 3) := dk_180 0 67 (dk_at dksX4_traceSum_1 0 rfl rfl)
theorem dX4_traceSum_27 : decode cX4_traceSum 27 = .ok (.getfield 284, 3) := dk_180 1 28 (dk_at dksX4_traceSum_1 3 rfl rfl)
theorem dX4_traceSum_30 : decode cX4_traceSum 30 = .ok (.iload_n 3, 1) := dk_29 (dk_at dksX4_traceSum_1 6 rfl rfl)
theorem dX4_traceSum_31 : decode cX4_traceSum 31 = .ok (.invokevirtual 181, 3) := dk_182 0 181 (dk_at dksX4_traceSum_1 7 rfl rfl)
theorem dX4_traceSum_34 : decode cX4_traceSum 34 = .ok (.checkcast 291, 3) := dk_192 1 35 (dk_at dksX4_traceSum_1 10 rfl rfl)
theorem dX4_traceSum_37 : decode cX4_traceSum 37 = .ok (.invokevirtual 294, 3) := dk_182 1 38 (dk_at dksX4_traceSum_1 13 rfl rfl)
theorem dX4_traceSum_40 : decode cX4_traceSum 40 = .ok (.i2l, 1) := dk_133 (dk_at dksX4_traceSum_1 16 rfl rfl)
theorem dX4_traceSum_41 : decode cX4_traceSum 41 = .ok (.ldc2_w 299, 3) := dk_20 1 43 (dk_at dksX4_traceSum_1 17 rfl rfl)
theorem dX4_traceSum_44 : decode cX4_traceSum 44 = .ok (.aload_n 0, 1) := dk_42 (dk_at dksX4_traceSum_1 20 rfl rfl)
theorem dX4_traceSum_45 : decode cX4_traceSum 45 = .ok (.getfield 67, 3) := dk_180 0 67 (dk_at dksX4_traceSum_1 21 rfl rfl)
theorem dX4_traceSum_48 : decode cX4_traceSum 48 = .ok (.getfield 284, 3) := dk_180 1 28 (dk_at dksX4_traceSum_2 0 rfl rfl)
theorem dX4_traceSum_51 : decode cX4_traceSum 51 = .ok (.iload_n 3, 1) := dk_29 (dk_at dksX4_traceSum_2 3 rfl rfl)
theorem dX4_traceSum_52 : decode cX4_traceSum 52 = .ok (.invokevirtual 181, 3) := dk_182 0 181 (dk_at dksX4_traceSum_2 4 rfl rfl)
theorem dX4_traceSum_55 : decode cX4_traceSum 55 = .ok (.checkcast 291, 3) := dk_192 1 35 (dk_at dksX4_traceSum_2 7 rfl rfl)
theorem dX4_traceSum_58 : decode cX4_traceSum 58 = .ok (.invokevirtual 296, 3) := dk_182 1 40 (dk_at dksX4_traceSum_2 10 rfl rfl)
theorem dX4_traceSum_61 : decode cX4_traceSum 61 = .ok (.i2l, 1) := dk_133 (dk_at dksX4_traceSum_2 13 rfl rfl)
theorem dX4_traceSum_62 : decode cX4_traceSum 62 = .ok (.lmul, 1) := dk_105 (dk_at dksX4_traceSum_2 14 rfl rfl)
theorem dX4_traceSum_63 : decode cX4_traceSum 63 = .ok (.ladd, 1) := dk_97 (dk_at dksX4_traceSum_2 15 rfl rfl)
theorem dX4_traceSum_64 : decode cX4_traceSum 64 = .ok (.lmul, 1) := dk_105 (dk_at dksX4_traceSum_2 16 rfl rfl)
theorem dX4_traceSum_65 : decode cX4_traceSum 65 = .ok (.ladd, 1) := dk_97 (dk_at dksX4_traceSum_2 17 rfl rfl)
theorem dX4_traceSum_66 : decode cX4_traceSum 66 = .ok (.lstore_n 1, 1) := dk_64 (dk_at dksX4_traceSum_2 18 rfl rfl)
theorem dX4_traceSum_67 : decode cX4_traceSum 67 = .ok (.iinc 3 1, 3) := dk_132 3 1 (dk_at dksX4_traceSum_2 19 rfl rfl)
theorem dX4_traceSum_70 : decode cX4_traceSum 70 = .ok (.goto (-66), 3) := dk_167 255 190 (dk_at dksX4_traceSum_3 0 rfl rfl)
theorem dX4_traceSum_73 : decode cX4_traceSum 73 = .ok (.aload_n 0, 1) := dk_42 (dk_at dksX4_traceSum_3 3 rfl rfl)
theorem dX4_traceSum_74 : decode cX4_traceSum 74 = .ok (.iconst 0, 1) := dk_3 (dk_at dksX4_traceSum_3 4 rfl rfl)
theorem dX4_traceSum_75 : decode cX4_traceSum 75 = .ok (.putfield 51, 3) := dk_181 0 51 (dk_at dksX4_traceSum_3 5 rfl rfl)
theorem dX4_traceSum_78 : decode cX4_traceSum 78 = .ok (.lload_n 1, 1) := dk_31 (dk_at dksX4_traceSum_3 8 rfl rfl)
theorem dX4_traceSum_79 : decode cX4_traceSum 79 = .ok (.lreturn, 1) := dk_173 (dk_at dksX4_traceSum_3 9 rfl rfl)
abbrev cX4_acted : ByteArray := prog_24_method_55_code
def yX4_acted : MethodName := ⟨RX4, "acted", "(C)I"⟩
def dkwX4_acted_2 : List UInt8 := [28, 25, 4, 182, 1, 37, 27, 160, 0, 7, 4, 167, 0, 4, 3, 96, 61, 167, 255, 219, 28, 172]
abbrev dktX4_acted_2 : List UInt8 := dkwX4_acted_2 ++ []
def dkwX4_acted_1 : List UInt8 := [182, 0, 236, 78, 45, 185, 0, 240, 1, 0, 153, 0, 34, 45, 185, 0, 246, 1, 0, 192, 1, 35, 58, 4]
abbrev dktX4_acted_1 : List UInt8 := dkwX4_acted_1 ++ dktX4_acted_2
def dkwX4_acted_0 : List UInt8 := [42, 18, 145, 27, 184, 0, 122, 182, 0, 150, 158, 0, 5, 3, 172, 3, 61, 42, 180, 0, 67, 180, 1, 28]
abbrev dktX4_acted_0 : List UInt8 := dkwX4_acted_0 ++ dktX4_acted_1
theorem dksX4_acted_0 : cX4_acted.data.toList.drop 0 = dktX4_acted_0 := by decide +kernel
theorem dksX4_acted_1 : cX4_acted.data.toList.drop 24 = dktX4_acted_1 := dk_seg dksX4_acted_0 24 rfl rfl
theorem dksX4_acted_2 : cX4_acted.data.toList.drop 48 = dktX4_acted_2 := dk_seg dksX4_acted_1 24 rfl rfl
theorem dX4_acted_0 : decode cX4_acted 0 = .ok (.aload_n 0, 1) := dk_42 (dk_at dksX4_acted_0 0 rfl rfl)
theorem dX4_acted_1 : decode cX4_acted 1 = .ok (.ldc 145, 2) := dk_18 145 (dk_at dksX4_acted_0 1 rfl rfl)
theorem dX4_acted_3 : decode cX4_acted 3 = .ok (.iload_n 1, 1) := dk_27 (dk_at dksX4_acted_0 3 rfl rfl)
theorem dX4_acted_4 : decode cX4_acted 4 = .ok (.invokestatic 122, 3) := dk_184 0 122 (dk_at dksX4_acted_0 4 rfl rfl)
theorem dX4_acted_7 : decode cX4_acted 7 = .ok (.invokevirtual 150, 3) := dk_182 0 150 (dk_at dksX4_acted_0 7 rfl rfl)
theorem dX4_acted_10 : decode cX4_acted 10 = .ok (.ifCond .le 5, 3) := dk_158 0 5 (dk_at dksX4_acted_0 10 rfl rfl)
theorem dX4_acted_13 : decode cX4_acted 13 = .ok (.iconst 0, 1) := dk_3 (dk_at dksX4_acted_0 13 rfl rfl)
theorem dX4_acted_14 : decode cX4_acted 14 = .ok (.ireturn, 1) := dk_172 (dk_at dksX4_acted_0 14 rfl rfl)
theorem dX4_acted_15 : decode cX4_acted 15 = .ok (.iconst 0, 1) := dk_3 (dk_at dksX4_acted_0 15 rfl rfl)
theorem dX4_acted_16 : decode cX4_acted 16 = .ok (.istore_n 2, 1) := dk_61 (dk_at dksX4_acted_0 16 rfl rfl)
theorem dX4_acted_17 : decode cX4_acted 17 = .ok (.aload_n 0, 1) := dk_42 (dk_at dksX4_acted_0 17 rfl rfl)
theorem dX4_acted_18 : decode cX4_acted 18 = .ok (.getfield 67, 3) := dk_180 0 67 (dk_at dksX4_acted_0 18 rfl rfl)
theorem dX4_acted_21 : decode cX4_acted 21 = .ok (.getfield 284, 3) := dk_180 1 28 (dk_at dksX4_acted_0 21 rfl rfl)
theorem dX4_acted_24 : decode cX4_acted 24 = .ok (.invokevirtual 236, 3) := dk_182 0 236 (dk_at dksX4_acted_1 0 rfl rfl)
theorem dX4_acted_27 : decode cX4_acted 27 = .ok (.astore_n 3, 1) := dk_78 (dk_at dksX4_acted_1 3 rfl rfl)
theorem dX4_acted_28 : decode cX4_acted 28 = .ok (.aload_n 3, 1) := dk_45 (dk_at dksX4_acted_1 4 rfl rfl)
theorem dX4_acted_29 : decode cX4_acted 29 = .ok (.invokeinterface 240 1, 5) := by decide +kernel
theorem dX4_acted_34 : decode cX4_acted 34 = .ok (.ifCond .eq 34, 3) := dk_153 0 34 (dk_at dksX4_acted_1 10 rfl rfl)
theorem dX4_acted_37 : decode cX4_acted 37 = .ok (.aload_n 3, 1) := dk_45 (dk_at dksX4_acted_1 13 rfl rfl)
theorem dX4_acted_38 : decode cX4_acted 38 = .ok (.invokeinterface 246 1, 5) := by decide +kernel
theorem dX4_acted_43 : decode cX4_acted 43 = .ok (.checkcast 291, 3) := dk_192 1 35 (dk_at dksX4_acted_1 19 rfl rfl)
theorem dX4_acted_46 : decode cX4_acted 46 = .ok (.astore 4, 2) := dk_58 4 (dk_at dksX4_acted_1 22 rfl rfl)
theorem dX4_acted_48 : decode cX4_acted 48 = .ok (.iload_n 2, 1) := dk_28 (dk_at dksX4_acted_2 0 rfl rfl)
theorem dX4_acted_49 : decode cX4_acted 49 = .ok (.aload 4, 2) := dk_25 4 (dk_at dksX4_acted_2 1 rfl rfl)
theorem dX4_acted_51 : decode cX4_acted 51 = .ok (.invokevirtual 293, 3) := dk_182 1 37 (dk_at dksX4_acted_2 3 rfl rfl)
theorem dX4_acted_54 : decode cX4_acted 54 = .ok (.iload_n 1, 1) := dk_27 (dk_at dksX4_acted_2 6 rfl rfl)
theorem dX4_acted_55 : decode cX4_acted 55 = .ok (.if_icmp .ne 7, 3) := dk_160 0 7 (dk_at dksX4_acted_2 7 rfl rfl)
theorem dX4_acted_58 : decode cX4_acted 58 = .ok (.iconst 1, 1) := dk_4 (dk_at dksX4_acted_2 10 rfl rfl)
theorem dX4_acted_59 : decode cX4_acted 59 = .ok (.goto 4, 3) := dk_167 0 4 (dk_at dksX4_acted_2 11 rfl rfl)
theorem dX4_acted_62 : decode cX4_acted 62 = .ok (.iconst 0, 1) := dk_3 (dk_at dksX4_acted_2 14 rfl rfl)
theorem dX4_acted_63 : decode cX4_acted 63 = .ok (.iadd, 1) := dk_96 (dk_at dksX4_acted_2 15 rfl rfl)
theorem dX4_acted_64 : decode cX4_acted 64 = .ok (.istore_n 2, 1) := dk_61 (dk_at dksX4_acted_2 16 rfl rfl)
theorem dX4_acted_65 : decode cX4_acted 65 = .ok (.goto (-37), 3) := dk_167 255 219 (dk_at dksX4_acted_2 17 rfl rfl)
theorem dX4_acted_68 : decode cX4_acted 68 = .ok (.iload_n 2, 1) := dk_28 (dk_at dksX4_acted_2 20 rfl rfl)
theorem dX4_acted_69 : decode cX4_acted 69 = .ok (.ireturn, 1) := dk_172 (dk_at dksX4_acted_2 21 rfl rfl)
abbrev cX4_sureShare : ByteArray := prog_24_method_56_code
def yX4_sureShare : MethodName := ⟨RX4, "sureShare", "()F"⟩
def dkwX4_sureShare_1 : List UInt8 := [167, 0, 15, 27, 42, 16, 109, 182, 0, 250, 100, 134, 27, 134, 110, 174]
abbrev dktX4_sureShare_1 : List UInt8 := dkwX4_sureShare_1 ++ []
def dkwX4_sureShare_0 : List UInt8 := [42, 16, 32, 182, 0, 250, 60, 42, 27, 158, 0, 7, 4, 167, 0, 4, 3, 182, 0, 150, 158, 0, 7, 11]
abbrev dktX4_sureShare_0 : List UInt8 := dkwX4_sureShare_0 ++ dktX4_sureShare_1
theorem dksX4_sureShare_0 : cX4_sureShare.data.toList.drop 0 = dktX4_sureShare_0 := by decide +kernel
theorem dksX4_sureShare_1 : cX4_sureShare.data.toList.drop 24 = dktX4_sureShare_1 := dk_seg dksX4_sureShare_0 24 rfl rfl
theorem dX4_sureShare_0 : decode cX4_sureShare 0 = .ok (.aload_n 0, 1) := dk_42 (dk_at dksX4_sureShare_0 0 rfl rfl)
theorem dX4_sureShare_1 : decode cX4_sureShare 1 = .ok (.bipush 32, 2) := dk_16 32 (dk_at dksX4_sureShare_0 1 rfl rfl)
theorem dX4_sureShare_3 : decode cX4_sureShare 3 = .ok (.invokevirtual 250, 3) := dk_182 0 250 (dk_at dksX4_sureShare_0 3 rfl rfl)
theorem dX4_sureShare_6 : decode cX4_sureShare 6 = .ok (.istore_n 1, 1) := dk_60 (dk_at dksX4_sureShare_0 6 rfl rfl)
theorem dX4_sureShare_7 : decode cX4_sureShare 7 = .ok (.aload_n 0, 1) := dk_42 (dk_at dksX4_sureShare_0 7 rfl rfl)
theorem dX4_sureShare_8 : decode cX4_sureShare 8 = .ok (.iload_n 1, 1) := dk_27 (dk_at dksX4_sureShare_0 8 rfl rfl)
theorem dX4_sureShare_9 : decode cX4_sureShare 9 = .ok (.ifCond .le 7, 3) := dk_158 0 7 (dk_at dksX4_sureShare_0 9 rfl rfl)
theorem dX4_sureShare_12 : decode cX4_sureShare 12 = .ok (.iconst 1, 1) := dk_4 (dk_at dksX4_sureShare_0 12 rfl rfl)
theorem dX4_sureShare_13 : decode cX4_sureShare 13 = .ok (.goto 4, 3) := dk_167 0 4 (dk_at dksX4_sureShare_0 13 rfl rfl)
theorem dX4_sureShare_16 : decode cX4_sureShare 16 = .ok (.iconst 0, 1) := dk_3 (dk_at dksX4_sureShare_0 16 rfl rfl)
theorem dX4_sureShare_17 : decode cX4_sureShare 17 = .ok (.invokevirtual 150, 3) := dk_182 0 150 (dk_at dksX4_sureShare_0 17 rfl rfl)
theorem dX4_sureShare_20 : decode cX4_sureShare 20 = .ok (.ifCond .le 7, 3) := dk_158 0 7 (dk_at dksX4_sureShare_0 20 rfl rfl)
theorem dX4_sureShare_23 : decode cX4_sureShare 23 = .ok (.fconst 0, 1) := dk_11 (dk_at dksX4_sureShare_0 23 rfl rfl)
theorem dX4_sureShare_24 : decode cX4_sureShare 24 = .ok (.goto 15, 3) := dk_167 0 15 (dk_at dksX4_sureShare_1 0 rfl rfl)
theorem dX4_sureShare_27 : decode cX4_sureShare 27 = .ok (.iload_n 1, 1) := dk_27 (dk_at dksX4_sureShare_1 3 rfl rfl)
theorem dX4_sureShare_28 : decode cX4_sureShare 28 = .ok (.aload_n 0, 1) := dk_42 (dk_at dksX4_sureShare_1 4 rfl rfl)
theorem dX4_sureShare_29 : decode cX4_sureShare 29 = .ok (.bipush 109, 2) := dk_16 109 (dk_at dksX4_sureShare_1 5 rfl rfl)
theorem dX4_sureShare_31 : decode cX4_sureShare 31 = .ok (.invokevirtual 250, 3) := dk_182 0 250 (dk_at dksX4_sureShare_1 7 rfl rfl)
theorem dX4_sureShare_34 : decode cX4_sureShare 34 = .ok (.isub, 1) := dk_100 (dk_at dksX4_sureShare_1 10 rfl rfl)
theorem dX4_sureShare_35 : decode cX4_sureShare 35 = .ok (.i2f, 1) := dk_134 (dk_at dksX4_sureShare_1 11 rfl rfl)
theorem dX4_sureShare_36 : decode cX4_sureShare 36 = .ok (.iload_n 1, 1) := dk_27 (dk_at dksX4_sureShare_1 12 rfl rfl)
theorem dX4_sureShare_37 : decode cX4_sureShare 37 = .ok (.i2f, 1) := dk_134 (dk_at dksX4_sureShare_1 13 rfl rfl)
theorem dX4_sureShare_38 : decode cX4_sureShare 38 = .ok (.fdiv, 1) := dk_110 (dk_at dksX4_sureShare_1 14 rfl rfl)
theorem dX4_sureShare_39 : decode cX4_sureShare 39 = .ok (.freturn, 1) := dk_174 (dk_at dksX4_sureShare_1 15 rfl rfl)
abbrev cX4_meanSteps : ByteArray := prog_24_method_57_code
def yX4_meanSteps : MethodName := ⟨RX4, "meanSteps", "()D"⟩
def dkwX4_meanSteps_3 : List UInt8 := [167, 0, 4, 3, 182, 0, 150, 158, 0, 7, 14, 167, 0, 8, 28, 135, 27, 135, 111, 175]
abbrev dktX4_meanSteps_3 : List UInt8 := dkwX4_meanSteps_3 ++ []
def dkwX4_meanSteps_2 : List UInt8 := [3, 167, 0, 8, 25, 6, 180, 0, 90, 96, 61, 132, 5, 1, 167, 255, 210, 42, 27, 158, 0, 7, 4]
abbrev dktX4_meanSteps_2 : List UInt8 := dkwX4_meanSteps_2 ++ dktX4_meanSteps_3
def dkwX4_meanSteps_1 : List UInt8 := [21, 5, 50, 58, 6, 27, 25, 6, 199, 0, 7, 3, 167, 0, 4, 4, 96, 60, 28, 25, 6, 199, 0, 7]
abbrev dktX4_meanSteps_1 : List UInt8 := dkwX4_meanSteps_1 ++ dktX4_meanSteps_2
def dkwX4_meanSteps_0 : List UInt8 := [3, 60, 3, 61, 42, 180, 0, 9, 78, 45, 190, 54, 4, 3, 54, 5, 21, 5, 21, 4, 162, 0, 45, 45]
abbrev dktX4_meanSteps_0 : List UInt8 := dkwX4_meanSteps_0 ++ dktX4_meanSteps_1
theorem dksX4_meanSteps_0 : cX4_meanSteps.data.toList.drop 0 = dktX4_meanSteps_0 := by decide +kernel
theorem dksX4_meanSteps_1 : cX4_meanSteps.data.toList.drop 24 = dktX4_meanSteps_1 := dk_seg dksX4_meanSteps_0 24 rfl rfl
theorem dksX4_meanSteps_2 : cX4_meanSteps.data.toList.drop 48 = dktX4_meanSteps_2 := dk_seg dksX4_meanSteps_1 24 rfl rfl
theorem dksX4_meanSteps_3 : cX4_meanSteps.data.toList.drop 71 = dktX4_meanSteps_3 := dk_seg dksX4_meanSteps_2 23 rfl rfl
theorem dX4_meanSteps_0 : decode cX4_meanSteps 0 = .ok (.iconst 0, 1) := dk_3 (dk_at dksX4_meanSteps_0 0 rfl rfl)
theorem dX4_meanSteps_1 : decode cX4_meanSteps 1 = .ok (.istore_n 1, 1) := dk_60 (dk_at dksX4_meanSteps_0 1 rfl rfl)
theorem dX4_meanSteps_2 : decode cX4_meanSteps 2 = .ok (.iconst 0, 1) := dk_3 (dk_at dksX4_meanSteps_0 2 rfl rfl)
theorem dX4_meanSteps_3 : decode cX4_meanSteps 3 = .ok (.istore_n 2, 1) := dk_61 (dk_at dksX4_meanSteps_0 3 rfl rfl)
theorem dX4_meanSteps_4 : decode cX4_meanSteps 4 = .ok (.aload_n 0, 1) := dk_42 (dk_at dksX4_meanSteps_0 4 rfl rfl)
theorem dX4_meanSteps_5 : decode cX4_meanSteps 5 = .ok (.getfield 9, 3) := dk_180 0 9 (dk_at dksX4_meanSteps_0 5 rfl rfl)
theorem dX4_meanSteps_8 : decode cX4_meanSteps 8 = .ok (.astore_n 3, 1) := dk_78 (dk_at dksX4_meanSteps_0 8 rfl rfl)
theorem dX4_meanSteps_9 : decode cX4_meanSteps 9 = .ok (.aload_n 3, 1) := dk_45 (dk_at dksX4_meanSteps_0 9 rfl rfl)
theorem dX4_meanSteps_10 : decode cX4_meanSteps 10 = .ok (.arraylength, 1) := dk_190 (dk_at dksX4_meanSteps_0 10 rfl rfl)
theorem dX4_meanSteps_11 : decode cX4_meanSteps 11 = .ok (.istore 4, 2) := dk_54 4 (dk_at dksX4_meanSteps_0 11 rfl rfl)
theorem dX4_meanSteps_13 : decode cX4_meanSteps 13 = .ok (.iconst 0, 1) := dk_3 (dk_at dksX4_meanSteps_0 13 rfl rfl)
theorem dX4_meanSteps_14 : decode cX4_meanSteps 14 = .ok (.istore 5, 2) := dk_54 5 (dk_at dksX4_meanSteps_0 14 rfl rfl)
theorem dX4_meanSteps_16 : decode cX4_meanSteps 16 = .ok (.iload 5, 2) := dk_21 5 (dk_at dksX4_meanSteps_0 16 rfl rfl)
theorem dX4_meanSteps_18 : decode cX4_meanSteps 18 = .ok (.iload 4, 2) := dk_21 4 (dk_at dksX4_meanSteps_0 18 rfl rfl)
theorem dX4_meanSteps_20 : decode cX4_meanSteps 20 = .ok (.if_icmp .ge 45, 3) := dk_162 0 45 (dk_at dksX4_meanSteps_0 20 rfl rfl)
theorem dX4_meanSteps_23 : decode cX4_meanSteps 23 = .ok (.aload_n 3, 1) := dk_45 (dk_at dksX4_meanSteps_0 23 rfl rfl)
theorem dX4_meanSteps_24 : decode cX4_meanSteps 24 = .ok (.iload 5, 2) := dk_21 5 (dk_at dksX4_meanSteps_1 0 rfl rfl)
theorem dX4_meanSteps_26 : decode cX4_meanSteps 26 = .ok (.aaload, 1) := dk_50 (dk_at dksX4_meanSteps_1 2 rfl rfl)
theorem dX4_meanSteps_27 : decode cX4_meanSteps 27 = .ok (.astore 6, 2) := dk_58 6 (dk_at dksX4_meanSteps_1 3 rfl rfl)
theorem dX4_meanSteps_29 : decode cX4_meanSteps 29 = .ok (.iload_n 1, 1) := dk_27 (dk_at dksX4_meanSteps_1 5 rfl rfl)
theorem dX4_meanSteps_30 : decode cX4_meanSteps 30 = .ok (.aload 6, 2) := dk_25 6 (dk_at dksX4_meanSteps_1 6 rfl rfl)
theorem dX4_meanSteps_32 : decode cX4_meanSteps 32 = .ok (.ifnonnull 7, 3) := dk_199 0 7 (dk_at dksX4_meanSteps_1 8 rfl rfl)
theorem dX4_meanSteps_35 : decode cX4_meanSteps 35 = .ok (.iconst 0, 1) := dk_3 (dk_at dksX4_meanSteps_1 11 rfl rfl)
theorem dX4_meanSteps_36 : decode cX4_meanSteps 36 = .ok (.goto 4, 3) := dk_167 0 4 (dk_at dksX4_meanSteps_1 12 rfl rfl)
theorem dX4_meanSteps_39 : decode cX4_meanSteps 39 = .ok (.iconst 1, 1) := dk_4 (dk_at dksX4_meanSteps_1 15 rfl rfl)
theorem dX4_meanSteps_40 : decode cX4_meanSteps 40 = .ok (.iadd, 1) := dk_96 (dk_at dksX4_meanSteps_1 16 rfl rfl)
theorem dX4_meanSteps_41 : decode cX4_meanSteps 41 = .ok (.istore_n 1, 1) := dk_60 (dk_at dksX4_meanSteps_1 17 rfl rfl)
theorem dX4_meanSteps_42 : decode cX4_meanSteps 42 = .ok (.iload_n 2, 1) := dk_28 (dk_at dksX4_meanSteps_1 18 rfl rfl)
theorem dX4_meanSteps_43 : decode cX4_meanSteps 43 = .ok (.aload 6, 2) := dk_25 6 (dk_at dksX4_meanSteps_1 19 rfl rfl)
theorem dX4_meanSteps_45 : decode cX4_meanSteps 45 = .ok (.ifnonnull 7, 3) := dk_199 0 7 (dk_at dksX4_meanSteps_1 21 rfl rfl)
theorem dX4_meanSteps_48 : decode cX4_meanSteps 48 = .ok (.iconst 0, 1) := dk_3 (dk_at dksX4_meanSteps_2 0 rfl rfl)
theorem dX4_meanSteps_49 : decode cX4_meanSteps 49 = .ok (.goto 8, 3) := dk_167 0 8 (dk_at dksX4_meanSteps_2 1 rfl rfl)
theorem dX4_meanSteps_52 : decode cX4_meanSteps 52 = .ok (.aload 6, 2) := dk_25 6 (dk_at dksX4_meanSteps_2 4 rfl rfl)
theorem dX4_meanSteps_54 : decode cX4_meanSteps 54 = .ok (.getfield 90, 3) := dk_180 0 90 (dk_at dksX4_meanSteps_2 6 rfl rfl)
theorem dX4_meanSteps_57 : decode cX4_meanSteps 57 = .ok (.iadd, 1) := dk_96 (dk_at dksX4_meanSteps_2 9 rfl rfl)
theorem dX4_meanSteps_58 : decode cX4_meanSteps 58 = .ok (.istore_n 2, 1) := dk_61 (dk_at dksX4_meanSteps_2 10 rfl rfl)
theorem dX4_meanSteps_59 : decode cX4_meanSteps 59 = .ok (.iinc 5 1, 3) := dk_132 5 1 (dk_at dksX4_meanSteps_2 11 rfl rfl)
theorem dX4_meanSteps_62 : decode cX4_meanSteps 62 = .ok (.goto (-46), 3) := dk_167 255 210 (dk_at dksX4_meanSteps_2 14 rfl rfl)
theorem dX4_meanSteps_65 : decode cX4_meanSteps 65 = .ok (.aload_n 0, 1) := dk_42 (dk_at dksX4_meanSteps_2 17 rfl rfl)
theorem dX4_meanSteps_66 : decode cX4_meanSteps 66 = .ok (.iload_n 1, 1) := dk_27 (dk_at dksX4_meanSteps_2 18 rfl rfl)
theorem dX4_meanSteps_67 : decode cX4_meanSteps 67 = .ok (.ifCond .le 7, 3) := dk_158 0 7 (dk_at dksX4_meanSteps_2 19 rfl rfl)
theorem dX4_meanSteps_70 : decode cX4_meanSteps 70 = .ok (.iconst 1, 1) := dk_4 (dk_at dksX4_meanSteps_2 22 rfl rfl)
theorem dX4_meanSteps_71 : decode cX4_meanSteps 71 = .ok (.goto 4, 3) := dk_167 0 4 (dk_at dksX4_meanSteps_3 0 rfl rfl)
theorem dX4_meanSteps_74 : decode cX4_meanSteps 74 = .ok (.iconst 0, 1) := dk_3 (dk_at dksX4_meanSteps_3 3 rfl rfl)
theorem dX4_meanSteps_75 : decode cX4_meanSteps 75 = .ok (.invokevirtual 150, 3) := dk_182 0 150 (dk_at dksX4_meanSteps_3 4 rfl rfl)
theorem dX4_meanSteps_78 : decode cX4_meanSteps 78 = .ok (.ifCond .le 7, 3) := dk_158 0 7 (dk_at dksX4_meanSteps_3 7 rfl rfl)
theorem dX4_meanSteps_81 : decode cX4_meanSteps 81 = .ok (.dconst 0, 1) := dk_14 (dk_at dksX4_meanSteps_3 10 rfl rfl)
theorem dX4_meanSteps_82 : decode cX4_meanSteps 82 = .ok (.goto 8, 3) := dk_167 0 8 (dk_at dksX4_meanSteps_3 11 rfl rfl)
theorem dX4_meanSteps_85 : decode cX4_meanSteps 85 = .ok (.iload_n 2, 1) := dk_28 (dk_at dksX4_meanSteps_3 14 rfl rfl)
theorem dX4_meanSteps_86 : decode cX4_meanSteps 86 = .ok (.i2d, 1) := dk_135 (dk_at dksX4_meanSteps_3 15 rfl rfl)
theorem dX4_meanSteps_87 : decode cX4_meanSteps 87 = .ok (.iload_n 1, 1) := dk_27 (dk_at dksX4_meanSteps_3 16 rfl rfl)
theorem dX4_meanSteps_88 : decode cX4_meanSteps 88 = .ok (.i2d, 1) := dk_135 (dk_at dksX4_meanSteps_3 17 rfl rfl)
theorem dX4_meanSteps_89 : decode cX4_meanSteps 89 = .ok (.ddiv, 1) := dk_111 (dk_at dksX4_meanSteps_3 18 rfl rfl)
theorem dX4_meanSteps_90 : decode cX4_meanSteps 90 = .ok (.dreturn, 1) := dk_175 (dk_at dksX4_meanSteps_3 19 rfl rfl)
abbrev cX4_isSound : ByteArray := prog_24_method_59_code
def yX4_isSound : MethodName := ⟨RX4, "isSound", "()Z"⟩
def dkwX4_isSound_4 : List UInt8 := [180, 1, 28, 44, 180, 1, 28, 182, 1, 48, 153, 0, 7, 4, 167, 0, 4, 3, 172]
abbrev dktX4_isSound_4 : List UInt8 := dkwX4_isSound_4 ++ []
def dkwX4_isSound_3 : List UInt8 := [160, 0, 41, 43, 180, 1, 11, 16, 108, 159, 0, 14, 43, 180, 1, 19, 44, 180, 1, 19, 160, 0, 21, 43]
abbrev dktX4_isSound_3 : List UInt8 := dkwX4_isSound_3 ++ dktX4_isSound_4
def dkwX4_isSound_2 : List UInt8 := [89, 42, 3, 183, 1, 4, 42, 182, 1, 45, 3, 3, 182, 1, 7, 77, 43, 180, 1, 11, 44, 180, 1, 11]
abbrev dktX4_isSound_2 : List UInt8 := dkwX4_isSound_2 ++ dktX4_isSound_3
def dkwX4_isSound_1 : List UInt8 := [4, 172, 187, 1, 2, 89, 42, 4, 183, 1, 4, 42, 182, 1, 45, 3, 3, 182, 1, 7, 76, 187, 1, 2]
abbrev dktX4_isSound_1 : List UInt8 := dkwX4_isSound_1 ++ dktX4_isSound_2
def dkwX4_isSound_0 : List UInt8 := [42, 3, 181, 0, 51, 42, 182, 1, 45, 2, 159, 0, 14, 42, 182, 0, 174, 182, 0, 178, 7, 162, 0, 5]
abbrev dktX4_isSound_0 : List UInt8 := dkwX4_isSound_0 ++ dktX4_isSound_1
theorem dksX4_isSound_0 : cX4_isSound.data.toList.drop 0 = dktX4_isSound_0 := by decide +kernel
theorem dksX4_isSound_1 : cX4_isSound.data.toList.drop 24 = dktX4_isSound_1 := dk_seg dksX4_isSound_0 24 rfl rfl
theorem dksX4_isSound_2 : cX4_isSound.data.toList.drop 48 = dktX4_isSound_2 := dk_seg dksX4_isSound_1 24 rfl rfl
theorem dksX4_isSound_3 : cX4_isSound.data.toList.drop 72 = dktX4_isSound_3 := dk_seg dksX4_isSound_2 24 rfl rfl
theorem dksX4_isSound_4 : cX4_isSound.data.toList.drop 96 = dktX4_isSound_4 := dk_seg dksX4_isSound_3 24 rfl rfl
theorem dX4_isSound_0 : decode cX4_isSound 0 = .ok (.aload_n 0, 1) := dk_42 (dk_at dksX4_isSound_0 0 rfl rfl)
theorem dX4_isSound_1 : decode cX4_isSound 1 = .ok (.iconst 0, 1) := dk_3 (dk_at dksX4_isSound_0 1 rfl rfl)
theorem dX4_isSound_2 : decode cX4_isSound 2 = .ok (.putfield 51, 3) := dk_181 0 51 (dk_at dksX4_isSound_0 2 rfl rfl)
theorem dX4_isSound_5 : decode cX4_isSound 5 = .ok (.aload_n 0, 1) := dk_42 (dk_at dksX4_isSound_0 5 rfl rfl)
theorem dX4_isSound_6 : decode cX4_isSound 6 = .ok (.invokevirtual 301, 3) := dk_182 1 45 (dk_at dksX4_isSound_0 6 rfl rfl)
theorem dX4_isSound_9 : decode cX4_isSound 9 = .ok (.iconst (-1), 1) := dk_2 (dk_at dksX4_isSound_0 9 rfl rfl)
theorem dX4_isSound_10 : decode cX4_isSound 10 = .ok (.if_icmp .eq 14, 3) := dk_159 0 14 (dk_at dksX4_isSound_0 10 rfl rfl)
theorem dX4_isSound_13 : decode cX4_isSound 13 = .ok (.aload_n 0, 1) := dk_42 (dk_at dksX4_isSound_0 13 rfl rfl)
theorem dX4_isSound_14 : decode cX4_isSound 14 = .ok (.invokevirtual 174, 3) := dk_182 0 174 (dk_at dksX4_isSound_0 14 rfl rfl)
theorem dX4_isSound_17 : decode cX4_isSound 17 = .ok (.invokevirtual 178, 3) := dk_182 0 178 (dk_at dksX4_isSound_0 17 rfl rfl)
theorem dX4_isSound_20 : decode cX4_isSound 20 = .ok (.iconst 4, 1) := dk_7 (dk_at dksX4_isSound_0 20 rfl rfl)
theorem dX4_isSound_21 : decode cX4_isSound 21 = .ok (.if_icmp .ge 5, 3) := dk_162 0 5 (dk_at dksX4_isSound_0 21 rfl rfl)
theorem dX4_isSound_24 : decode cX4_isSound 24 = .ok (.iconst 1, 1) := dk_4 (dk_at dksX4_isSound_1 0 rfl rfl)
theorem dX4_isSound_25 : decode cX4_isSound 25 = .ok (.ireturn, 1) := dk_172 (dk_at dksX4_isSound_1 1 rfl rfl)
theorem dX4_isSound_26 : decode cX4_isSound 26 = .ok (.new 258, 3) := dk_187 1 2 (dk_at dksX4_isSound_1 2 rfl rfl)
theorem dX4_isSound_29 : decode cX4_isSound 29 = .ok (.dup, 1) := dk_89 (dk_at dksX4_isSound_1 5 rfl rfl)
theorem dX4_isSound_30 : decode cX4_isSound 30 = .ok (.aload_n 0, 1) := dk_42 (dk_at dksX4_isSound_1 6 rfl rfl)
theorem dX4_isSound_31 : decode cX4_isSound 31 = .ok (.iconst 1, 1) := dk_4 (dk_at dksX4_isSound_1 7 rfl rfl)
theorem dX4_isSound_32 : decode cX4_isSound 32 = .ok (.invokespecial 260, 3) := dk_183 1 4 (dk_at dksX4_isSound_1 8 rfl rfl)
theorem dX4_isSound_35 : decode cX4_isSound 35 = .ok (.aload_n 0, 1) := dk_42 (dk_at dksX4_isSound_1 11 rfl rfl)
theorem dX4_isSound_36 : decode cX4_isSound 36 = .ok (.invokevirtual 301, 3) := dk_182 1 45 (dk_at dksX4_isSound_1 12 rfl rfl)
theorem dX4_isSound_39 : decode cX4_isSound 39 = .ok (.iconst 0, 1) := dk_3 (dk_at dksX4_isSound_1 15 rfl rfl)
theorem dX4_isSound_40 : decode cX4_isSound 40 = .ok (.iconst 0, 1) := dk_3 (dk_at dksX4_isSound_1 16 rfl rfl)
theorem dX4_isSound_41 : decode cX4_isSound 41 = .ok (.invokevirtual 263, 3) := dk_182 1 7 (dk_at dksX4_isSound_1 17 rfl rfl)
theorem dX4_isSound_44 : decode cX4_isSound 44 = .ok (.astore_n 1, 1) := dk_76 (dk_at dksX4_isSound_1 20 rfl rfl)
theorem dX4_isSound_45 : decode cX4_isSound 45 = .ok (.new 258, 3) := dk_187 1 2 (dk_at dksX4_isSound_1 21 rfl rfl)
theorem dX4_isSound_48 : decode cX4_isSound 48 = .ok (.dup, 1) := dk_89 (dk_at dksX4_isSound_2 0 rfl rfl)
theorem dX4_isSound_49 : decode cX4_isSound 49 = .ok (.aload_n 0, 1) := dk_42 (dk_at dksX4_isSound_2 1 rfl rfl)
theorem dX4_isSound_50 : decode cX4_isSound 50 = .ok (.iconst 0, 1) := dk_3 (dk_at dksX4_isSound_2 2 rfl rfl)
theorem dX4_isSound_51 : decode cX4_isSound 51 = .ok (.invokespecial 260, 3) := dk_183 1 4 (dk_at dksX4_isSound_2 3 rfl rfl)
theorem dX4_isSound_54 : decode cX4_isSound 54 = .ok (.aload_n 0, 1) := dk_42 (dk_at dksX4_isSound_2 6 rfl rfl)
theorem dX4_isSound_55 : decode cX4_isSound 55 = .ok (.invokevirtual 301, 3) := dk_182 1 45 (dk_at dksX4_isSound_2 7 rfl rfl)
theorem dX4_isSound_58 : decode cX4_isSound 58 = .ok (.iconst 0, 1) := dk_3 (dk_at dksX4_isSound_2 10 rfl rfl)
theorem dX4_isSound_59 : decode cX4_isSound 59 = .ok (.iconst 0, 1) := dk_3 (dk_at dksX4_isSound_2 11 rfl rfl)
theorem dX4_isSound_60 : decode cX4_isSound 60 = .ok (.invokevirtual 263, 3) := dk_182 1 7 (dk_at dksX4_isSound_2 12 rfl rfl)
theorem dX4_isSound_63 : decode cX4_isSound 63 = .ok (.astore_n 2, 1) := dk_77 (dk_at dksX4_isSound_2 15 rfl rfl)
theorem dX4_isSound_64 : decode cX4_isSound 64 = .ok (.aload_n 1, 1) := dk_43 (dk_at dksX4_isSound_2 16 rfl rfl)
theorem dX4_isSound_65 : decode cX4_isSound 65 = .ok (.getfield 267, 3) := dk_180 1 11 (dk_at dksX4_isSound_2 17 rfl rfl)
theorem dX4_isSound_68 : decode cX4_isSound 68 = .ok (.aload_n 2, 1) := dk_44 (dk_at dksX4_isSound_2 20 rfl rfl)
theorem dX4_isSound_69 : decode cX4_isSound 69 = .ok (.getfield 267, 3) := dk_180 1 11 (dk_at dksX4_isSound_2 21 rfl rfl)
theorem dX4_isSound_72 : decode cX4_isSound 72 = .ok (.if_icmp .ne 41, 3) := dk_160 0 41 (dk_at dksX4_isSound_3 0 rfl rfl)
theorem dX4_isSound_75 : decode cX4_isSound 75 = .ok (.aload_n 1, 1) := dk_43 (dk_at dksX4_isSound_3 3 rfl rfl)
theorem dX4_isSound_76 : decode cX4_isSound 76 = .ok (.getfield 267, 3) := dk_180 1 11 (dk_at dksX4_isSound_3 4 rfl rfl)
theorem dX4_isSound_79 : decode cX4_isSound 79 = .ok (.bipush 108, 2) := dk_16 108 (dk_at dksX4_isSound_3 7 rfl rfl)
theorem dX4_isSound_81 : decode cX4_isSound 81 = .ok (.if_icmp .eq 14, 3) := dk_159 0 14 (dk_at dksX4_isSound_3 9 rfl rfl)
theorem dX4_isSound_84 : decode cX4_isSound 84 = .ok (.aload_n 1, 1) := dk_43 (dk_at dksX4_isSound_3 12 rfl rfl)
theorem dX4_isSound_85 : decode cX4_isSound 85 = .ok (.getfield 275, 3) := dk_180 1 19 (dk_at dksX4_isSound_3 13 rfl rfl)
theorem dX4_isSound_88 : decode cX4_isSound 88 = .ok (.aload_n 2, 1) := dk_44 (dk_at dksX4_isSound_3 16 rfl rfl)
theorem dX4_isSound_89 : decode cX4_isSound 89 = .ok (.getfield 275, 3) := dk_180 1 19 (dk_at dksX4_isSound_3 17 rfl rfl)
theorem dX4_isSound_92 : decode cX4_isSound 92 = .ok (.if_icmp .ne 21, 3) := dk_160 0 21 (dk_at dksX4_isSound_3 20 rfl rfl)
theorem dX4_isSound_95 : decode cX4_isSound 95 = .ok (.aload_n 1, 1) := dk_43 (dk_at dksX4_isSound_3 23 rfl rfl)
theorem dX4_isSound_96 : decode cX4_isSound 96 = .ok (.getfield 284, 3) := dk_180 1 28 (dk_at dksX4_isSound_4 0 rfl rfl)
theorem dX4_isSound_99 : decode cX4_isSound 99 = .ok (.aload_n 2, 1) := dk_44 (dk_at dksX4_isSound_4 3 rfl rfl)
theorem dX4_isSound_100 : decode cX4_isSound 100 = .ok (.getfield 284, 3) := dk_180 1 28 (dk_at dksX4_isSound_4 4 rfl rfl)
theorem dX4_isSound_103 : decode cX4_isSound 103 = .ok (.invokevirtual 304, 3) := dk_182 1 48 (dk_at dksX4_isSound_4 7 rfl rfl)
theorem dX4_isSound_106 : decode cX4_isSound 106 = .ok (.ifCond .eq 7, 3) := dk_153 0 7 (dk_at dksX4_isSound_4 10 rfl rfl)
theorem dX4_isSound_109 : decode cX4_isSound 109 = .ok (.iconst 1, 1) := dk_4 (dk_at dksX4_isSound_4 13 rfl rfl)
theorem dX4_isSound_110 : decode cX4_isSound 110 = .ok (.goto 4, 3) := dk_167 0 4 (dk_at dksX4_isSound_4 14 rfl rfl)
theorem dX4_isSound_113 : decode cX4_isSound 113 = .ok (.iconst 0, 1) := dk_3 (dk_at dksX4_isSound_4 17 rfl rfl)
theorem dX4_isSound_114 : decode cX4_isSound 114 = .ok (.ireturn, 1) := dk_172 (dk_at dksX4_isSound_4 18 rfl rfl)
abbrev cX4_lowest : ByteArray := prog_24_method_58_code
def yX4_lowest : MethodName := ⟨RX4, "lowest", "()I"⟩
def dkwX4_lowest_1 : List UInt8 := [167, 255, 234, 2, 172]
abbrev dktX4_lowest_1 : List UInt8 := dkwX4_lowest_1 ++ []
def dkwX4_lowest_0 : List UInt8 := [3, 60, 27, 42, 180, 0, 55, 162, 0, 20, 42, 27, 3, 182, 0, 86, 198, 0, 5, 27, 172, 132, 1, 1]
abbrev dktX4_lowest_0 : List UInt8 := dkwX4_lowest_0 ++ dktX4_lowest_1
theorem dksX4_lowest_0 : cX4_lowest.data.toList.drop 0 = dktX4_lowest_0 := by decide +kernel
theorem dksX4_lowest_1 : cX4_lowest.data.toList.drop 24 = dktX4_lowest_1 := dk_seg dksX4_lowest_0 24 rfl rfl
theorem dX4_lowest_0 : decode cX4_lowest 0 = .ok (.iconst 0, 1) := dk_3 (dk_at dksX4_lowest_0 0 rfl rfl)
theorem dX4_lowest_1 : decode cX4_lowest 1 = .ok (.istore_n 1, 1) := dk_60 (dk_at dksX4_lowest_0 1 rfl rfl)
theorem dX4_lowest_2 : decode cX4_lowest 2 = .ok (.iload_n 1, 1) := dk_27 (dk_at dksX4_lowest_0 2 rfl rfl)
theorem dX4_lowest_3 : decode cX4_lowest 3 = .ok (.aload_n 0, 1) := dk_42 (dk_at dksX4_lowest_0 3 rfl rfl)
theorem dX4_lowest_4 : decode cX4_lowest 4 = .ok (.getfield 55, 3) := dk_180 0 55 (dk_at dksX4_lowest_0 4 rfl rfl)
theorem dX4_lowest_7 : decode cX4_lowest 7 = .ok (.if_icmp .ge 20, 3) := dk_162 0 20 (dk_at dksX4_lowest_0 7 rfl rfl)
theorem dX4_lowest_10 : decode cX4_lowest 10 = .ok (.aload_n 0, 1) := dk_42 (dk_at dksX4_lowest_0 10 rfl rfl)
theorem dX4_lowest_11 : decode cX4_lowest 11 = .ok (.iload_n 1, 1) := dk_27 (dk_at dksX4_lowest_0 11 rfl rfl)
theorem dX4_lowest_12 : decode cX4_lowest 12 = .ok (.iconst 0, 1) := dk_3 (dk_at dksX4_lowest_0 12 rfl rfl)
theorem dX4_lowest_13 : decode cX4_lowest 13 = .ok (.invokevirtual 86, 3) := dk_182 0 86 (dk_at dksX4_lowest_0 13 rfl rfl)
theorem dX4_lowest_16 : decode cX4_lowest 16 = .ok (.ifnull 5, 3) := dk_198 0 5 (dk_at dksX4_lowest_0 16 rfl rfl)
theorem dX4_lowest_19 : decode cX4_lowest 19 = .ok (.iload_n 1, 1) := dk_27 (dk_at dksX4_lowest_0 19 rfl rfl)
theorem dX4_lowest_20 : decode cX4_lowest 20 = .ok (.ireturn, 1) := dk_172 (dk_at dksX4_lowest_0 20 rfl rfl)
theorem dX4_lowest_21 : decode cX4_lowest 21 = .ok (.iinc 1 1, 3) := dk_132 1 1 (dk_at dksX4_lowest_0 21 rfl rfl)
theorem dX4_lowest_24 : decode cX4_lowest 24 = .ok (.goto (-22), 3) := dk_167 255 234 (dk_at dksX4_lowest_1 0 rfl rfl)
theorem dX4_lowest_27 : decode cX4_lowest 27 = .ok (.iconst (-1), 1) := dk_2 (dk_at dksX4_lowest_1 3 rfl rfl)
theorem dX4_lowest_28 : decode cX4_lowest 28 = .ok (.ireturn, 1) := dk_172 (dk_at dksX4_lowest_1 4 rfl rfl)
theorem q66 : (Jvm.Cond.initialized "WeaversgateModel") ∈ lw_all := lw_g (lw_at lw_m1 7 rfl) rfl
theorem q794 : (Jvm.Cond.selects "WeaversgateModel" ({ cls := "java/lang/Object", name := "getClass", desc := "()Ljava/lang/Class;" } : Jvm.MethodName) ({ cls := "java/lang/Object", name := "getClass", desc := "()Ljava/lang/Class;" } : Jvm.MethodName)) ∈ lw_all := lw_g (lw_at lw_m4 15 rfl) rfl
theorem q1759 : (Jvm.Cond.instantiable "WeaversgateModel" (17 : Nat)) ∈ lw_all := lw_g (lw_at lw_m8 20 rfl) rfl
theorem q1761 : (Jvm.Cond.instanceMethod ({ cls := "WeaversgateModel", name := "<init>", desc := "()V" } : Jvm.MethodName)) ∈ lw_all := lw_g (lw_at lw_m8 22 rfl) rfl
theorem q1762 : (Jvm.Cond.code ({ cls := "WeaversgateModel", name := "<init>", desc := "()V" } : Jvm.MethodName) prog_24_method_1_code (1 : Nat) (Option.none : Option Jvm.ClassFile.FieldType)) ∈ lw_all := lw_g (lw_at lw_m8 23 rfl) rfl
theorem q1763 : (Jvm.Cond.methodLink "WeaversgateModel" (1 : Nat) ({ cls := "java/lang/Object", name := "<init>", desc := "()V" } : Jvm.MethodName)) ∈ lw_all := lw_g (lw_at lw_m8 24 rfl) rfl
theorem q1764 : (Jvm.Cond.classLink "WeaversgateModel" (7 : Nat) "WeaversgateModel$Body") ∈ lw_all := lw_g (lw_at lw_m8 25 rfl) rfl
theorem q1766 : (Jvm.Cond.classLink "WeaversgateModel" (64 : Nat) "WeaversgateModel$Result") ∈ lw_all := lw_g (lw_at lw_m8 27 rfl) rfl
theorem q1768 : (Jvm.Cond.methodLinkNest "WeaversgateModel" (66 : Nat) ({ cls := "WeaversgateModel$Result", name := "<init>", desc := "()V" } : Jvm.MethodName) "WeaversgateModel") ∈ lw_tbl := lw_at lw_m8 29 rfl
theorem q1776 : (Jvm.Cond.fieldLink "WeaversgateModel" (284 : Nat) "WeaversgateModel$Result" "trace" "Ljava/util/ArrayList;") ∈ lw_all := lw_g (lw_at lw_m8 37 rfl) rfl
theorem q1779 : (Jvm.Cond.fieldLink "WeaversgateModel" (267 : Nat) "WeaversgateModel$Result" "end" "C") ∈ lw_all := lw_g (lw_at lw_m8 40 rfl) rfl
theorem q1782 : (Jvm.Cond.fieldLink "WeaversgateModel" (275 : Nat) "WeaversgateModel$Result" "number" "I") ∈ lw_all := lw_g (lw_at lw_m8 43 rfl) rfl
theorem q1785 : (Jvm.Cond.fieldLink "WeaversgateModel" (278 : Nat) "WeaversgateModel$Result" "points" "I") ∈ lw_all := lw_g (lw_at lw_m8 46 rfl) rfl
theorem q1788 : (Jvm.Cond.fieldLink "WeaversgateModel" (281 : Nat) "WeaversgateModel$Result" "asked" "I") ∈ lw_all := lw_g (lw_at lw_m8 49 rfl) rfl
theorem q1800 : (Jvm.Cond.fieldLink "WeaversgateModel" (9 : Nat) "WeaversgateModel" "bodies" "[LWeaversgateModel$Body;") ∈ lw_all := lw_g (lw_at lw_m8 61 rfl) rfl
theorem q1801 : (Jvm.Cond.fieldLink "WeaversgateModel" (15 : Nat) "WeaversgateModel" "parents" "[I") ∈ lw_all := lw_g (lw_at lw_m8 62 rfl) rfl
theorem q1802 : (Jvm.Cond.fieldLink "WeaversgateModel" (19 : Nat) "WeaversgateModel" "patternAs" "[I") ∈ lw_all := lw_g (lw_at lw_m8 63 rfl) rfl
theorem q1804 : (Jvm.Cond.fieldLink "WeaversgateModel" (22 : Nat) "WeaversgateModel" "patternBs" "[I") ∈ lw_all := lw_g (lw_at lw_m8 65 rfl) rfl
theorem q1806 : (Jvm.Cond.fieldLink "WeaversgateModel" (25 : Nat) "WeaversgateModel" "aspects" "[I") ∈ lw_all := lw_g (lw_at lw_m8 67 rfl) rfl
theorem q1808 : (Jvm.Cond.fieldLink "WeaversgateModel" (28 : Nat) "WeaversgateModel" "patterns" "[I") ∈ lw_all := lw_g (lw_at lw_m8 69 rfl) rfl
theorem q1810 : (Jvm.Cond.fieldLink "WeaversgateModel" (31 : Nat) "WeaversgateModel" "mores" "[I") ∈ lw_all := lw_g (lw_at lw_m8 71 rfl) rfl
theorem q1812 : (Jvm.Cond.fieldLink "WeaversgateModel" (34 : Nat) "WeaversgateModel" "times" "[I") ∈ lw_all := lw_g (lw_at lw_m8 73 rfl) rfl
theorem q1814 : (Jvm.Cond.fieldLink "WeaversgateModel" (37 : Nat) "WeaversgateModel" "patternKinds" "[C") ∈ lw_all := lw_g (lw_at lw_m8 75 rfl) rfl
theorem q1816 : (Jvm.Cond.fieldLink "WeaversgateModel" (41 : Nat) "WeaversgateModel" "adviceKinds" "[C") ∈ lw_all := lw_g (lw_at lw_m8 77 rfl) rfl
theorem q1818 : (Jvm.Cond.fieldLink "WeaversgateModel" (44 : Nat) "WeaversgateModel" "areOn" "[Z") ∈ lw_all := lw_g (lw_at lw_m8 79 rfl) rfl
theorem q1820 : (Jvm.Cond.fieldLink "WeaversgateModel" (48 : Nat) "WeaversgateModel" "areAhead" "[Z") ∈ lw_all := lw_g (lw_at lw_m8 81 rfl) rfl
theorem q1821 : (Jvm.Cond.fieldLink "WeaversgateModel" (51 : Nat) "WeaversgateModel" "thrown" "I") ∈ lw_all := lw_g (lw_at lw_m8 82 rfl) rfl
theorem q1822 : (Jvm.Cond.fieldLink "WeaversgateModel" (55 : Nat) "WeaversgateModel" "classes" "I") ∈ lw_all := lw_g (lw_at lw_m8 83 rfl) rfl
theorem q1823 : (Jvm.Cond.fieldLink "WeaversgateModel" (58 : Nat) "WeaversgateModel" "patternCount" "I") ∈ lw_all := lw_g (lw_at lw_m8 84 rfl) rfl
theorem q1825 : (Jvm.Cond.fieldLink "WeaversgateModel" (61 : Nat) "WeaversgateModel" "adviceCount" "I") ∈ lw_all := lw_g (lw_at lw_m8 86 rfl) rfl
theorem q1827 : (Jvm.Cond.fieldLink "WeaversgateModel" (67 : Nat) "WeaversgateModel" "last" "LWeaversgateModel$Result;") ∈ lw_all := lw_g (lw_at lw_m8 88 rfl) rfl
theorem q1828 : (Jvm.Cond.laysFinal "WeaversgateModel" "WeaversgateModel" "bodies" "[LWeaversgateModel$Body;") ∈ lw_all := lw_g (lw_at lw_m8 89 rfl) rfl
theorem q1829 : (Jvm.Cond.soleField "WeaversgateModel" "bodies") ∈ lw_all := lw_g (lw_at lw_m8 90 rfl) rfl
theorem q1830 : (Jvm.Cond.laysFinal "WeaversgateModel" "WeaversgateModel" "parents" "[I") ∈ lw_all := lw_g (lw_at lw_m8 91 rfl) rfl
theorem q1831 : (Jvm.Cond.soleField "WeaversgateModel" "parents") ∈ lw_all := lw_g (lw_at lw_m8 92 rfl) rfl
theorem q1832 : (Jvm.Cond.laysFinal "WeaversgateModel" "WeaversgateModel" "patternAs" "[I") ∈ lw_all := lw_g (lw_at lw_m8 93 rfl) rfl
theorem q1833 : (Jvm.Cond.soleField "WeaversgateModel" "patternAs") ∈ lw_all := lw_g (lw_at lw_m8 94 rfl) rfl
theorem q1834 : (Jvm.Cond.laysFinal "WeaversgateModel" "WeaversgateModel" "patternBs" "[I") ∈ lw_all := lw_g (lw_at lw_m8 95 rfl) rfl
theorem q1835 : (Jvm.Cond.soleField "WeaversgateModel" "patternBs") ∈ lw_all := lw_g (lw_at lw_m8 96 rfl) rfl
theorem q1836 : (Jvm.Cond.laysFinal "WeaversgateModel" "WeaversgateModel" "aspects" "[I") ∈ lw_all := lw_g (lw_at lw_m8 97 rfl) rfl
theorem q1837 : (Jvm.Cond.soleField "WeaversgateModel" "aspects") ∈ lw_all := lw_g (lw_at lw_m8 98 rfl) rfl
theorem q1838 : (Jvm.Cond.laysFinal "WeaversgateModel" "WeaversgateModel" "patterns" "[I") ∈ lw_all := lw_g (lw_at lw_m8 99 rfl) rfl
theorem q1839 : (Jvm.Cond.soleField "WeaversgateModel" "patterns") ∈ lw_all := lw_g (lw_at lw_m8 100 rfl) rfl
theorem q1840 : (Jvm.Cond.laysFinal "WeaversgateModel" "WeaversgateModel" "mores" "[I") ∈ lw_all := lw_g (lw_at lw_m8 101 rfl) rfl
theorem q1841 : (Jvm.Cond.soleField "WeaversgateModel" "mores") ∈ lw_all := lw_g (lw_at lw_m8 102 rfl) rfl
theorem q1842 : (Jvm.Cond.laysFinal "WeaversgateModel" "WeaversgateModel" "times" "[I") ∈ lw_all := lw_g (lw_at lw_m8 103 rfl) rfl
theorem q1843 : (Jvm.Cond.soleField "WeaversgateModel" "times") ∈ lw_all := lw_g (lw_at lw_m8 104 rfl) rfl
theorem q1844 : (Jvm.Cond.laysFinal "WeaversgateModel" "WeaversgateModel" "patternKinds" "[C") ∈ lw_all := lw_g (lw_at lw_m8 105 rfl) rfl
theorem q1845 : (Jvm.Cond.soleField "WeaversgateModel" "patternKinds") ∈ lw_all := lw_g (lw_at lw_m8 106 rfl) rfl
theorem q1846 : (Jvm.Cond.laysFinal "WeaversgateModel" "WeaversgateModel" "adviceKinds" "[C") ∈ lw_all := lw_g (lw_at lw_m8 107 rfl) rfl
theorem q1847 : (Jvm.Cond.soleField "WeaversgateModel" "adviceKinds") ∈ lw_all := lw_g (lw_at lw_m8 108 rfl) rfl
theorem q1848 : (Jvm.Cond.laysFinal "WeaversgateModel" "WeaversgateModel" "areOn" "[Z") ∈ lw_all := lw_g (lw_at lw_m8 109 rfl) rfl
theorem q1849 : (Jvm.Cond.soleField "WeaversgateModel" "areOn") ∈ lw_all := lw_g (lw_at lw_m8 110 rfl) rfl
theorem q1850 : (Jvm.Cond.laysFinal "WeaversgateModel" "WeaversgateModel" "areAhead" "[Z") ∈ lw_all := lw_g (lw_at lw_m8 111 rfl) rfl
theorem q1851 : (Jvm.Cond.soleField "WeaversgateModel" "areAhead") ∈ lw_all := lw_g (lw_at lw_m8 112 rfl) rfl
theorem q1852 : (Jvm.Cond.lays "WeaversgateModel" "WeaversgateModel" "thrown" "I") ∈ lw_all := lw_g (lw_at lw_m8 113 rfl) rfl
theorem q1853 : (Jvm.Cond.soleField "WeaversgateModel" "thrown") ∈ lw_all := lw_g (lw_at lw_m8 114 rfl) rfl
theorem q1854 : (Jvm.Cond.lays "WeaversgateModel" "WeaversgateModel" "classes" "I") ∈ lw_all := lw_g (lw_at lw_m8 115 rfl) rfl
theorem q1855 : (Jvm.Cond.soleField "WeaversgateModel" "classes") ∈ lw_all := lw_g (lw_at lw_m8 116 rfl) rfl
theorem q1856 : (Jvm.Cond.lays "WeaversgateModel" "WeaversgateModel" "patternCount" "I") ∈ lw_all := lw_g (lw_at lw_m8 117 rfl) rfl
theorem q1857 : (Jvm.Cond.soleField "WeaversgateModel" "patternCount") ∈ lw_all := lw_g (lw_at lw_m8 118 rfl) rfl
theorem q1858 : (Jvm.Cond.lays "WeaversgateModel" "WeaversgateModel" "adviceCount" "I") ∈ lw_all := lw_g (lw_at lw_m8 119 rfl) rfl
theorem q1859 : (Jvm.Cond.soleField "WeaversgateModel" "adviceCount") ∈ lw_all := lw_g (lw_at lw_m8 120 rfl) rfl
theorem q1860 : (Jvm.Cond.lays "WeaversgateModel" "WeaversgateModel" "last" "LWeaversgateModel$Result;") ∈ lw_all := lw_g (lw_at lw_m8 121 rfl) rfl
theorem q1861 : (Jvm.Cond.soleField "WeaversgateModel" "last") ∈ lw_all := lw_g (lw_at lw_m8 122 rfl) rfl
theorem q1862 : (Jvm.Cond.superclass "WeaversgateModel" "java/lang/Object") ∈ lw_all := lw_g (lw_at lw_m8 123 rfl) rfl
theorem q1864 : (Jvm.Cond.instanceMethod ({ cls := "WeaversgateModel", name := "thrown", desc := "()I" } : Jvm.MethodName)) ∈ lw_all := lw_g (lw_at lw_m8 125 rfl) rfl
theorem q1865 : (Jvm.Cond.selects "WeaversgateModel" ({ cls := "WeaversgateModel", name := "thrown", desc := "()I" } : Jvm.MethodName) ({ cls := "WeaversgateModel", name := "thrown", desc := "()I" } : Jvm.MethodName)) ∈ lw_all := lw_g (lw_at lw_m8 126 rfl) rfl
theorem q1866 : (Jvm.Cond.code ({ cls := "WeaversgateModel", name := "thrown", desc := "()I" } : Jvm.MethodName) prog_24_method_2_code (1 : Nat) (Option.some Jvm.ClassFile.FieldType.int)) ∈ lw_all := lw_g (lw_at lw_m8 127 rfl) rfl
theorem q1868 : (Jvm.Cond.instanceMethod ({ cls := "WeaversgateModel", name := "addClass", desc := "(I)I" } : Jvm.MethodName)) ∈ lw_all := lw_g (lw_at lw_m8 129 rfl) rfl
theorem q1869 : (Jvm.Cond.selects "WeaversgateModel" ({ cls := "WeaversgateModel", name := "addClass", desc := "(I)I" } : Jvm.MethodName) ({ cls := "WeaversgateModel", name := "addClass", desc := "(I)I" } : Jvm.MethodName)) ∈ lw_all := lw_g (lw_at lw_m8 130 rfl) rfl
theorem q1870 : (Jvm.Cond.code ({ cls := "WeaversgateModel", name := "addClass", desc := "(I)I" } : Jvm.MethodName) prog_24_method_7_code (2 : Nat) (Option.some Jvm.ClassFile.FieldType.int)) ∈ lw_all := lw_g (lw_at lw_m8 131 rfl) rfl
theorem q1871 : (Jvm.Cond.methodLink "WeaversgateModel" (75 : Nat) ({ cls := "WeaversgateModel", name := "isClass", desc := "(I)Z" } : Jvm.MethodName)) ∈ lw_all := lw_g (lw_at lw_m8 132 rfl) rfl
theorem q1872 : (Jvm.Cond.privateMethod ({ cls := "WeaversgateModel", name := "isClass", desc := "(I)Z" } : Jvm.MethodName)) ∈ lw_tbl := lw_at lw_m8 133 rfl
theorem q1873 : (Jvm.Cond.instanceMethod ({ cls := "WeaversgateModel", name := "isClass", desc := "(I)Z" } : Jvm.MethodName)) ∈ lw_all := lw_g (lw_at lw_m8 134 rfl) rfl
theorem q1874 : (Jvm.Cond.code ({ cls := "WeaversgateModel", name := "isClass", desc := "(I)Z" } : Jvm.MethodName) prog_24_method_6_code (2 : Nat) (Option.some Jvm.ClassFile.FieldType.boolean)) ∈ lw_all := lw_g (lw_at lw_m8 135 rfl) rfl
theorem q1875 : (Jvm.Cond.methodLink "WeaversgateModel" (71 : Nat) ({ cls := "WeaversgateModel", name := "in", desc := "(III)Z" } : Jvm.MethodName)) ∈ lw_all := lw_g (lw_at lw_m8 136 rfl) rfl
theorem q1876 : (Jvm.Cond.static ({ cls := "WeaversgateModel", name := "in", desc := "(III)Z" } : Jvm.MethodName)) ∈ lw_all := lw_g (lw_at lw_m8 137 rfl) rfl
theorem q1877 : (Jvm.Cond.code ({ cls := "WeaversgateModel", name := "in", desc := "(III)Z" } : Jvm.MethodName) prog_24_method_3_code (3 : Nat) (Option.some Jvm.ClassFile.FieldType.boolean)) ∈ lw_all := lw_g (lw_at lw_m8 138 rfl) rfl
theorem q1879 : (Jvm.Cond.instanceMethod ({ cls := "WeaversgateModel", name := "addStep", desc := "(IICII)I" } : Jvm.MethodName)) ∈ lw_all := lw_g (lw_at lw_m8 140 rfl) rfl
theorem q1880 : (Jvm.Cond.selects "WeaversgateModel" ({ cls := "WeaversgateModel", name := "addStep", desc := "(IICII)I" } : Jvm.MethodName) ({ cls := "WeaversgateModel", name := "addStep", desc := "(IICII)I" } : Jvm.MethodName)) ∈ lw_all := lw_g (lw_at lw_m8 141 rfl) rfl
theorem q1881 : (Jvm.Cond.code ({ cls := "WeaversgateModel", name := "addStep", desc := "(IICII)I" } : Jvm.MethodName) prog_24_method_11_code (7 : Nat) (Option.some Jvm.ClassFile.FieldType.int)) ∈ lw_all := lw_g (lw_at lw_m8 142 rfl) rfl
theorem q1882 : (Jvm.Cond.methodLink "WeaversgateModel" (79 : Nat) ({ cls := "WeaversgateModel", name := "isMethod", desc := "(I)Z" } : Jvm.MethodName)) ∈ lw_all := lw_g (lw_at lw_m8 143 rfl) rfl
theorem q1883 : (Jvm.Cond.static ({ cls := "WeaversgateModel", name := "isMethod", desc := "(I)Z" } : Jvm.MethodName)) ∈ lw_all := lw_g (lw_at lw_m8 144 rfl) rfl
theorem q1884 : (Jvm.Cond.code ({ cls := "WeaversgateModel", name := "isMethod", desc := "(I)Z" } : Jvm.MethodName) prog_24_method_8_code (1 : Nat) (Option.some Jvm.ClassFile.FieldType.boolean)) ∈ lw_all := lw_g (lw_at lw_m8 145 rfl) rfl
theorem q1885 : (Jvm.Cond.methodLink "WeaversgateModel" (82 : Nat) ({ cls := "WeaversgateModel", name := "isStep", desc := "(CII)Z" } : Jvm.MethodName)) ∈ lw_all := lw_g (lw_at lw_m8 146 rfl) rfl
theorem q1886 : (Jvm.Cond.privateMethod ({ cls := "WeaversgateModel", name := "isStep", desc := "(CII)Z" } : Jvm.MethodName)) ∈ lw_tbl := lw_at lw_m8 147 rfl
theorem q1887 : (Jvm.Cond.instanceMethod ({ cls := "WeaversgateModel", name := "isStep", desc := "(CII)Z" } : Jvm.MethodName)) ∈ lw_all := lw_g (lw_at lw_m8 148 rfl) rfl
theorem q1888 : (Jvm.Cond.code ({ cls := "WeaversgateModel", name := "isStep", desc := "(CII)Z" } : Jvm.MethodName) prog_24_method_9_code (4 : Nat) (Option.some Jvm.ClassFile.FieldType.boolean)) ∈ lw_all := lw_g (lw_at lw_m8 149 rfl) rfl
theorem q1889 : (Jvm.Cond.methodLink "WeaversgateModel" (86 : Nat) ({ cls := "WeaversgateModel", name := "body", desc := "(II)LWeaversgateModel$Body;" } : Jvm.MethodName)) ∈ lw_all := lw_g (lw_at lw_m8 150 rfl) rfl
theorem q1890 : (Jvm.Cond.privateMethod ({ cls := "WeaversgateModel", name := "body", desc := "(II)LWeaversgateModel$Body;" } : Jvm.MethodName)) ∈ lw_tbl := lw_at lw_m8 151 rfl
theorem q1891 : (Jvm.Cond.instanceMethod ({ cls := "WeaversgateModel", name := "body", desc := "(II)LWeaversgateModel$Body;" } : Jvm.MethodName)) ∈ lw_all := lw_g (lw_at lw_m8 152 rfl) rfl
theorem q1892 : (Jvm.Cond.code ({ cls := "WeaversgateModel", name := "body", desc := "(II)LWeaversgateModel$Body;" } : Jvm.MethodName) prog_24_method_10_code (3 : Nat) (Option.some (Jvm.ClassFile.FieldType.object "WeaversgateModel$Body"))) ∈ lw_all := lw_g (lw_at lw_m8 153 rfl) rfl
theorem q1894 : (Jvm.Cond.methodLinkNest "WeaversgateModel" (93 : Nat) ({ cls := "WeaversgateModel$Body", name := "<init>", desc := "()V" } : Jvm.MethodName) "WeaversgateModel") ∈ lw_tbl := lw_at lw_m8 155 rfl
theorem q1899 : (Jvm.Cond.fieldLink "WeaversgateModel" (94 : Nat) "WeaversgateModel$Body" "kinds" "[C") ∈ lw_all := lw_g (lw_at lw_m8 160 rfl) rfl
theorem q1902 : (Jvm.Cond.fieldLink "WeaversgateModel" (97 : Nat) "WeaversgateModel$Body" "as" "[I") ∈ lw_all := lw_g (lw_at lw_m8 163 rfl) rfl
theorem q1905 : (Jvm.Cond.fieldLink "WeaversgateModel" (100 : Nat) "WeaversgateModel$Body" "bs" "[I") ∈ lw_all := lw_g (lw_at lw_m8 166 rfl) rfl
theorem q1908 : (Jvm.Cond.fieldLink "WeaversgateModel" (90 : Nat) "WeaversgateModel$Body" "count" "I") ∈ lw_all := lw_g (lw_at lw_m8 169 rfl) rfl
theorem q1920 : (Jvm.Cond.instanceMethod ({ cls := "WeaversgateModel", name := "dropBody", desc := "(II)I" } : Jvm.MethodName)) ∈ lw_all := lw_g (lw_at lw_m8 181 rfl) rfl
theorem q1921 : (Jvm.Cond.selects "WeaversgateModel" ({ cls := "WeaversgateModel", name := "dropBody", desc := "(II)I" } : Jvm.MethodName) ({ cls := "WeaversgateModel", name := "dropBody", desc := "(II)I" } : Jvm.MethodName)) ∈ lw_all := lw_g (lw_at lw_m8 182 rfl) rfl
theorem q1922 : (Jvm.Cond.code ({ cls := "WeaversgateModel", name := "dropBody", desc := "(II)I" } : Jvm.MethodName) prog_24_method_13_code (4 : Nat) (Option.some Jvm.ClassFile.FieldType.int)) ∈ lw_all := lw_g (lw_at lw_m8 183 rfl) rfl
theorem q1923 : (Jvm.Cond.methodLink "WeaversgateModel" (103 : Nat) ({ cls := "WeaversgateModel", name := "wrong", desc := "(II)I" } : Jvm.MethodName)) ∈ lw_all := lw_g (lw_at lw_m8 184 rfl) rfl
theorem q1924 : (Jvm.Cond.privateMethod ({ cls := "WeaversgateModel", name := "wrong", desc := "(II)I" } : Jvm.MethodName)) ∈ lw_tbl := lw_at lw_m8 185 rfl
theorem q1925 : (Jvm.Cond.instanceMethod ({ cls := "WeaversgateModel", name := "wrong", desc := "(II)I" } : Jvm.MethodName)) ∈ lw_all := lw_g (lw_at lw_m8 186 rfl) rfl
theorem q1926 : (Jvm.Cond.code ({ cls := "WeaversgateModel", name := "wrong", desc := "(II)I" } : Jvm.MethodName) prog_24_method_12_code (3 : Nat) (Option.some Jvm.ClassFile.FieldType.int)) ∈ lw_all := lw_g (lw_at lw_m8 187 rfl) rfl
theorem q1928 : (Jvm.Cond.instanceMethod ({ cls := "WeaversgateModel", name := "finds", desc := "(II)I" } : Jvm.MethodName)) ∈ lw_all := lw_g (lw_at lw_m8 189 rfl) rfl
theorem q1929 : (Jvm.Cond.selects "WeaversgateModel" ({ cls := "WeaversgateModel", name := "finds", desc := "(II)I" } : Jvm.MethodName) ({ cls := "WeaversgateModel", name := "finds", desc := "(II)I" } : Jvm.MethodName)) ∈ lw_all := lw_g (lw_at lw_m8 190 rfl) rfl
theorem q1930 : (Jvm.Cond.code ({ cls := "WeaversgateModel", name := "finds", desc := "(II)I" } : Jvm.MethodName) prog_24_method_15_code (3 : Nat) (Option.some Jvm.ClassFile.FieldType.int)) ∈ lw_all := lw_g (lw_at lw_m8 191 rfl) rfl
theorem q1931 : (Jvm.Cond.methodLink "WeaversgateModel" (107 : Nat) ({ cls := "WeaversgateModel", name := "found", desc := "(II)I" } : Jvm.MethodName)) ∈ lw_all := lw_g (lw_at lw_m8 192 rfl) rfl
theorem q1932 : (Jvm.Cond.privateMethod ({ cls := "WeaversgateModel", name := "found", desc := "(II)I" } : Jvm.MethodName)) ∈ lw_tbl := lw_at lw_m8 193 rfl
theorem q1933 : (Jvm.Cond.instanceMethod ({ cls := "WeaversgateModel", name := "found", desc := "(II)I" } : Jvm.MethodName)) ∈ lw_all := lw_g (lw_at lw_m8 194 rfl) rfl
theorem q1934 : (Jvm.Cond.code ({ cls := "WeaversgateModel", name := "found", desc := "(II)I" } : Jvm.MethodName) prog_24_method_14_code (4 : Nat) (Option.some Jvm.ClassFile.FieldType.int)) ∈ lw_all := lw_g (lw_at lw_m8 195 rfl) rfl
theorem q1936 : (Jvm.Cond.instanceMethod ({ cls := "WeaversgateModel", name := "addPattern", desc := "(CII)I" } : Jvm.MethodName)) ∈ lw_all := lw_g (lw_at lw_m8 197 rfl) rfl
theorem q1937 : (Jvm.Cond.selects "WeaversgateModel" ({ cls := "WeaversgateModel", name := "addPattern", desc := "(CII)I" } : Jvm.MethodName) ({ cls := "WeaversgateModel", name := "addPattern", desc := "(CII)I" } : Jvm.MethodName)) ∈ lw_all := lw_g (lw_at lw_m8 198 rfl) rfl
theorem q1938 : (Jvm.Cond.code ({ cls := "WeaversgateModel", name := "addPattern", desc := "(CII)I" } : Jvm.MethodName) prog_24_method_21_code (4 : Nat) (Option.some Jvm.ClassFile.FieldType.int)) ∈ lw_all := lw_g (lw_at lw_m8 199 rfl) rfl
theorem q1939 : (Jvm.Cond.stringRef "WeaversgateModel" (133 : Nat) "ceghsmntwvf&|!") ∈ lw_tbl := lw_at lw_m8 200 rfl
theorem q1940 : (Jvm.Cond.methodLink "WeaversgateModel" (122 : Nat) ({ cls := "WeaversgateModel", name := "isOneOf", desc := "(Ljava/lang/String;C)Z" } : Jvm.MethodName)) ∈ lw_all := lw_g (lw_at lw_m8 201 rfl) rfl
theorem q1941 : (Jvm.Cond.static ({ cls := "WeaversgateModel", name := "isOneOf", desc := "(Ljava/lang/String;C)Z" } : Jvm.MethodName)) ∈ lw_all := lw_g (lw_at lw_m8 202 rfl) rfl
theorem q1942 : (Jvm.Cond.code ({ cls := "WeaversgateModel", name := "isOneOf", desc := "(Ljava/lang/String;C)Z" } : Jvm.MethodName) prog_24_method_17_code (3 : Nat) (Option.some Jvm.ClassFile.FieldType.boolean)) ∈ lw_all := lw_g (lw_at lw_m8 203 rfl) rfl
theorem q1943 : (Jvm.Cond.methodLink "WeaversgateModel" (110 : Nat) ({ cls := "java/lang/String", name := "length", desc := "()I" } : Jvm.MethodName)) ∈ lw_all := lw_g (lw_at lw_m8 204 rfl) rfl
theorem q1944 : (Jvm.Cond.methodLink "WeaversgateModel" (116 : Nat) ({ cls := "java/lang/String", name := "charAt", desc := "(I)C" } : Jvm.MethodName)) ∈ lw_all := lw_g (lw_at lw_m8 205 rfl) rfl
theorem q1945 : (Jvm.Cond.methodLink "WeaversgateModel" (135 : Nat) ({ cls := "WeaversgateModel", name := "isPatternNumber", desc := "(CI)Z" } : Jvm.MethodName)) ∈ lw_all := lw_g (lw_at lw_m8 206 rfl) rfl
theorem q1946 : (Jvm.Cond.static ({ cls := "WeaversgateModel", name := "isPatternNumber", desc := "(CI)Z" } : Jvm.MethodName)) ∈ lw_all := lw_g (lw_at lw_m8 207 rfl) rfl
theorem q1947 : (Jvm.Cond.code ({ cls := "WeaversgateModel", name := "isPatternNumber", desc := "(CI)Z" } : Jvm.MethodName) prog_24_method_19_code (2 : Nat) (Option.some Jvm.ClassFile.FieldType.boolean)) ∈ lw_all := lw_g (lw_at lw_m8 208 rfl) rfl
theorem q1948 : (Jvm.Cond.stringRef "WeaversgateModel" (120 : Nat) "ntw") ∈ lw_tbl := lw_at lw_m8 209 rfl
theorem q1949 : (Jvm.Cond.methodLink "WeaversgateModel" (139 : Nat) ({ cls := "WeaversgateModel", name := "arePatterns", desc := "(CII)Z" } : Jvm.MethodName)) ∈ lw_all := lw_g (lw_at lw_m8 210 rfl) rfl
theorem q1950 : (Jvm.Cond.privateMethod ({ cls := "WeaversgateModel", name := "arePatterns", desc := "(CII)Z" } : Jvm.MethodName)) ∈ lw_tbl := lw_at lw_m8 211 rfl
theorem q1951 : (Jvm.Cond.instanceMethod ({ cls := "WeaversgateModel", name := "arePatterns", desc := "(CII)Z" } : Jvm.MethodName)) ∈ lw_all := lw_g (lw_at lw_m8 212 rfl) rfl
theorem q1952 : (Jvm.Cond.code ({ cls := "WeaversgateModel", name := "arePatterns", desc := "(CII)Z" } : Jvm.MethodName) prog_24_method_20_code (4 : Nat) (Option.some Jvm.ClassFile.FieldType.boolean)) ∈ lw_all := lw_g (lw_at lw_m8 213 rfl) rfl
theorem q1953 : (Jvm.Cond.stringRef "WeaversgateModel" (126 : Nat) "f&|!") ∈ lw_tbl := lw_at lw_m8 214 rfl
theorem q1954 : (Jvm.Cond.methodLink "WeaversgateModel" (128 : Nat) ({ cls := "WeaversgateModel", name := "isPattern", desc := "(I)Z" } : Jvm.MethodName)) ∈ lw_all := lw_g (lw_at lw_m8 215 rfl) rfl
theorem q1955 : (Jvm.Cond.privateMethod ({ cls := "WeaversgateModel", name := "isPattern", desc := "(I)Z" } : Jvm.MethodName)) ∈ lw_tbl := lw_at lw_m8 216 rfl
theorem q1956 : (Jvm.Cond.instanceMethod ({ cls := "WeaversgateModel", name := "isPattern", desc := "(I)Z" } : Jvm.MethodName)) ∈ lw_all := lw_g (lw_at lw_m8 217 rfl) rfl
theorem q1957 : (Jvm.Cond.code ({ cls := "WeaversgateModel", name := "isPattern", desc := "(I)Z" } : Jvm.MethodName) prog_24_method_18_code (2 : Nat) (Option.some Jvm.ClassFile.FieldType.boolean)) ∈ lw_all := lw_g (lw_at lw_m8 218 rfl) rfl
theorem q1958 : (Jvm.Cond.stringRef "WeaversgateModel" (131 : Nat) "&|") ∈ lw_tbl := lw_at lw_m8 219 rfl
theorem q1960 : (Jvm.Cond.instanceMethod ({ cls := "WeaversgateModel", name := "addAdvice", desc := "(ICIII)I" } : Jvm.MethodName)) ∈ lw_all := lw_g (lw_at lw_m8 221 rfl) rfl
theorem q1961 : (Jvm.Cond.selects "WeaversgateModel" ({ cls := "WeaversgateModel", name := "addAdvice", desc := "(ICIII)I" } : Jvm.MethodName) ({ cls := "WeaversgateModel", name := "addAdvice", desc := "(ICIII)I" } : Jvm.MethodName)) ∈ lw_all := lw_g (lw_at lw_m8 222 rfl) rfl
theorem q1962 : (Jvm.Cond.code ({ cls := "WeaversgateModel", name := "addAdvice", desc := "(ICIII)I" } : Jvm.MethodName) prog_24_method_23_code (6 : Nat) (Option.some Jvm.ClassFile.FieldType.int)) ∈ lw_all := lw_g (lw_at lw_m8 223 rfl) rfl
theorem q1963 : (Jvm.Cond.methodLink "WeaversgateModel" (142 : Nat) ({ cls := "WeaversgateModel", name := "isAspect", desc := "(I)Z" } : Jvm.MethodName)) ∈ lw_all := lw_g (lw_at lw_m8 224 rfl) rfl
theorem q1964 : (Jvm.Cond.static ({ cls := "WeaversgateModel", name := "isAspect", desc := "(I)Z" } : Jvm.MethodName)) ∈ lw_all := lw_g (lw_at lw_m8 225 rfl) rfl
theorem q1965 : (Jvm.Cond.code ({ cls := "WeaversgateModel", name := "isAspect", desc := "(I)Z" } : Jvm.MethodName) prog_24_method_22_code (1 : Nat) (Option.some Jvm.ClassFile.FieldType.boolean)) ∈ lw_all := lw_g (lw_at lw_m8 226 rfl) rfl
theorem q1966 : (Jvm.Cond.stringRef "WeaversgateModel" (145 : Nat) "baxfr") ∈ lw_tbl := lw_at lw_m8 227 rfl
theorem q1968 : (Jvm.Cond.instanceMethod ({ cls := "WeaversgateModel", name := "turn", desc := "(IZ)Z" } : Jvm.MethodName)) ∈ lw_all := lw_g (lw_at lw_m8 229 rfl) rfl
theorem q1969 : (Jvm.Cond.selects "WeaversgateModel" ({ cls := "WeaversgateModel", name := "turn", desc := "(IZ)Z" } : Jvm.MethodName) ({ cls := "WeaversgateModel", name := "turn", desc := "(IZ)Z" } : Jvm.MethodName)) ∈ lw_all := lw_g (lw_at lw_m8 230 rfl) rfl
theorem q1970 : (Jvm.Cond.code ({ cls := "WeaversgateModel", name := "turn", desc := "(IZ)Z" } : Jvm.MethodName) prog_24_method_25_code (4 : Nat) (Option.some Jvm.ClassFile.FieldType.boolean)) ∈ lw_all := lw_g (lw_at lw_m8 231 rfl) rfl
theorem q1971 : (Jvm.Cond.methodLink "WeaversgateModel" (147 : Nat) ({ cls := "WeaversgateModel", name := "isAdvice", desc := "(I)Z" } : Jvm.MethodName)) ∈ lw_all := lw_g (lw_at lw_m8 232 rfl) rfl
theorem q1972 : (Jvm.Cond.privateMethod ({ cls := "WeaversgateModel", name := "isAdvice", desc := "(I)Z" } : Jvm.MethodName)) ∈ lw_tbl := lw_at lw_m8 233 rfl
theorem q1973 : (Jvm.Cond.instanceMethod ({ cls := "WeaversgateModel", name := "isAdvice", desc := "(I)Z" } : Jvm.MethodName)) ∈ lw_all := lw_g (lw_at lw_m8 234 rfl) rfl
theorem q1974 : (Jvm.Cond.code ({ cls := "WeaversgateModel", name := "isAdvice", desc := "(I)Z" } : Jvm.MethodName) prog_24_method_24_code (2 : Nat) (Option.some Jvm.ClassFile.FieldType.boolean)) ∈ lw_all := lw_g (lw_at lw_m8 235 rfl) rfl
theorem q1975 : (Jvm.Cond.methodLink "WeaversgateModel" (150 : Nat) ({ cls := "WeaversgateModel", name := "checked", desc := "(Z)I" } : Jvm.MethodName)) ∈ lw_all := lw_g (lw_at lw_m8 236 rfl) rfl
theorem q1976 : (Jvm.Cond.privateMethod ({ cls := "WeaversgateModel", name := "checked", desc := "(Z)I" } : Jvm.MethodName)) ∈ lw_tbl := lw_at lw_m8 237 rfl
theorem q1977 : (Jvm.Cond.instanceMethod ({ cls := "WeaversgateModel", name := "checked", desc := "(Z)I" } : Jvm.MethodName)) ∈ lw_all := lw_g (lw_at lw_m8 238 rfl) rfl
theorem q1978 : (Jvm.Cond.code ({ cls := "WeaversgateModel", name := "checked", desc := "(Z)I" } : Jvm.MethodName) prog_24_method_5_code (2 : Nat) (Option.some Jvm.ClassFile.FieldType.int)) ∈ lw_all := lw_g (lw_at lw_m8 239 rfl) rfl
theorem q1980 : (Jvm.Cond.instanceMethod ({ cls := "WeaversgateModel", name := "precede", desc := "(IIZ)Z" } : Jvm.MethodName)) ∈ lw_all := lw_g (lw_at lw_m9 1 rfl) rfl
theorem q1981 : (Jvm.Cond.selects "WeaversgateModel" ({ cls := "WeaversgateModel", name := "precede", desc := "(IIZ)Z" } : Jvm.MethodName) ({ cls := "WeaversgateModel", name := "precede", desc := "(IIZ)Z" } : Jvm.MethodName)) ∈ lw_all := lw_g (lw_at lw_m9 2 rfl) rfl
theorem q1982 : (Jvm.Cond.code ({ cls := "WeaversgateModel", name := "precede", desc := "(IIZ)Z" } : Jvm.MethodName) prog_24_method_26_code (5 : Nat) (Option.some Jvm.ClassFile.FieldType.boolean)) ∈ lw_all := lw_g (lw_at lw_m9 3 rfl) rfl
theorem q1984 : (Jvm.Cond.instanceMethod ({ cls := "WeaversgateModel", name := "isRing", desc := "()Z" } : Jvm.MethodName)) ∈ lw_all := lw_g (lw_at lw_m9 5 rfl) rfl
theorem q1985 : (Jvm.Cond.selects "WeaversgateModel" ({ cls := "WeaversgateModel", name := "isRing", desc := "()Z" } : Jvm.MethodName) ({ cls := "WeaversgateModel", name := "isRing", desc := "()Z" } : Jvm.MethodName)) ∈ lw_all := lw_g (lw_at lw_m9 6 rfl) rfl
theorem q1986 : (Jvm.Cond.code ({ cls := "WeaversgateModel", name := "isRing", desc := "()Z" } : Jvm.MethodName) prog_24_method_29_code (1 : Nat) (Option.some Jvm.ClassFile.FieldType.boolean)) ∈ lw_all := lw_g (lw_at lw_m9 7 rfl) rfl
theorem q1987 : (Jvm.Cond.methodLink "WeaversgateModel" (174 : Nat) ({ cls := "WeaversgateModel", name := "order", desc := "()Ljava/util/ArrayList;" } : Jvm.MethodName)) ∈ lw_all := lw_g (lw_at lw_m9 8 rfl) rfl
theorem q1988 : (Jvm.Cond.privateMethod ({ cls := "WeaversgateModel", name := "order", desc := "()Ljava/util/ArrayList;" } : Jvm.MethodName)) ∈ lw_tbl := lw_at lw_m9 9 rfl
theorem q1989 : (Jvm.Cond.instanceMethod ({ cls := "WeaversgateModel", name := "order", desc := "()Ljava/util/ArrayList;" } : Jvm.MethodName)) ∈ lw_all := lw_g (lw_at lw_m9 10 rfl) rfl
theorem q1990 : (Jvm.Cond.code ({ cls := "WeaversgateModel", name := "order", desc := "()Ljava/util/ArrayList;" } : Jvm.MethodName) prog_24_method_28_code (4 : Nat) (Option.some (Jvm.ClassFile.FieldType.object "java/util/ArrayList"))) ∈ lw_all := lw_g (lw_at lw_m9 11 rfl) rfl
theorem q1991 : (Jvm.Cond.classLink "WeaversgateModel" (161 : Nat) "java/util/ArrayList") ∈ lw_all := lw_g (lw_at lw_m9 12 rfl) rfl
theorem q1992 : (Jvm.Cond.methodLink "WeaversgateModel" (166 : Nat) ({ cls := "java/util/ArrayList", name := "<init>", desc := "()V" } : Jvm.MethodName)) ∈ lw_all := lw_g (lw_at lw_m9 13 rfl) rfl
theorem q1993 : (Jvm.Cond.methodLink "WeaversgateModel" (167 : Nat) ({ cls := "WeaversgateModel", name := "isNext", desc := "(ILjava/util/ArrayList;)Z" } : Jvm.MethodName)) ∈ lw_all := lw_g (lw_at lw_m9 14 rfl) rfl
theorem q1994 : (Jvm.Cond.privateMethod ({ cls := "WeaversgateModel", name := "isNext", desc := "(ILjava/util/ArrayList;)Z" } : Jvm.MethodName)) ∈ lw_tbl := lw_at lw_m9 15 rfl
theorem q1995 : (Jvm.Cond.instanceMethod ({ cls := "WeaversgateModel", name := "isNext", desc := "(ILjava/util/ArrayList;)Z" } : Jvm.MethodName)) ∈ lw_all := lw_g (lw_at lw_m9 16 rfl) rfl
theorem q1996 : (Jvm.Cond.code ({ cls := "WeaversgateModel", name := "isNext", desc := "(ILjava/util/ArrayList;)Z" } : Jvm.MethodName) prog_24_method_27_code (4 : Nat) (Option.some Jvm.ClassFile.FieldType.boolean)) ∈ lw_all := lw_g (lw_at lw_m9 17 rfl) rfl
theorem q1997 : (Jvm.Cond.methodLink "WeaversgateModel" (154 : Nat) ({ cls := "java/lang/Integer", name := "valueOf", desc := "(I)Ljava/lang/Integer;" } : Jvm.MethodName)) ∈ lw_all := lw_g (lw_at lw_m9 18 rfl) rfl
theorem q2017 : (Jvm.Cond.methodLink "WeaversgateModel" (160 : Nat) ({ cls := "java/util/ArrayList", name := "contains", desc := "(Ljava/lang/Object;)Z" } : Jvm.MethodName)) ∈ lw_all := lw_g (lw_at lw_m9 38 rfl) rfl
theorem q2053 : (Jvm.Cond.selects "WeaversgateModel" ({ cls := "java/lang/Object", name := "equals", desc := "(Ljava/lang/Object;)Z" } : Jvm.MethodName) ({ cls := "java/lang/Object", name := "equals", desc := "(Ljava/lang/Object;)Z" } : Jvm.MethodName)) ∈ lw_all := lw_g (lw_at lw_m9 74 rfl) rfl
theorem q2085 : (Jvm.Cond.methodLink "WeaversgateModel" (171 : Nat) ({ cls := "java/util/ArrayList", name := "add", desc := "(Ljava/lang/Object;)Z" } : Jvm.MethodName)) ∈ lw_all := lw_g (lw_at lw_m9 106 rfl) rfl
theorem q2086 : (Jvm.Cond.methodLink "WeaversgateModel" (178 : Nat) ({ cls := "java/util/ArrayList", name := "size", desc := "()I" } : Jvm.MethodName)) ∈ lw_all := lw_g (lw_at lw_m9 107 rfl) rfl
theorem q2088 : (Jvm.Cond.instanceMethod ({ cls := "WeaversgateModel", name := "aspectAt", desc := "(I)I" } : Jvm.MethodName)) ∈ lw_all := lw_g (lw_at lw_m9 109 rfl) rfl
theorem q2089 : (Jvm.Cond.selects "WeaversgateModel" ({ cls := "WeaversgateModel", name := "aspectAt", desc := "(I)I" } : Jvm.MethodName) ({ cls := "WeaversgateModel", name := "aspectAt", desc := "(I)I" } : Jvm.MethodName)) ∈ lw_all := lw_g (lw_at lw_m9 110 rfl) rfl
theorem q2090 : (Jvm.Cond.code ({ cls := "WeaversgateModel", name := "aspectAt", desc := "(I)I" } : Jvm.MethodName) prog_24_method_30_code (2 : Nat) (Option.some Jvm.ClassFile.FieldType.int)) ∈ lw_all := lw_g (lw_at lw_m9 111 rfl) rfl
theorem q2091 : (Jvm.Cond.methodLink "WeaversgateModel" (181 : Nat) ({ cls := "java/util/ArrayList", name := "get", desc := "(I)Ljava/lang/Object;" } : Jvm.MethodName)) ∈ lw_all := lw_g (lw_at lw_m9 112 rfl) rfl
theorem q2092 : (Jvm.Cond.classLink "WeaversgateModel" (155 : Nat) "java/lang/Integer") ∈ lw_all := lw_g (lw_at lw_m9 113 rfl) rfl
theorem q2093 : (Jvm.Cond.methodLink "WeaversgateModel" (185 : Nat) ({ cls := "java/lang/Integer", name := "intValue", desc := "()I" } : Jvm.MethodName)) ∈ lw_all := lw_g (lw_at lw_m9 114 rfl) rfl
theorem q2095 : (Jvm.Cond.instanceMethod ({ cls := "WeaversgateModel", name := "places", desc := "(II)I" } : Jvm.MethodName)) ∈ lw_all := lw_g (lw_at lw_m9 116 rfl) rfl
theorem q2096 : (Jvm.Cond.selects "WeaversgateModel" ({ cls := "WeaversgateModel", name := "places", desc := "(II)I" } : Jvm.MethodName) ({ cls := "WeaversgateModel", name := "places", desc := "(II)I" } : Jvm.MethodName)) ∈ lw_all := lw_g (lw_at lw_m9 117 rfl) rfl
theorem q2097 : (Jvm.Cond.code ({ cls := "WeaversgateModel", name := "places", desc := "(II)I" } : Jvm.MethodName) prog_24_method_38_code (3 : Nat) (Option.some Jvm.ClassFile.FieldType.int)) ∈ lw_all := lw_g (lw_at lw_m9 118 rfl) rfl
theorem q2098 : (Jvm.Cond.methodLink "WeaversgateModel" (232 : Nat) ({ cls := "WeaversgateModel", name := "spots", desc := "(II)Ljava/util/ArrayList;" } : Jvm.MethodName)) ∈ lw_all := lw_g (lw_at lw_m9 119 rfl) rfl
theorem q2099 : (Jvm.Cond.privateMethod ({ cls := "WeaversgateModel", name := "spots", desc := "(II)Ljava/util/ArrayList;" } : Jvm.MethodName)) ∈ lw_tbl := lw_at lw_m9 120 rfl
theorem q2100 : (Jvm.Cond.instanceMethod ({ cls := "WeaversgateModel", name := "spots", desc := "(II)Ljava/util/ArrayList;" } : Jvm.MethodName)) ∈ lw_all := lw_g (lw_at lw_m9 121 rfl) rfl
theorem q2101 : (Jvm.Cond.code ({ cls := "WeaversgateModel", name := "spots", desc := "(II)Ljava/util/ArrayList;" } : Jvm.MethodName) prog_24_method_31_code (7 : Nat) (Option.some (Jvm.ClassFile.FieldType.object "java/util/ArrayList"))) ∈ lw_all := lw_g (lw_at lw_m9 122 rfl) rfl
theorem q2102 : (Jvm.Cond.classLink "WeaversgateModel" (188 : Nat) "WeaversgateModel$Spot") ∈ lw_all := lw_g (lw_at lw_m9 123 rfl) rfl
theorem q2104 : (Jvm.Cond.methodLinkNest "WeaversgateModel" (190 : Nat) ({ cls := "WeaversgateModel$Spot", name := "<init>", desc := "(CIII)V" } : Jvm.MethodName) "WeaversgateModel") ∈ lw_tbl := lw_at lw_m9 125 rfl
theorem q2124 : (Jvm.Cond.stringRef "WeaversgateModel" (193 : Nat) "cgsh") ∈ lw_tbl := lw_at lw_m9 145 rfl
theorem q2126 : (Jvm.Cond.instanceMethod ({ cls := "WeaversgateModel", name := "match", desc := "(IIII)C" } : Jvm.MethodName)) ∈ lw_all := lw_g (lw_at lw_m9 147 rfl) rfl
theorem q2127 : (Jvm.Cond.selects "WeaversgateModel" ({ cls := "WeaversgateModel", name := "match", desc := "(IIII)C" } : Jvm.MethodName) ({ cls := "WeaversgateModel", name := "match", desc := "(IIII)C" } : Jvm.MethodName)) ∈ lw_all := lw_g (lw_at lw_m9 148 rfl) rfl
theorem q2128 : (Jvm.Cond.code ({ cls := "WeaversgateModel", name := "match", desc := "(IIII)C" } : Jvm.MethodName) prog_24_method_39_code (5 : Nat) (Option.some Jvm.ClassFile.FieldType.char)) ∈ lw_all := lw_g (lw_at lw_m9 149 rfl) rfl
theorem q2129 : (Jvm.Cond.methodLink "WeaversgateModel" (221 : Nat) ({ cls := "WeaversgateModel", name := "matches", desc := "(LWeaversgateModel$Spot;III)C" } : Jvm.MethodName)) ∈ lw_all := lw_g (lw_at lw_m9 150 rfl) rfl
theorem q2130 : (Jvm.Cond.privateMethod ({ cls := "WeaversgateModel", name := "matches", desc := "(LWeaversgateModel$Spot;III)C" } : Jvm.MethodName)) ∈ lw_tbl := lw_at lw_m9 151 rfl
theorem q2131 : (Jvm.Cond.instanceMethod ({ cls := "WeaversgateModel", name := "matches", desc := "(LWeaversgateModel$Spot;III)C" } : Jvm.MethodName)) ∈ lw_all := lw_g (lw_at lw_m9 152 rfl) rfl
theorem q2132 : (Jvm.Cond.code ({ cls := "WeaversgateModel", name := "matches", desc := "(LWeaversgateModel$Spot;III)C" } : Jvm.MethodName) prog_24_method_35_code (7 : Nat) (Option.some Jvm.ClassFile.FieldType.char)) ∈ lw_all := lw_g (lw_at lw_m9 153 rfl) rfl
theorem q2133 : (Jvm.Cond.methodLink "WeaversgateModel" (213 : Nat) ({ cls := "WeaversgateModel", name := "nameMatch", desc := "(LWeaversgateModel$Spot;I)C" } : Jvm.MethodName)) ∈ lw_all := lw_g (lw_at lw_m9 154 rfl) rfl
theorem q2134 : (Jvm.Cond.privateMethod ({ cls := "WeaversgateModel", name := "nameMatch", desc := "(LWeaversgateModel$Spot;I)C" } : Jvm.MethodName)) ∈ lw_tbl := lw_at lw_m9 155 rfl
theorem q2135 : (Jvm.Cond.instanceMethod ({ cls := "WeaversgateModel", name := "nameMatch", desc := "(LWeaversgateModel$Spot;I)C" } : Jvm.MethodName)) ∈ lw_all := lw_g (lw_at lw_m9 156 rfl) rfl
theorem q2136 : (Jvm.Cond.code ({ cls := "WeaversgateModel", name := "nameMatch", desc := "(LWeaversgateModel$Spot;I)C" } : Jvm.MethodName) prog_24_method_34_code (3 : Nat) (Option.some Jvm.ClassFile.FieldType.char)) ∈ lw_all := lw_g (lw_at lw_m9 157 rfl) rfl
theorem q2137 : (Jvm.Cond.methodLink "WeaversgateModel" (202 : Nat) ({ cls := "WeaversgateModel$Spot", name := "kind", desc := "()C" } : Jvm.MethodName)) ∈ lw_all := lw_g (lw_at lw_m9 158 rfl) rfl
theorem q2141 : (Jvm.Cond.methodLink "WeaversgateModel" (206 : Nat) ({ cls := "WeaversgateModel$Spot", name := "name", desc := "()I" } : Jvm.MethodName)) ∈ lw_all := lw_g (lw_at lw_m9 162 rfl) rfl
theorem q2145 : (Jvm.Cond.methodLink "WeaversgateModel" (209 : Nat) ({ cls := "WeaversgateModel", name := "sure", desc := "(Z)C" } : Jvm.MethodName)) ∈ lw_all := lw_g (lw_at lw_m9 166 rfl) rfl
theorem q2146 : (Jvm.Cond.static ({ cls := "WeaversgateModel", name := "sure", desc := "(Z)C" } : Jvm.MethodName)) ∈ lw_all := lw_g (lw_at lw_m9 167 rfl) rfl
theorem q2147 : (Jvm.Cond.code ({ cls := "WeaversgateModel", name := "sure", desc := "(Z)C" } : Jvm.MethodName) prog_24_method_33_code (1 : Nat) (Option.some Jvm.ClassFile.FieldType.char)) ∈ lw_all := lw_g (lw_at lw_m9 168 rfl) rfl
theorem q2148 : (Jvm.Cond.methodLink "WeaversgateModel" (217 : Nat) ({ cls := "WeaversgateModel", name := "classMatch", desc := "(LWeaversgateModel$Spot;III)C" } : Jvm.MethodName)) ∈ lw_all := lw_g (lw_at lw_m9 169 rfl) rfl
theorem q2149 : (Jvm.Cond.privateMethod ({ cls := "WeaversgateModel", name := "classMatch", desc := "(LWeaversgateModel$Spot;III)C" } : Jvm.MethodName)) ∈ lw_tbl := lw_at lw_m9 170 rfl
theorem q2150 : (Jvm.Cond.instanceMethod ({ cls := "WeaversgateModel", name := "classMatch", desc := "(LWeaversgateModel$Spot;III)C" } : Jvm.MethodName)) ∈ lw_all := lw_g (lw_at lw_m9 171 rfl) rfl
theorem q2151 : (Jvm.Cond.code ({ cls := "WeaversgateModel", name := "classMatch", desc := "(LWeaversgateModel$Spot;III)C" } : Jvm.MethodName) prog_24_method_32_code (9 : Nat) (Option.some Jvm.ClassFile.FieldType.char)) ∈ lw_all := lw_g (lw_at lw_m9 172 rfl) rfl
theorem q2152 : (Jvm.Cond.methodLink "WeaversgateModel" (195 : Nat) ({ cls := "WeaversgateModel$Spot", name := "made", desc := "()I" } : Jvm.MethodName)) ∈ lw_all := lw_g (lw_at lw_m9 173 rfl) rfl
theorem q2156 : (Jvm.Cond.methodLink "WeaversgateModel" (198 : Nat) ({ cls := "WeaversgateModel", name := "isBelow", desc := "(II)Z" } : Jvm.MethodName)) ∈ lw_all := lw_g (lw_at lw_m9 177 rfl) rfl
theorem q2157 : (Jvm.Cond.privateMethod ({ cls := "WeaversgateModel", name := "isBelow", desc := "(II)Z" } : Jvm.MethodName)) ∈ lw_tbl := lw_at lw_m9 178 rfl
theorem q2158 : (Jvm.Cond.instanceMethod ({ cls := "WeaversgateModel", name := "isBelow", desc := "(II)Z" } : Jvm.MethodName)) ∈ lw_all := lw_g (lw_at lw_m9 179 rfl) rfl
theorem q2159 : (Jvm.Cond.code ({ cls := "WeaversgateModel", name := "isBelow", desc := "(II)Z" } : Jvm.MethodName) prog_24_method_16_code (4 : Nat) (Option.some Jvm.ClassFile.FieldType.boolean)) ∈ lw_all := lw_g (lw_at lw_m9 180 rfl) rfl
theorem q2160 : (Jvm.Cond.methodLink "WeaversgateModel" (224 : Nat) ({ cls := "WeaversgateModel", name := "turned", desc := "(C)C" } : Jvm.MethodName)) ∈ lw_all := lw_g (lw_at lw_m9 181 rfl) rfl
theorem q2161 : (Jvm.Cond.static ({ cls := "WeaversgateModel", name := "turned", desc := "(C)C" } : Jvm.MethodName)) ∈ lw_all := lw_g (lw_at lw_m9 182 rfl) rfl
theorem q2162 : (Jvm.Cond.code ({ cls := "WeaversgateModel", name := "turned", desc := "(C)C" } : Jvm.MethodName) prog_24_method_36_code (1 : Nat) (Option.some Jvm.ClassFile.FieldType.char)) ∈ lw_all := lw_g (lw_at lw_m9 183 rfl) rfl
theorem q2163 : (Jvm.Cond.methodLink "WeaversgateModel" (228 : Nat) ({ cls := "WeaversgateModel", name := "joined", desc := "(CCC)C" } : Jvm.MethodName)) ∈ lw_all := lw_g (lw_at lw_m9 184 rfl) rfl
theorem q2164 : (Jvm.Cond.static ({ cls := "WeaversgateModel", name := "joined", desc := "(CCC)C" } : Jvm.MethodName)) ∈ lw_all := lw_g (lw_at lw_m9 185 rfl) rfl
theorem q2165 : (Jvm.Cond.code ({ cls := "WeaversgateModel", name := "joined", desc := "(CCC)C" } : Jvm.MethodName) prog_24_method_37_code (4 : Nat) (Option.some Jvm.ClassFile.FieldType.char)) ∈ lw_all := lw_g (lw_at lw_m9 186 rfl) rfl
theorem q2167 : (Jvm.Cond.instanceMethod ({ cls := "WeaversgateModel", name := "residues", desc := "()I" } : Jvm.MethodName)) ∈ lw_all := lw_g (lw_at lw_m9 188 rfl) rfl
theorem q2168 : (Jvm.Cond.selects "WeaversgateModel" ({ cls := "WeaversgateModel", name := "residues", desc := "()I" } : Jvm.MethodName) ({ cls := "WeaversgateModel", name := "residues", desc := "()I" } : Jvm.MethodName)) ∈ lw_all := lw_g (lw_at lw_m9 189 rfl) rfl
theorem q2169 : (Jvm.Cond.code ({ cls := "WeaversgateModel", name := "residues", desc := "()I" } : Jvm.MethodName) prog_24_method_41_code (1 : Nat) (Option.some Jvm.ClassFile.FieldType.int)) ∈ lw_all := lw_g (lw_at lw_m9 190 rfl) rfl
theorem q2170 : (Jvm.Cond.methodLink "WeaversgateModel" (250 : Nat) ({ cls := "WeaversgateModel", name := "pairs", desc := "(C)I" } : Jvm.MethodName)) ∈ lw_all := lw_g (lw_at lw_m9 191 rfl) rfl
theorem q2171 : (Jvm.Cond.privateMethod ({ cls := "WeaversgateModel", name := "pairs", desc := "(C)I" } : Jvm.MethodName)) ∈ lw_tbl := lw_at lw_m9 192 rfl
theorem q2172 : (Jvm.Cond.instanceMethod ({ cls := "WeaversgateModel", name := "pairs", desc := "(C)I" } : Jvm.MethodName)) ∈ lw_all := lw_g (lw_at lw_m9 193 rfl) rfl
theorem q2173 : (Jvm.Cond.code ({ cls := "WeaversgateModel", name := "pairs", desc := "(C)I" } : Jvm.MethodName) prog_24_method_40_code (8 : Nat) (Option.some Jvm.ClassFile.FieldType.int)) ∈ lw_all := lw_g (lw_at lw_m9 194 rfl) rfl
theorem q2174 : (Jvm.Cond.methodLink "WeaversgateModel" (236 : Nat) ({ cls := "java/util/ArrayList", name := "iterator", desc := "()Ljava/util/Iterator;" } : Jvm.MethodName)) ∈ lw_all := lw_g (lw_at lw_m9 195 rfl) rfl
theorem q2197 : (Jvm.Cond.interfaceEntry "WeaversgateModel" (240 : Nat)) ∈ lw_tbl := lw_at lw_m9 218 rfl
theorem q2198 : (Jvm.Cond.methodLink "WeaversgateModel" (240 : Nat) ({ cls := "java/util/Iterator", name := "hasNext", desc := "()Z" } : Jvm.MethodName)) ∈ lw_all := lw_g (lw_at lw_m9 219 rfl) rfl
theorem q2207 : (Jvm.Cond.interfaceEntry "WeaversgateModel" (246 : Nat)) ∈ lw_tbl := lw_at lw_m9 228 rfl
theorem q2208 : (Jvm.Cond.methodLink "WeaversgateModel" (246 : Nat) ({ cls := "java/util/Iterator", name := "next", desc := "()Ljava/lang/Object;" } : Jvm.MethodName)) ∈ lw_all := lw_g (lw_at lw_m9 229 rfl) rfl
theorem q2222 : (Jvm.Cond.methodLink "WeaversgateModel" (254 : Nat) ({ cls := "WeaversgateModel", name := "plain", desc := "(I)I" } : Jvm.MethodName)) ∈ lw_all := lw_g (lw_at lw_m10 3 rfl) rfl
theorem q2223 : (Jvm.Cond.privateMethod ({ cls := "WeaversgateModel", name := "plain", desc := "(I)I" } : Jvm.MethodName)) ∈ lw_tbl := lw_at lw_m10 4 rfl
theorem q2224 : (Jvm.Cond.instanceMethod ({ cls := "WeaversgateModel", name := "plain", desc := "(I)I" } : Jvm.MethodName)) ∈ lw_all := lw_g (lw_at lw_m10 5 rfl) rfl
theorem q2225 : (Jvm.Cond.code ({ cls := "WeaversgateModel", name := "plain", desc := "(I)I" } : Jvm.MethodName) prog_24_method_4_code (2 : Nat) (Option.some Jvm.ClassFile.FieldType.int)) ∈ lw_all := lw_g (lw_at lw_m10 6 rfl) rfl
theorem q2227 : (Jvm.Cond.instanceMethod ({ cls := "WeaversgateModel", name := "woven", desc := "()I" } : Jvm.MethodName)) ∈ lw_all := lw_g (lw_at lw_m10 8 rfl) rfl
theorem q2228 : (Jvm.Cond.selects "WeaversgateModel" ({ cls := "WeaversgateModel", name := "woven", desc := "()I" } : Jvm.MethodName) ({ cls := "WeaversgateModel", name := "woven", desc := "()I" } : Jvm.MethodName)) ∈ lw_all := lw_g (lw_at lw_m10 9 rfl) rfl
theorem q2229 : (Jvm.Cond.code ({ cls := "WeaversgateModel", name := "woven", desc := "()I" } : Jvm.MethodName) prog_24_method_42_code (1 : Nat) (Option.some Jvm.ClassFile.FieldType.int)) ∈ lw_all := lw_g (lw_at lw_m10 10 rfl) rfl
theorem q2231 : (Jvm.Cond.instanceMethod ({ cls := "WeaversgateModel", name := "run", desc := "(III)C" } : Jvm.MethodName)) ∈ lw_all := lw_g (lw_at lw_m10 12 rfl) rfl
theorem q2232 : (Jvm.Cond.selects "WeaversgateModel" ({ cls := "WeaversgateModel", name := "run", desc := "(III)C" } : Jvm.MethodName) ({ cls := "WeaversgateModel", name := "run", desc := "(III)C" } : Jvm.MethodName)) ∈ lw_all := lw_g (lw_at lw_m10 13 rfl) rfl
theorem q2233 : (Jvm.Cond.code ({ cls := "WeaversgateModel", name := "run", desc := "(III)C" } : Jvm.MethodName) prog_24_method_44_code (4 : Nat) (Option.some Jvm.ClassFile.FieldType.char)) ∈ lw_all := lw_g (lw_at lw_m10 14 rfl) rfl
theorem q2234 : (Jvm.Cond.methodLink "WeaversgateModel" (271 : Nat) ({ cls := "WeaversgateModel", name := "ran", desc := "(ZIII)C" } : Jvm.MethodName)) ∈ lw_all := lw_g (lw_at lw_m10 15 rfl) rfl
theorem q2235 : (Jvm.Cond.privateMethod ({ cls := "WeaversgateModel", name := "ran", desc := "(ZIII)C" } : Jvm.MethodName)) ∈ lw_tbl := lw_at lw_m10 16 rfl
theorem q2236 : (Jvm.Cond.instanceMethod ({ cls := "WeaversgateModel", name := "ran", desc := "(ZIII)C" } : Jvm.MethodName)) ∈ lw_all := lw_g (lw_at lw_m10 17 rfl) rfl
theorem q2237 : (Jvm.Cond.code ({ cls := "WeaversgateModel", name := "ran", desc := "(ZIII)C" } : Jvm.MethodName) prog_24_method_43_code (5 : Nat) (Option.some Jvm.ClassFile.FieldType.char)) ∈ lw_all := lw_g (lw_at lw_m10 18 rfl) rfl
theorem q2238 : (Jvm.Cond.classLink "WeaversgateModel" (258 : Nat) "WeaversgateModel$Run") ∈ lw_all := lw_g (lw_at lw_m10 19 rfl) rfl
theorem q2240 : (Jvm.Cond.methodLink "WeaversgateModel" (260 : Nat) ({ cls := "WeaversgateModel$Run", name := "<init>", desc := "(LWeaversgateModel;Z)V" } : Jvm.MethodName)) ∈ lw_all := lw_g (lw_at lw_m10 21 rfl) rfl
theorem q2265 : (Jvm.Cond.methodLink "WeaversgateModel" (263 : Nat) ({ cls := "WeaversgateModel$Run", name := "runs", desc := "(III)LWeaversgateModel$Result;" } : Jvm.MethodName)) ∈ lw_all := lw_g (lw_at lw_m10 46 rfl) rfl
theorem q2477 : (Jvm.Cond.instanceMethod ({ cls := "WeaversgateModel", name := "runAsking", desc := "(III)C" } : Jvm.MethodName)) ∈ lw_all := lw_g (lw_at lw_m11 18 rfl) rfl
theorem q2478 : (Jvm.Cond.selects "WeaversgateModel" ({ cls := "WeaversgateModel", name := "runAsking", desc := "(III)C" } : Jvm.MethodName) ({ cls := "WeaversgateModel", name := "runAsking", desc := "(III)C" } : Jvm.MethodName)) ∈ lw_all := lw_g (lw_at lw_m11 19 rfl) rfl
theorem q2479 : (Jvm.Cond.code ({ cls := "WeaversgateModel", name := "runAsking", desc := "(III)C" } : Jvm.MethodName) prog_24_method_45_code (4 : Nat) (Option.some Jvm.ClassFile.FieldType.char)) ∈ lw_all := lw_g (lw_at lw_m11 20 rfl) rfl
theorem q2481 : (Jvm.Cond.instanceMethod ({ cls := "WeaversgateModel", name := "result", desc := "()I" } : Jvm.MethodName)) ∈ lw_all := lw_g (lw_at lw_m11 22 rfl) rfl
theorem q2482 : (Jvm.Cond.selects "WeaversgateModel" ({ cls := "WeaversgateModel", name := "result", desc := "()I" } : Jvm.MethodName) ({ cls := "WeaversgateModel", name := "result", desc := "()I" } : Jvm.MethodName)) ∈ lw_all := lw_g (lw_at lw_m11 23 rfl) rfl
theorem q2483 : (Jvm.Cond.code ({ cls := "WeaversgateModel", name := "result", desc := "()I" } : Jvm.MethodName) prog_24_method_46_code (1 : Nat) (Option.some Jvm.ClassFile.FieldType.int)) ∈ lw_all := lw_g (lw_at lw_m11 24 rfl) rfl
theorem q2485 : (Jvm.Cond.instanceMethod ({ cls := "WeaversgateModel", name := "points", desc := "()I" } : Jvm.MethodName)) ∈ lw_all := lw_g (lw_at lw_m11 26 rfl) rfl
theorem q2486 : (Jvm.Cond.selects "WeaversgateModel" ({ cls := "WeaversgateModel", name := "points", desc := "()I" } : Jvm.MethodName) ({ cls := "WeaversgateModel", name := "points", desc := "()I" } : Jvm.MethodName)) ∈ lw_all := lw_g (lw_at lw_m11 27 rfl) rfl
theorem q2487 : (Jvm.Cond.code ({ cls := "WeaversgateModel", name := "points", desc := "()I" } : Jvm.MethodName) prog_24_method_47_code (1 : Nat) (Option.some Jvm.ClassFile.FieldType.int)) ∈ lw_all := lw_g (lw_at lw_m11 28 rfl) rfl
theorem q2489 : (Jvm.Cond.instanceMethod ({ cls := "WeaversgateModel", name := "asked", desc := "()I" } : Jvm.MethodName)) ∈ lw_all := lw_g (lw_at lw_m11 30 rfl) rfl
theorem q2490 : (Jvm.Cond.selects "WeaversgateModel" ({ cls := "WeaversgateModel", name := "asked", desc := "()I" } : Jvm.MethodName) ({ cls := "WeaversgateModel", name := "asked", desc := "()I" } : Jvm.MethodName)) ∈ lw_all := lw_g (lw_at lw_m11 31 rfl) rfl
theorem q2491 : (Jvm.Cond.code ({ cls := "WeaversgateModel", name := "asked", desc := "()I" } : Jvm.MethodName) prog_24_method_48_code (1 : Nat) (Option.some Jvm.ClassFile.FieldType.int)) ∈ lw_all := lw_g (lw_at lw_m11 32 rfl) rfl
theorem q2493 : (Jvm.Cond.instanceMethod ({ cls := "WeaversgateModel", name := "traceLength", desc := "()I" } : Jvm.MethodName)) ∈ lw_all := lw_g (lw_at lw_m11 34 rfl) rfl
theorem q2494 : (Jvm.Cond.selects "WeaversgateModel" ({ cls := "WeaversgateModel", name := "traceLength", desc := "()I" } : Jvm.MethodName) ({ cls := "WeaversgateModel", name := "traceLength", desc := "()I" } : Jvm.MethodName)) ∈ lw_all := lw_g (lw_at lw_m11 35 rfl) rfl
theorem q2495 : (Jvm.Cond.code ({ cls := "WeaversgateModel", name := "traceLength", desc := "()I" } : Jvm.MethodName) prog_24_method_49_code (1 : Nat) (Option.some Jvm.ClassFile.FieldType.int)) ∈ lw_all := lw_g (lw_at lw_m11 36 rfl) rfl
theorem q2497 : (Jvm.Cond.instanceMethod ({ cls := "WeaversgateModel", name := "traceKind", desc := "(I)C" } : Jvm.MethodName)) ∈ lw_all := lw_g (lw_at lw_m11 38 rfl) rfl
theorem q2498 : (Jvm.Cond.selects "WeaversgateModel" ({ cls := "WeaversgateModel", name := "traceKind", desc := "(I)C" } : Jvm.MethodName) ({ cls := "WeaversgateModel", name := "traceKind", desc := "(I)C" } : Jvm.MethodName)) ∈ lw_all := lw_g (lw_at lw_m11 39 rfl) rfl
theorem q2499 : (Jvm.Cond.code ({ cls := "WeaversgateModel", name := "traceKind", desc := "(I)C" } : Jvm.MethodName) prog_24_method_51_code (2 : Nat) (Option.some Jvm.ClassFile.FieldType.char)) ∈ lw_all := lw_g (lw_at lw_m11 40 rfl) rfl
theorem q2500 : (Jvm.Cond.methodLink "WeaversgateModel" (288 : Nat) ({ cls := "WeaversgateModel", name := "wrongIndex", desc := "(I)I" } : Jvm.MethodName)) ∈ lw_all := lw_g (lw_at lw_m11 41 rfl) rfl
theorem q2501 : (Jvm.Cond.privateMethod ({ cls := "WeaversgateModel", name := "wrongIndex", desc := "(I)I" } : Jvm.MethodName)) ∈ lw_tbl := lw_at lw_m11 42 rfl
theorem q2502 : (Jvm.Cond.instanceMethod ({ cls := "WeaversgateModel", name := "wrongIndex", desc := "(I)I" } : Jvm.MethodName)) ∈ lw_all := lw_g (lw_at lw_m11 43 rfl) rfl
theorem q2503 : (Jvm.Cond.code ({ cls := "WeaversgateModel", name := "wrongIndex", desc := "(I)I" } : Jvm.MethodName) prog_24_method_50_code (2 : Nat) (Option.some Jvm.ClassFile.FieldType.int)) ∈ lw_all := lw_g (lw_at lw_m11 44 rfl) rfl
theorem q2504 : (Jvm.Cond.classLink "WeaversgateModel" (291 : Nat) "WeaversgateModel$Act") ∈ lw_all := lw_g (lw_at lw_m11 45 rfl) rfl
theorem q2505 : (Jvm.Cond.methodLink "WeaversgateModel" (293 : Nat) ({ cls := "WeaversgateModel$Act", name := "kind", desc := "()C" } : Jvm.MethodName)) ∈ lw_all := lw_g (lw_at lw_m11 46 rfl) rfl
theorem q2510 : (Jvm.Cond.instanceMethod ({ cls := "WeaversgateModel", name := "traceValue", desc := "(I)I" } : Jvm.MethodName)) ∈ lw_all := lw_g (lw_at lw_m11 51 rfl) rfl
theorem q2511 : (Jvm.Cond.selects "WeaversgateModel" ({ cls := "WeaversgateModel", name := "traceValue", desc := "(I)I" } : Jvm.MethodName) ({ cls := "WeaversgateModel", name := "traceValue", desc := "(I)I" } : Jvm.MethodName)) ∈ lw_all := lw_g (lw_at lw_m11 52 rfl) rfl
theorem q2512 : (Jvm.Cond.code ({ cls := "WeaversgateModel", name := "traceValue", desc := "(I)I" } : Jvm.MethodName) prog_24_method_52_code (2 : Nat) (Option.some Jvm.ClassFile.FieldType.int)) ∈ lw_all := lw_g (lw_at lw_m11 53 rfl) rfl
theorem q2513 : (Jvm.Cond.methodLink "WeaversgateModel" (294 : Nat) ({ cls := "WeaversgateModel$Act", name := "number", desc := "()I" } : Jvm.MethodName)) ∈ lw_all := lw_g (lw_at lw_m11 54 rfl) rfl
theorem q2518 : (Jvm.Cond.instanceMethod ({ cls := "WeaversgateModel", name := "traceAdvice", desc := "(I)I" } : Jvm.MethodName)) ∈ lw_all := lw_g (lw_at lw_m11 59 rfl) rfl
theorem q2519 : (Jvm.Cond.selects "WeaversgateModel" ({ cls := "WeaversgateModel", name := "traceAdvice", desc := "(I)I" } : Jvm.MethodName) ({ cls := "WeaversgateModel", name := "traceAdvice", desc := "(I)I" } : Jvm.MethodName)) ∈ lw_all := lw_g (lw_at lw_m11 60 rfl) rfl
theorem q2520 : (Jvm.Cond.code ({ cls := "WeaversgateModel", name := "traceAdvice", desc := "(I)I" } : Jvm.MethodName) prog_24_method_53_code (2 : Nat) (Option.some Jvm.ClassFile.FieldType.int)) ∈ lw_all := lw_g (lw_at lw_m11 61 rfl) rfl
theorem q2521 : (Jvm.Cond.methodLink "WeaversgateModel" (296 : Nat) ({ cls := "WeaversgateModel$Act", name := "advice", desc := "()I" } : Jvm.MethodName)) ∈ lw_all := lw_g (lw_at lw_m11 62 rfl) rfl
theorem q2526 : (Jvm.Cond.instanceMethod ({ cls := "WeaversgateModel", name := "traceSum", desc := "()J" } : Jvm.MethodName)) ∈ lw_all := lw_g (lw_at lw_m11 67 rfl) rfl
theorem q2527 : (Jvm.Cond.selects "WeaversgateModel" ({ cls := "WeaversgateModel", name := "traceSum", desc := "()J" } : Jvm.MethodName) ({ cls := "WeaversgateModel", name := "traceSum", desc := "()J" } : Jvm.MethodName)) ∈ lw_all := lw_g (lw_at lw_m11 68 rfl) rfl
theorem q2528 : (Jvm.Cond.code ({ cls := "WeaversgateModel", name := "traceSum", desc := "()J" } : Jvm.MethodName) prog_24_method_54_code (4 : Nat) (Option.some Jvm.ClassFile.FieldType.long)) ∈ lw_all := lw_g (lw_at lw_m11 69 rfl) rfl
theorem q2529 : (Jvm.Cond.constantLong "WeaversgateModel" (299 : Nat) (131 : Int64)) ∈ lw_all := lw_g (lw_at lw_m11 70 rfl) rfl
theorem q2531 : (Jvm.Cond.instanceMethod ({ cls := "WeaversgateModel", name := "acted", desc := "(C)I" } : Jvm.MethodName)) ∈ lw_all := lw_g (lw_at lw_m11 72 rfl) rfl
theorem q2532 : (Jvm.Cond.selects "WeaversgateModel" ({ cls := "WeaversgateModel", name := "acted", desc := "(C)I" } : Jvm.MethodName) ({ cls := "WeaversgateModel", name := "acted", desc := "(C)I" } : Jvm.MethodName)) ∈ lw_all := lw_g (lw_at lw_m11 73 rfl) rfl
theorem q2533 : (Jvm.Cond.code ({ cls := "WeaversgateModel", name := "acted", desc := "(C)I" } : Jvm.MethodName) prog_24_method_55_code (5 : Nat) (Option.some Jvm.ClassFile.FieldType.int)) ∈ lw_all := lw_g (lw_at lw_m11 74 rfl) rfl
theorem q2535 : (Jvm.Cond.instanceMethod ({ cls := "WeaversgateModel", name := "sureShare", desc := "()F" } : Jvm.MethodName)) ∈ lw_all := lw_g (lw_at lw_m11 76 rfl) rfl
theorem q2536 : (Jvm.Cond.selects "WeaversgateModel" ({ cls := "WeaversgateModel", name := "sureShare", desc := "()F" } : Jvm.MethodName) ({ cls := "WeaversgateModel", name := "sureShare", desc := "()F" } : Jvm.MethodName)) ∈ lw_all := lw_g (lw_at lw_m11 77 rfl) rfl
theorem q2537 : (Jvm.Cond.code ({ cls := "WeaversgateModel", name := "sureShare", desc := "()F" } : Jvm.MethodName) prog_24_method_56_code (2 : Nat) (Option.some Jvm.ClassFile.FieldType.float)) ∈ lw_all := lw_g (lw_at lw_m11 78 rfl) rfl
theorem q2539 : (Jvm.Cond.instanceMethod ({ cls := "WeaversgateModel", name := "meanSteps", desc := "()D" } : Jvm.MethodName)) ∈ lw_all := lw_g (lw_at lw_m11 80 rfl) rfl
theorem q2540 : (Jvm.Cond.selects "WeaversgateModel" ({ cls := "WeaversgateModel", name := "meanSteps", desc := "()D" } : Jvm.MethodName) ({ cls := "WeaversgateModel", name := "meanSteps", desc := "()D" } : Jvm.MethodName)) ∈ lw_all := lw_g (lw_at lw_m11 81 rfl) rfl
theorem q2541 : (Jvm.Cond.code ({ cls := "WeaversgateModel", name := "meanSteps", desc := "()D" } : Jvm.MethodName) prog_24_method_57_code (7 : Nat) (Option.some Jvm.ClassFile.FieldType.double)) ∈ lw_all := lw_g (lw_at lw_m11 82 rfl) rfl
theorem q2543 : (Jvm.Cond.instanceMethod ({ cls := "WeaversgateModel", name := "isSound", desc := "()Z" } : Jvm.MethodName)) ∈ lw_all := lw_g (lw_at lw_m11 84 rfl) rfl
theorem q2544 : (Jvm.Cond.selects "WeaversgateModel" ({ cls := "WeaversgateModel", name := "isSound", desc := "()Z" } : Jvm.MethodName) ({ cls := "WeaversgateModel", name := "isSound", desc := "()Z" } : Jvm.MethodName)) ∈ lw_all := lw_g (lw_at lw_m11 85 rfl) rfl
theorem q2545 : (Jvm.Cond.code ({ cls := "WeaversgateModel", name := "isSound", desc := "()Z" } : Jvm.MethodName) prog_24_method_59_code (3 : Nat) (Option.some Jvm.ClassFile.FieldType.boolean)) ∈ lw_all := lw_g (lw_at lw_m11 86 rfl) rfl
theorem q2546 : (Jvm.Cond.methodLink "WeaversgateModel" (301 : Nat) ({ cls := "WeaversgateModel", name := "lowest", desc := "()I" } : Jvm.MethodName)) ∈ lw_all := lw_g (lw_at lw_m11 87 rfl) rfl
theorem q2547 : (Jvm.Cond.privateMethod ({ cls := "WeaversgateModel", name := "lowest", desc := "()I" } : Jvm.MethodName)) ∈ lw_tbl := lw_at lw_m11 88 rfl
theorem q2548 : (Jvm.Cond.instanceMethod ({ cls := "WeaversgateModel", name := "lowest", desc := "()I" } : Jvm.MethodName)) ∈ lw_all := lw_g (lw_at lw_m11 89 rfl) rfl
theorem q2549 : (Jvm.Cond.code ({ cls := "WeaversgateModel", name := "lowest", desc := "()I" } : Jvm.MethodName) prog_24_method_58_code (2 : Nat) (Option.some Jvm.ClassFile.FieldType.int)) ∈ lw_all := lw_g (lw_at lw_m11 90 rfl) rfl
theorem q2550 : (Jvm.Cond.methodLink "WeaversgateModel" (304 : Nat) ({ cls := "java/util/ArrayList", name := "equals", desc := "(Ljava/lang/Object;)Z" } : Jvm.MethodName)) ∈ lw_all := lw_g (lw_at lw_m11 91 rfl) rfl
theorem q2606 : (Jvm.Cond.castable "WeaversgateModel" "java/lang/Object") ∈ lw_tbl := lw_at lw_m11 147 rfl
theorem in_X4 : ∀ w ∈ wsX40, w ∈ lw_all := lw_in wsX40 [1828, 1830, 1832, 1834, 1836, 1838, 1840, 1842, 1844, 1846, 1848, 1850, 1852, 1854, 1856, 1858, 1860] (by decide +kernel) (by decide +kernel)

/-! WeaversgateModel$Run -/
set_option maxRecDepth 100000
def RX26 : String := "WeaversgateModel$Run"
def TX26 : u_T := fun k => match k with
  | 0 => ("WeaversgateModel$Run", "result", "LWeaversgateModel$Result;", true)
  | 1 => ("WeaversgateModel$Run", "open", "Ljava/util/ArrayList;", true)
  | 2 => ("WeaversgateModel$Run", "order", "Ljava/util/ArrayList;", true)
  | 3 => ("WeaversgateModel$Run", "isWoven", "Z", true)
  | _ => ("WeaversgateModel$Run", "this$0", "LWeaversgateModel;", true)
def tyX26 : Nat → FieldType := fun k => match k with
  | 0 => .object "WeaversgateModel$Result"
  | 1 => .object "java/util/ArrayList"
  | 2 => .object "java/util/ArrayList"
  | 3 => .boolean
  | _ => .object "WeaversgateModel"
abbrev wsX260 : List Cond := u_ws RX26 TX26 5
theorem nmX26 : ∀ a, a < 5 → ∀ b, b < 5 → a ≠ b → (TX26 a).2.1 ≠ (TX26 b).2.1 := by decide +kernel
theorem tyX26_ok : ∀ k, k < 5 → parseFieldDescriptor (TX26 k).2.2.1 = some (tyX26 k) := by decide +kernel
abbrev cX26_init : ByteArray := prog_31_method_1_code
def yX26_init : MethodName := ⟨RX26, "<init>", "(LWeaversgateModel;Z)V"⟩
def dkwX26_init_1 : List UInt8 := [89, 183, 0, 24, 181, 0, 25, 42, 42, 180, 0, 3, 182, 0, 29, 181, 0, 33, 42, 28, 181, 0, 35, 177]
abbrev dktX26_init_1 : List UInt8 := dkwX26_init_1 ++ []
def dkwX26_init_0 : List UInt8 := [42, 43, 181, 0, 3, 42, 183, 0, 9, 42, 187, 0, 15, 89, 183, 0, 17, 181, 0, 18, 42, 187, 0, 22]
abbrev dktX26_init_0 : List UInt8 := dkwX26_init_0 ++ dktX26_init_1
theorem dksX26_init_0 : cX26_init.data.toList.drop 0 = dktX26_init_0 := by decide +kernel
theorem dksX26_init_1 : cX26_init.data.toList.drop 24 = dktX26_init_1 := dk_seg dksX26_init_0 24 rfl rfl
theorem dX26_init_0 : decode cX26_init 0 = .ok (.aload_n 0, 1) := dk_42 (dk_at dksX26_init_0 0 rfl rfl)
theorem dX26_init_1 : decode cX26_init 1 = .ok (.aload_n 1, 1) := dk_43 (dk_at dksX26_init_0 1 rfl rfl)
theorem dX26_init_2 : decode cX26_init 2 = .ok (.putfield 3, 3) := dk_181 0 3 (dk_at dksX26_init_0 2 rfl rfl)
theorem dX26_init_5 : decode cX26_init 5 = .ok (.aload_n 0, 1) := dk_42 (dk_at dksX26_init_0 5 rfl rfl)
theorem dX26_init_6 : decode cX26_init 6 = .ok (.invokespecial 9, 3) := dk_183 0 9 (dk_at dksX26_init_0 6 rfl rfl)
theorem dX26_init_9 : decode cX26_init 9 = .ok (.aload_n 0, 1) := dk_42 (dk_at dksX26_init_0 9 rfl rfl)
theorem dX26_init_10 : decode cX26_init 10 = .ok (.new 15, 3) := dk_187 0 15 (dk_at dksX26_init_0 10 rfl rfl)
theorem dX26_init_13 : decode cX26_init 13 = .ok (.dup, 1) := dk_89 (dk_at dksX26_init_0 13 rfl rfl)
theorem dX26_init_14 : decode cX26_init 14 = .ok (.invokespecial 17, 3) := dk_183 0 17 (dk_at dksX26_init_0 14 rfl rfl)
theorem dX26_init_17 : decode cX26_init 17 = .ok (.putfield 18, 3) := dk_181 0 18 (dk_at dksX26_init_0 17 rfl rfl)
theorem dX26_init_20 : decode cX26_init 20 = .ok (.aload_n 0, 1) := dk_42 (dk_at dksX26_init_0 20 rfl rfl)
theorem dX26_init_21 : decode cX26_init 21 = .ok (.new 22, 3) := dk_187 0 22 (dk_at dksX26_init_0 21 rfl rfl)
theorem dX26_init_24 : decode cX26_init 24 = .ok (.dup, 1) := dk_89 (dk_at dksX26_init_1 0 rfl rfl)
theorem dX26_init_25 : decode cX26_init 25 = .ok (.invokespecial 24, 3) := dk_183 0 24 (dk_at dksX26_init_1 1 rfl rfl)
theorem dX26_init_28 : decode cX26_init 28 = .ok (.putfield 25, 3) := dk_181 0 25 (dk_at dksX26_init_1 4 rfl rfl)
theorem dX26_init_31 : decode cX26_init 31 = .ok (.aload_n 0, 1) := dk_42 (dk_at dksX26_init_1 7 rfl rfl)
theorem dX26_init_32 : decode cX26_init 32 = .ok (.aload_n 0, 1) := dk_42 (dk_at dksX26_init_1 8 rfl rfl)
theorem dX26_init_33 : decode cX26_init 33 = .ok (.getfield 3, 3) := dk_180 0 3 (dk_at dksX26_init_1 9 rfl rfl)
theorem dX26_init_36 : decode cX26_init 36 = .ok (.invokevirtual 29, 3) := dk_182 0 29 (dk_at dksX26_init_1 12 rfl rfl)
theorem dX26_init_39 : decode cX26_init 39 = .ok (.putfield 33, 3) := dk_181 0 33 (dk_at dksX26_init_1 15 rfl rfl)
theorem dX26_init_42 : decode cX26_init 42 = .ok (.aload_n 0, 1) := dk_42 (dk_at dksX26_init_1 18 rfl rfl)
theorem dX26_init_43 : decode cX26_init 43 = .ok (.iload_n 2, 1) := dk_28 (dk_at dksX26_init_1 19 rfl rfl)
theorem dX26_init_44 : decode cX26_init 44 = .ok (.putfield 35, 3) := dk_181 0 35 (dk_at dksX26_init_1 20 rfl rfl)
theorem dX26_init_47 : decode cX26_init 47 = .ok (.return_, 1) := dk_177 (dk_at dksX26_init_1 23 rfl rfl)
abbrev cX26_runs : ByteArray := prog_31_method_16_code
def yX26_runs : MethodName := ⟨RX26, "runs", "(III)LWeaversgateModel$Result;"⟩
def dkwX26_runs_3 : List UInt8 := [16, 108, 181, 1, 9, 42, 180, 0, 18, 176]
abbrev dktX26_runs_3 : List UInt8 := dkwX26_runs_3 ++ []
def dkwX26_runs_2 : List UInt8 := [180, 0, 207, 181, 1, 8, 42, 180, 0, 18, 16, 120, 181, 1, 9, 167, 0, 14, 58, 4, 42, 180, 0, 18]
abbrev dktX26_runs_2 : List UInt8 := dkwX26_runs_2 ++ dktX26_runs_3
def dkwX26_runs_1 : List UInt8 := [181, 1, 8, 42, 180, 0, 18, 16, 114, 181, 1, 9, 167, 0, 40, 58, 4, 42, 180, 0, 18, 25, 4]
abbrev dktX26_runs_1 : List UInt8 := dkwX26_runs_1 ++ dktX26_runs_2
def dkwX26_runs_0 : List UInt8 := [42, 180, 0, 18, 42, 16, 99, 28, 187, 0, 157, 89, 27, 183, 1, 7, 2, 2, 2, 29, 182, 0, 226]
abbrev dktX26_runs_0 : List UInt8 := dkwX26_runs_0 ++ dktX26_runs_1
theorem dksX26_runs_0 : cX26_runs.data.toList.drop 0 = dktX26_runs_0 := by decide +kernel
theorem dksX26_runs_1 : cX26_runs.data.toList.drop 23 = dktX26_runs_1 := dk_seg dksX26_runs_0 23 rfl rfl
theorem dksX26_runs_2 : cX26_runs.data.toList.drop 46 = dktX26_runs_2 := dk_seg dksX26_runs_1 23 rfl rfl
theorem dksX26_runs_3 : cX26_runs.data.toList.drop 70 = dktX26_runs_3 := dk_seg dksX26_runs_2 24 rfl rfl
theorem dX26_runs_0 : decode cX26_runs 0 = .ok (.aload_n 0, 1) := dk_42 (dk_at dksX26_runs_0 0 rfl rfl)
theorem dX26_runs_1 : decode cX26_runs 1 = .ok (.getfield 18, 3) := dk_180 0 18 (dk_at dksX26_runs_0 1 rfl rfl)
theorem dX26_runs_4 : decode cX26_runs 4 = .ok (.aload_n 0, 1) := dk_42 (dk_at dksX26_runs_0 4 rfl rfl)
theorem dX26_runs_5 : decode cX26_runs 5 = .ok (.bipush 99, 2) := dk_16 99 (dk_at dksX26_runs_0 5 rfl rfl)
theorem dX26_runs_7 : decode cX26_runs 7 = .ok (.iload_n 2, 1) := dk_28 (dk_at dksX26_runs_0 7 rfl rfl)
theorem dX26_runs_8 : decode cX26_runs 8 = .ok (.new 157, 3) := dk_187 0 157 (dk_at dksX26_runs_0 8 rfl rfl)
theorem dX26_runs_11 : decode cX26_runs 11 = .ok (.dup, 1) := dk_89 (dk_at dksX26_runs_0 11 rfl rfl)
theorem dX26_runs_12 : decode cX26_runs 12 = .ok (.iload_n 1, 1) := dk_27 (dk_at dksX26_runs_0 12 rfl rfl)
theorem dX26_runs_13 : decode cX26_runs 13 = .ok (.invokespecial 263, 3) := dk_183 1 7 (dk_at dksX26_runs_0 13 rfl rfl)
theorem dX26_runs_16 : decode cX26_runs 16 = .ok (.iconst (-1), 1) := dk_2 (dk_at dksX26_runs_0 16 rfl rfl)
theorem dX26_runs_17 : decode cX26_runs 17 = .ok (.iconst (-1), 1) := dk_2 (dk_at dksX26_runs_0 17 rfl rfl)
theorem dX26_runs_18 : decode cX26_runs 18 = .ok (.iconst (-1), 1) := dk_2 (dk_at dksX26_runs_0 18 rfl rfl)
theorem dX26_runs_19 : decode cX26_runs 19 = .ok (.iload_n 3, 1) := dk_29 (dk_at dksX26_runs_0 19 rfl rfl)
theorem dX26_runs_20 : decode cX26_runs 20 = .ok (.invokevirtual 226, 3) := dk_182 0 226 (dk_at dksX26_runs_0 20 rfl rfl)
theorem dX26_runs_23 : decode cX26_runs 23 = .ok (.putfield 264, 3) := dk_181 1 8 (dk_at dksX26_runs_1 0 rfl rfl)
theorem dX26_runs_26 : decode cX26_runs 26 = .ok (.aload_n 0, 1) := dk_42 (dk_at dksX26_runs_1 3 rfl rfl)
theorem dX26_runs_27 : decode cX26_runs 27 = .ok (.getfield 18, 3) := dk_180 0 18 (dk_at dksX26_runs_1 4 rfl rfl)
theorem dX26_runs_30 : decode cX26_runs 30 = .ok (.bipush 114, 2) := dk_16 114 (dk_at dksX26_runs_1 7 rfl rfl)
theorem dX26_runs_32 : decode cX26_runs 32 = .ok (.putfield 265, 3) := dk_181 1 9 (dk_at dksX26_runs_1 9 rfl rfl)
theorem dX26_runs_35 : decode cX26_runs 35 = .ok (.goto 40, 3) := dk_167 0 40 (dk_at dksX26_runs_1 12 rfl rfl)
theorem dX26_runs_38 : decode cX26_runs 38 = .ok (.astore 4, 2) := dk_58 4 (dk_at dksX26_runs_1 15 rfl rfl)
theorem dX26_runs_40 : decode cX26_runs 40 = .ok (.aload_n 0, 1) := dk_42 (dk_at dksX26_runs_1 17 rfl rfl)
theorem dX26_runs_41 : decode cX26_runs 41 = .ok (.getfield 18, 3) := dk_180 0 18 (dk_at dksX26_runs_1 18 rfl rfl)
theorem dX26_runs_44 : decode cX26_runs 44 = .ok (.aload 4, 2) := dk_25 4 (dk_at dksX26_runs_1 21 rfl rfl)
theorem dX26_runs_46 : decode cX26_runs 46 = .ok (.getfield 207, 3) := dk_180 0 207 (dk_at dksX26_runs_2 0 rfl rfl)
theorem dX26_runs_49 : decode cX26_runs 49 = .ok (.putfield 264, 3) := dk_181 1 8 (dk_at dksX26_runs_2 3 rfl rfl)
theorem dX26_runs_52 : decode cX26_runs 52 = .ok (.aload_n 0, 1) := dk_42 (dk_at dksX26_runs_2 6 rfl rfl)
theorem dX26_runs_53 : decode cX26_runs 53 = .ok (.getfield 18, 3) := dk_180 0 18 (dk_at dksX26_runs_2 7 rfl rfl)
theorem dX26_runs_56 : decode cX26_runs 56 = .ok (.bipush 120, 2) := dk_16 120 (dk_at dksX26_runs_2 10 rfl rfl)
theorem dX26_runs_58 : decode cX26_runs 58 = .ok (.putfield 265, 3) := dk_181 1 9 (dk_at dksX26_runs_2 12 rfl rfl)
theorem dX26_runs_61 : decode cX26_runs 61 = .ok (.goto 14, 3) := dk_167 0 14 (dk_at dksX26_runs_2 15 rfl rfl)
theorem dX26_runs_64 : decode cX26_runs 64 = .ok (.astore 4, 2) := dk_58 4 (dk_at dksX26_runs_2 18 rfl rfl)
theorem dX26_runs_66 : decode cX26_runs 66 = .ok (.aload_n 0, 1) := dk_42 (dk_at dksX26_runs_2 20 rfl rfl)
theorem dX26_runs_67 : decode cX26_runs 67 = .ok (.getfield 18, 3) := dk_180 0 18 (dk_at dksX26_runs_2 21 rfl rfl)
theorem dX26_runs_70 : decode cX26_runs 70 = .ok (.bipush 108, 2) := dk_16 108 (dk_at dksX26_runs_3 0 rfl rfl)
theorem dX26_runs_72 : decode cX26_runs 72 = .ok (.putfield 265, 3) := dk_181 1 9 (dk_at dksX26_runs_3 2 rfl rfl)
theorem dX26_runs_75 : decode cX26_runs 75 = .ok (.aload_n 0, 1) := dk_42 (dk_at dksX26_runs_3 5 rfl rfl)
theorem dX26_runs_76 : decode cX26_runs 76 = .ok (.getfield 18, 3) := dk_180 0 18 (dk_at dksX26_runs_3 6 rfl rfl)
theorem dX26_runs_79 : decode cX26_runs 79 = .ok (.areturn, 1) := dk_176 (dk_at dksX26_runs_3 9 rfl rfl)
abbrev cX26_point : ByteArray := prog_31_method_8_code
def yX26_point : MethodName := ⟨RX26, "point", "(CILWeaversgateModel$Thing;IIII)I"⟩
def dkwX26_point_8 : List UInt8 := [182, 0, 176, 87, 25, 11, 191]
abbrev dktX26_point_8 : List UInt8 := dkwX26_point_8 ++ []
def dkwX26_point_7 : List UInt8 := [4, 100, 182, 0, 176, 87, 21, 10, 172, 58, 11, 42, 180, 0, 25, 42, 180, 0, 25, 182, 0, 147, 4, 100]
abbrev dktX26_point_7 : List UInt8 := dkwX26_point_7 ++ dktX26_point_8
def dkwX26_point_6 : List UInt8 := [25, 9, 182, 0, 168, 3, 21, 7, 182, 0, 172, 54, 10, 42, 180, 0, 25, 42, 180, 0, 25, 182, 0, 147]
abbrev dktX26_point_6 : List UInt8 := dkwX26_point_6 ++ dktX26_point_7
def dkwX26_point_5 : List UInt8 := [21, 7, 21, 8, 183, 0, 165, 58, 9, 42, 180, 0, 25, 25, 9, 182, 0, 140, 87, 42, 25, 9, 45, 42]
abbrev dktX26_point_5 : List UInt8 := dkwX26_point_5 ++ dktX26_point_6
def dkwX26_point_4 : List UInt8 := [54, 8, 132, 9, 1, 167, 255, 207, 187, 0, 75, 89, 27, 28, 45, 180, 0, 156, 21, 4, 21, 5, 21, 6]
abbrev dktX26_point_4 : List UInt8 := dkwX26_point_4 ++ dktX26_point_5
def dkwX26_point_3 : List UInt8 := [45, 180, 0, 156, 21, 4, 21, 7, 182, 0, 161, 153, 0, 10, 4, 21, 9, 120, 167, 0, 4, 3, 128]
abbrev dktX26_point_3 : List UInt8 := dkwX26_point_3 ++ dktX26_point_4
def dkwX26_point_2 : List UInt8 := [3, 54, 9, 21, 9, 42, 180, 0, 3, 180, 0, 153, 162, 0, 43, 21, 8, 42, 21, 9, 21, 8, 27, 28]
abbrev dktX26_point_2 : List UInt8 := dkwX26_point_2 ++ dktX26_point_3
def dkwX26_point_1 : List UInt8 := [187, 0, 150, 89, 183, 0, 152, 191, 42, 180, 0, 18, 89, 180, 0, 144, 4, 96, 181, 0, 144, 3, 54, 8]
abbrev dktX26_point_1 : List UInt8 := dkwX26_point_1 ++ dktX26_point_2
def dkwX26_point_0 : List UInt8 := [42, 180, 0, 18, 180, 0, 144, 16, 120, 159, 0, 15, 42, 180, 0, 25, 182, 0, 147, 16, 20, 160, 0, 11]
abbrev dktX26_point_0 : List UInt8 := dkwX26_point_0 ++ dktX26_point_1
theorem dksX26_point_0 : cX26_point.data.toList.drop 0 = dktX26_point_0 := by decide +kernel
theorem dksX26_point_1 : cX26_point.data.toList.drop 24 = dktX26_point_1 := dk_seg dksX26_point_0 24 rfl rfl
theorem dksX26_point_2 : cX26_point.data.toList.drop 48 = dktX26_point_2 := dk_seg dksX26_point_1 24 rfl rfl
theorem dksX26_point_3 : cX26_point.data.toList.drop 72 = dktX26_point_3 := dk_seg dksX26_point_2 24 rfl rfl
theorem dksX26_point_4 : cX26_point.data.toList.drop 95 = dktX26_point_4 := dk_seg dksX26_point_3 23 rfl rfl
theorem dksX26_point_5 : cX26_point.data.toList.drop 119 = dktX26_point_5 := dk_seg dksX26_point_4 24 rfl rfl
theorem dksX26_point_6 : cX26_point.data.toList.drop 143 = dktX26_point_6 := dk_seg dksX26_point_5 24 rfl rfl
theorem dksX26_point_7 : cX26_point.data.toList.drop 167 = dktX26_point_7 := dk_seg dksX26_point_6 24 rfl rfl
theorem dksX26_point_8 : cX26_point.data.toList.drop 191 = dktX26_point_8 := dk_seg dksX26_point_7 24 rfl rfl
theorem dX26_point_0 : decode cX26_point 0 = .ok (.aload_n 0, 1) := dk_42 (dk_at dksX26_point_0 0 rfl rfl)
theorem dX26_point_1 : decode cX26_point 1 = .ok (.getfield 18, 3) := dk_180 0 18 (dk_at dksX26_point_0 1 rfl rfl)
theorem dX26_point_4 : decode cX26_point 4 = .ok (.getfield 144, 3) := dk_180 0 144 (dk_at dksX26_point_0 4 rfl rfl)
theorem dX26_point_7 : decode cX26_point 7 = .ok (.bipush 120, 2) := dk_16 120 (dk_at dksX26_point_0 7 rfl rfl)
theorem dX26_point_9 : decode cX26_point 9 = .ok (.if_icmp .eq 15, 3) := dk_159 0 15 (dk_at dksX26_point_0 9 rfl rfl)
theorem dX26_point_12 : decode cX26_point 12 = .ok (.aload_n 0, 1) := dk_42 (dk_at dksX26_point_0 12 rfl rfl)
theorem dX26_point_13 : decode cX26_point 13 = .ok (.getfield 25, 3) := dk_180 0 25 (dk_at dksX26_point_0 13 rfl rfl)
theorem dX26_point_16 : decode cX26_point 16 = .ok (.invokevirtual 147, 3) := dk_182 0 147 (dk_at dksX26_point_0 16 rfl rfl)
theorem dX26_point_19 : decode cX26_point 19 = .ok (.bipush 20, 2) := dk_16 20 (dk_at dksX26_point_0 19 rfl rfl)
theorem dX26_point_21 : decode cX26_point 21 = .ok (.if_icmp .ne 11, 3) := dk_160 0 11 (dk_at dksX26_point_0 21 rfl rfl)
theorem dX26_point_24 : decode cX26_point 24 = .ok (.new 150, 3) := dk_187 0 150 (dk_at dksX26_point_1 0 rfl rfl)
theorem dX26_point_27 : decode cX26_point 27 = .ok (.dup, 1) := dk_89 (dk_at dksX26_point_1 3 rfl rfl)
theorem dX26_point_28 : decode cX26_point 28 = .ok (.invokespecial 152, 3) := dk_183 0 152 (dk_at dksX26_point_1 4 rfl rfl)
theorem dX26_point_31 : decode cX26_point 31 = .ok (.athrow, 1) := dk_191 (dk_at dksX26_point_1 7 rfl rfl)
theorem dX26_point_32 : decode cX26_point 32 = .ok (.aload_n 0, 1) := dk_42 (dk_at dksX26_point_1 8 rfl rfl)
theorem dX26_point_33 : decode cX26_point 33 = .ok (.getfield 18, 3) := dk_180 0 18 (dk_at dksX26_point_1 9 rfl rfl)
theorem dX26_point_36 : decode cX26_point 36 = .ok (.dup, 1) := dk_89 (dk_at dksX26_point_1 12 rfl rfl)
theorem dX26_point_37 : decode cX26_point 37 = .ok (.getfield 144, 3) := dk_180 0 144 (dk_at dksX26_point_1 13 rfl rfl)
theorem dX26_point_40 : decode cX26_point 40 = .ok (.iconst 1, 1) := dk_4 (dk_at dksX26_point_1 16 rfl rfl)
theorem dX26_point_41 : decode cX26_point 41 = .ok (.iadd, 1) := dk_96 (dk_at dksX26_point_1 17 rfl rfl)
theorem dX26_point_42 : decode cX26_point 42 = .ok (.putfield 144, 3) := dk_181 0 144 (dk_at dksX26_point_1 18 rfl rfl)
theorem dX26_point_45 : decode cX26_point 45 = .ok (.iconst 0, 1) := dk_3 (dk_at dksX26_point_1 21 rfl rfl)
theorem dX26_point_46 : decode cX26_point 46 = .ok (.istore 8, 2) := dk_54 8 (dk_at dksX26_point_1 22 rfl rfl)
theorem dX26_point_48 : decode cX26_point 48 = .ok (.iconst 0, 1) := dk_3 (dk_at dksX26_point_2 0 rfl rfl)
theorem dX26_point_49 : decode cX26_point 49 = .ok (.istore 9, 2) := dk_54 9 (dk_at dksX26_point_2 1 rfl rfl)
theorem dX26_point_51 : decode cX26_point 51 = .ok (.iload 9, 2) := dk_21 9 (dk_at dksX26_point_2 3 rfl rfl)
theorem dX26_point_53 : decode cX26_point 53 = .ok (.aload_n 0, 1) := dk_42 (dk_at dksX26_point_2 5 rfl rfl)
theorem dX26_point_54 : decode cX26_point 54 = .ok (.getfield 3, 3) := dk_180 0 3 (dk_at dksX26_point_2 6 rfl rfl)
theorem dX26_point_57 : decode cX26_point 57 = .ok (.getfield 153, 3) := dk_180 0 153 (dk_at dksX26_point_2 9 rfl rfl)
theorem dX26_point_60 : decode cX26_point 60 = .ok (.if_icmp .ge 43, 3) := dk_162 0 43 (dk_at dksX26_point_2 12 rfl rfl)
theorem dX26_point_63 : decode cX26_point 63 = .ok (.iload 8, 2) := dk_21 8 (dk_at dksX26_point_2 15 rfl rfl)
theorem dX26_point_65 : decode cX26_point 65 = .ok (.aload_n 0, 1) := dk_42 (dk_at dksX26_point_2 17 rfl rfl)
theorem dX26_point_66 : decode cX26_point 66 = .ok (.iload 9, 2) := dk_21 9 (dk_at dksX26_point_2 18 rfl rfl)
theorem dX26_point_68 : decode cX26_point 68 = .ok (.iload 8, 2) := dk_21 8 (dk_at dksX26_point_2 20 rfl rfl)
theorem dX26_point_70 : decode cX26_point 70 = .ok (.iload_n 1, 1) := dk_27 (dk_at dksX26_point_2 22 rfl rfl)
theorem dX26_point_71 : decode cX26_point 71 = .ok (.iload_n 2, 1) := dk_28 (dk_at dksX26_point_2 23 rfl rfl)
theorem dX26_point_72 : decode cX26_point 72 = .ok (.aload_n 3, 1) := dk_45 (dk_at dksX26_point_3 0 rfl rfl)
theorem dX26_point_73 : decode cX26_point 73 = .ok (.getfield 156, 3) := dk_180 0 156 (dk_at dksX26_point_3 1 rfl rfl)
theorem dX26_point_76 : decode cX26_point 76 = .ok (.iload 4, 2) := dk_21 4 (dk_at dksX26_point_3 4 rfl rfl)
theorem dX26_point_78 : decode cX26_point 78 = .ok (.iload 7, 2) := dk_21 7 (dk_at dksX26_point_3 6 rfl rfl)
theorem dX26_point_80 : decode cX26_point 80 = .ok (.invokevirtual 161, 3) := dk_182 0 161 (dk_at dksX26_point_3 8 rfl rfl)
theorem dX26_point_83 : decode cX26_point 83 = .ok (.ifCond .eq 10, 3) := dk_153 0 10 (dk_at dksX26_point_3 11 rfl rfl)
theorem dX26_point_86 : decode cX26_point 86 = .ok (.iconst 1, 1) := dk_4 (dk_at dksX26_point_3 14 rfl rfl)
theorem dX26_point_87 : decode cX26_point 87 = .ok (.iload 9, 2) := dk_21 9 (dk_at dksX26_point_3 15 rfl rfl)
theorem dX26_point_89 : decode cX26_point 89 = .ok (.ishl, 1) := dk_120 (dk_at dksX26_point_3 17 rfl rfl)
theorem dX26_point_90 : decode cX26_point 90 = .ok (.goto 4, 3) := dk_167 0 4 (dk_at dksX26_point_3 18 rfl rfl)
theorem dX26_point_93 : decode cX26_point 93 = .ok (.iconst 0, 1) := dk_3 (dk_at dksX26_point_3 21 rfl rfl)
theorem dX26_point_94 : decode cX26_point 94 = .ok (.ior, 1) := dk_128 (dk_at dksX26_point_3 22 rfl rfl)
theorem dX26_point_95 : decode cX26_point 95 = .ok (.istore 8, 2) := dk_54 8 (dk_at dksX26_point_4 0 rfl rfl)
theorem dX26_point_97 : decode cX26_point 97 = .ok (.iinc 9 1, 3) := dk_132 9 1 (dk_at dksX26_point_4 2 rfl rfl)
theorem dX26_point_100 : decode cX26_point 100 = .ok (.goto (-49), 3) := dk_167 255 207 (dk_at dksX26_point_4 5 rfl rfl)
theorem dX26_point_103 : decode cX26_point 103 = .ok (.new 75, 3) := dk_187 0 75 (dk_at dksX26_point_4 8 rfl rfl)
theorem dX26_point_106 : decode cX26_point 106 = .ok (.dup, 1) := dk_89 (dk_at dksX26_point_4 11 rfl rfl)
theorem dX26_point_107 : decode cX26_point 107 = .ok (.iload_n 1, 1) := dk_27 (dk_at dksX26_point_4 12 rfl rfl)
theorem dX26_point_108 : decode cX26_point 108 = .ok (.iload_n 2, 1) := dk_28 (dk_at dksX26_point_4 13 rfl rfl)
theorem dX26_point_109 : decode cX26_point 109 = .ok (.aload_n 3, 1) := dk_45 (dk_at dksX26_point_4 14 rfl rfl)
theorem dX26_point_110 : decode cX26_point 110 = .ok (.getfield 156, 3) := dk_180 0 156 (dk_at dksX26_point_4 15 rfl rfl)
theorem dX26_point_113 : decode cX26_point 113 = .ok (.iload 4, 2) := dk_21 4 (dk_at dksX26_point_4 18 rfl rfl)
theorem dX26_point_115 : decode cX26_point 115 = .ok (.iload 5, 2) := dk_21 5 (dk_at dksX26_point_4 20 rfl rfl)
theorem dX26_point_117 : decode cX26_point 117 = .ok (.iload 6, 2) := dk_21 6 (dk_at dksX26_point_4 22 rfl rfl)
theorem dX26_point_119 : decode cX26_point 119 = .ok (.iload 7, 2) := dk_21 7 (dk_at dksX26_point_5 0 rfl rfl)
theorem dX26_point_121 : decode cX26_point 121 = .ok (.iload 8, 2) := dk_21 8 (dk_at dksX26_point_5 2 rfl rfl)
theorem dX26_point_123 : decode cX26_point 123 = .ok (.invokespecial 165, 3) := dk_183 0 165 (dk_at dksX26_point_5 4 rfl rfl)
theorem dX26_point_126 : decode cX26_point 126 = .ok (.astore 9, 2) := dk_58 9 (dk_at dksX26_point_5 7 rfl rfl)
theorem dX26_point_128 : decode cX26_point 128 = .ok (.aload_n 0, 1) := dk_42 (dk_at dksX26_point_5 9 rfl rfl)
theorem dX26_point_129 : decode cX26_point 129 = .ok (.getfield 25, 3) := dk_180 0 25 (dk_at dksX26_point_5 10 rfl rfl)
theorem dX26_point_132 : decode cX26_point 132 = .ok (.aload 9, 2) := dk_25 9 (dk_at dksX26_point_5 13 rfl rfl)
theorem dX26_point_134 : decode cX26_point 134 = .ok (.invokevirtual 140, 3) := dk_182 0 140 (dk_at dksX26_point_5 15 rfl rfl)
theorem dX26_point_137 : decode cX26_point 137 = .ok (.pop, 1) := dk_87 (dk_at dksX26_point_5 18 rfl rfl)
theorem dX26_point_138 : decode cX26_point 138 = .ok (.aload_n 0, 1) := dk_42 (dk_at dksX26_point_5 19 rfl rfl)
theorem dX26_point_139 : decode cX26_point 139 = .ok (.aload 9, 2) := dk_25 9 (dk_at dksX26_point_5 20 rfl rfl)
theorem dX26_point_141 : decode cX26_point 141 = .ok (.aload_n 3, 1) := dk_45 (dk_at dksX26_point_5 22 rfl rfl)
theorem dX26_point_142 : decode cX26_point 142 = .ok (.aload_n 0, 1) := dk_42 (dk_at dksX26_point_5 23 rfl rfl)
theorem dX26_point_143 : decode cX26_point 143 = .ok (.aload 9, 2) := dk_25 9 (dk_at dksX26_point_6 0 rfl rfl)
theorem dX26_point_145 : decode cX26_point 145 = .ok (.invokevirtual 168, 3) := dk_182 0 168 (dk_at dksX26_point_6 2 rfl rfl)
theorem dX26_point_148 : decode cX26_point 148 = .ok (.iconst 0, 1) := dk_3 (dk_at dksX26_point_6 5 rfl rfl)
theorem dX26_point_149 : decode cX26_point 149 = .ok (.iload 7, 2) := dk_21 7 (dk_at dksX26_point_6 6 rfl rfl)
theorem dX26_point_151 : decode cX26_point 151 = .ok (.invokevirtual 172, 3) := dk_182 0 172 (dk_at dksX26_point_6 8 rfl rfl)
theorem dX26_point_154 : decode cX26_point 154 = .ok (.istore 10, 2) := dk_54 10 (dk_at dksX26_point_6 11 rfl rfl)
theorem dX26_point_156 : decode cX26_point 156 = .ok (.aload_n 0, 1) := dk_42 (dk_at dksX26_point_6 13 rfl rfl)
theorem dX26_point_157 : decode cX26_point 157 = .ok (.getfield 25, 3) := dk_180 0 25 (dk_at dksX26_point_6 14 rfl rfl)
theorem dX26_point_160 : decode cX26_point 160 = .ok (.aload_n 0, 1) := dk_42 (dk_at dksX26_point_6 17 rfl rfl)
theorem dX26_point_161 : decode cX26_point 161 = .ok (.getfield 25, 3) := dk_180 0 25 (dk_at dksX26_point_6 18 rfl rfl)
theorem dX26_point_164 : decode cX26_point 164 = .ok (.invokevirtual 147, 3) := dk_182 0 147 (dk_at dksX26_point_6 21 rfl rfl)
theorem dX26_point_167 : decode cX26_point 167 = .ok (.iconst 1, 1) := dk_4 (dk_at dksX26_point_7 0 rfl rfl)
theorem dX26_point_168 : decode cX26_point 168 = .ok (.isub, 1) := dk_100 (dk_at dksX26_point_7 1 rfl rfl)
theorem dX26_point_169 : decode cX26_point 169 = .ok (.invokevirtual 176, 3) := dk_182 0 176 (dk_at dksX26_point_7 2 rfl rfl)
theorem dX26_point_172 : decode cX26_point 172 = .ok (.pop, 1) := dk_87 (dk_at dksX26_point_7 5 rfl rfl)
theorem dX26_point_173 : decode cX26_point 173 = .ok (.iload 10, 2) := dk_21 10 (dk_at dksX26_point_7 6 rfl rfl)
theorem dX26_point_175 : decode cX26_point 175 = .ok (.ireturn, 1) := dk_172 (dk_at dksX26_point_7 8 rfl rfl)
theorem dX26_point_176 : decode cX26_point 176 = .ok (.astore 11, 2) := dk_58 11 (dk_at dksX26_point_7 9 rfl rfl)
theorem dX26_point_178 : decode cX26_point 178 = .ok (.aload_n 0, 1) := dk_42 (dk_at dksX26_point_7 11 rfl rfl)
theorem dX26_point_179 : decode cX26_point 179 = .ok (.getfield 25, 3) := dk_180 0 25 (dk_at dksX26_point_7 12 rfl rfl)
theorem dX26_point_182 : decode cX26_point 182 = .ok (.aload_n 0, 1) := dk_42 (dk_at dksX26_point_7 15 rfl rfl)
theorem dX26_point_183 : decode cX26_point 183 = .ok (.getfield 25, 3) := dk_180 0 25 (dk_at dksX26_point_7 16 rfl rfl)
theorem dX26_point_186 : decode cX26_point 186 = .ok (.invokevirtual 147, 3) := dk_182 0 147 (dk_at dksX26_point_7 19 rfl rfl)
theorem dX26_point_189 : decode cX26_point 189 = .ok (.iconst 1, 1) := dk_4 (dk_at dksX26_point_7 22 rfl rfl)
theorem dX26_point_190 : decode cX26_point 190 = .ok (.isub, 1) := dk_100 (dk_at dksX26_point_7 23 rfl rfl)
theorem dX26_point_191 : decode cX26_point 191 = .ok (.invokevirtual 176, 3) := dk_182 0 176 (dk_at dksX26_point_8 0 rfl rfl)
theorem dX26_point_194 : decode cX26_point 194 = .ok (.pop, 1) := dk_87 (dk_at dksX26_point_8 3 rfl rfl)
theorem dX26_point_195 : decode cX26_point 195 = .ok (.aload 11, 2) := dk_25 11 (dk_at dksX26_point_8 4 rfl rfl)
theorem dX26_point_197 : decode cX26_point 197 = .ok (.athrow, 1) := dk_191 (dk_at dksX26_point_8 6 rfl rfl)
abbrev cX26_holdsNow : ByteArray := prog_31_method_2_code
def yX26_holdsNow : MethodName := ⟨RX26, "holdsNow", "(IICIIII)Z"⟩
def dkwX26_holdsNow_10 : List UInt8 := [4, 167, 0, 4, 3, 172]
abbrev dktX26_holdsNow_10 : List UInt8 := dkwX26_holdsNow_10 ++ []
def dkwX26_holdsNow_9 : List UInt8 := [153, 0, 7, 4, 167, 0, 25, 3, 167, 0, 21, 42, 180, 0, 3, 180, 0, 43, 27, 52, 29, 160, 0, 7]
abbrev dktX26_holdsNow_9 : List UInt8 := dkwX26_holdsNow_9 ++ dktX26_holdsNow_10
def dkwX26_holdsNow_8 : List UInt8 := [21, 8, 182, 0, 51, 154, 0, 20, 42, 28, 42, 180, 0, 3, 180, 0, 58, 27, 46, 182, 0, 51]
abbrev dktX26_holdsNow_8 : List UInt8 := dkwX26_holdsNow_8 ++ dktX26_holdsNow_9
def dkwX26_holdsNow_7 : List UInt8 := [180, 0, 3, 180, 0, 58, 27, 46, 182, 0, 51, 153, 0, 7, 4, 167, 0, 60, 3, 167, 0, 56, 42, 28]
abbrev dktX26_holdsNow_7 : List UInt8 := dkwX26_holdsNow_7 ++ dktX26_holdsNow_8
def dkwX26_holdsNow_6 : List UInt8 := [154, 0, 7, 4, 167, 0, 95, 3, 167, 0, 91, 42, 28, 21, 8, 182, 0, 51, 153, 0, 24, 42, 28, 42]
abbrev dktX26_holdsNow_6 : List UInt8 := dkwX26_holdsNow_6 ++ dktX26_holdsNow_7
def dkwX26_holdsNow_5 : List UInt8 := [21, 8, 182, 0, 54, 153, 0, 7, 4, 167, 0, 113, 3, 167, 0, 109, 42, 28, 21, 8, 182, 0, 51]
abbrev dktX26_holdsNow_5 : List UInt8 := dkwX26_holdsNow_5 ++ dktX26_holdsNow_6
def dkwX26_holdsNow_4 : List UInt8 := [21, 8, 164, 0, 7, 4, 167, 0, 140, 3, 167, 0, 136, 42, 28, 21, 8, 182, 0, 51, 154, 0, 12, 42]
abbrev dktX26_holdsNow_4 : List UInt8 := dkwX26_holdsNow_4 ++ dktX26_holdsNow_5
def dkwX26_holdsNow_3 : List UInt8 := [182, 0, 47, 167, 0, 166, 21, 6, 21, 8, 160, 0, 7, 4, 167, 0, 155, 3, 167, 0, 151, 21, 7]
abbrev dktX26_holdsNow_3 : List UInt8 := dkwX26_holdsNow_3 ++ dktX26_holdsNow_4
def dkwX26_holdsNow_2 : List UInt8 := [21, 4, 21, 8, 160, 0, 7, 4, 167, 0, 184, 3, 167, 0, 180, 42, 180, 0, 3, 21, 5, 21, 8]
abbrev dktX26_holdsNow_2 : List UInt8 := dkwX26_holdsNow_2 ++ dktX26_holdsNow_3
def dkwX26_holdsNow_1 : List UInt8 := [171, 0, 0, 0, 0, 0, 0, 250, 0, 0, 0, 8, 0, 0, 0, 33, 0, 0, 0, 162, 0, 0, 0, 38, 0, 0, 0, 180, 0, 0, 0, 102, 0, 0, 0, 135, 0, 0, 0, 110, 0, 0, 0, 76, 0, 0, 0, 116, 0, 0, 0, 91, 0, 0, 0, 118, 0, 0, 0, 120, 0, 0, 0, 119, 0, 0, 0, 105, 0, 0, 0, 124, 0, 0, 0, 215]
abbrev dktX26_holdsNow_1 : List UInt8 := dkwX26_holdsNow_1 ++ dktX26_holdsNow_2
def dkwX26_holdsNow_0 : List UInt8 := [42, 180, 0, 3, 180, 0, 39, 27, 46, 54, 8, 42, 180, 0, 3, 180, 0, 43, 27, 52]
abbrev dktX26_holdsNow_0 : List UInt8 := dkwX26_holdsNow_0 ++ dktX26_holdsNow_1
theorem dksX26_holdsNow_0 : cX26_holdsNow.data.toList.drop 0 = dktX26_holdsNow_0 := by decide +kernel
theorem dksX26_holdsNow_1 : cX26_holdsNow.data.toList.drop 20 = dktX26_holdsNow_1 := dk_seg dksX26_holdsNow_0 20 rfl rfl
theorem dksX26_holdsNow_2 : cX26_holdsNow.data.toList.drop 96 = dktX26_holdsNow_2 := dk_seg dksX26_holdsNow_1 76 rfl rfl
theorem dksX26_holdsNow_3 : cX26_holdsNow.data.toList.drop 119 = dktX26_holdsNow_3 := dk_seg dksX26_holdsNow_2 23 rfl rfl
theorem dksX26_holdsNow_4 : cX26_holdsNow.data.toList.drop 142 = dktX26_holdsNow_4 := dk_seg dksX26_holdsNow_3 23 rfl rfl
theorem dksX26_holdsNow_5 : cX26_holdsNow.data.toList.drop 166 = dktX26_holdsNow_5 := dk_seg dksX26_holdsNow_4 24 rfl rfl
theorem dksX26_holdsNow_6 : cX26_holdsNow.data.toList.drop 189 = dktX26_holdsNow_6 := dk_seg dksX26_holdsNow_5 23 rfl rfl
theorem dksX26_holdsNow_7 : cX26_holdsNow.data.toList.drop 213 = dktX26_holdsNow_7 := dk_seg dksX26_holdsNow_6 24 rfl rfl
theorem dksX26_holdsNow_8 : cX26_holdsNow.data.toList.drop 237 = dktX26_holdsNow_8 := dk_seg dksX26_holdsNow_7 24 rfl rfl
theorem dksX26_holdsNow_9 : cX26_holdsNow.data.toList.drop 259 = dktX26_holdsNow_9 := dk_seg dksX26_holdsNow_8 22 rfl rfl
theorem dksX26_holdsNow_10 : cX26_holdsNow.data.toList.drop 283 = dktX26_holdsNow_10 := dk_seg dksX26_holdsNow_9 24 rfl rfl
theorem dX26_holdsNow_0 : decode cX26_holdsNow 0 = .ok (.aload_n 0, 1) := dk_42 (dk_at dksX26_holdsNow_0 0 rfl rfl)
theorem dX26_holdsNow_1 : decode cX26_holdsNow 1 = .ok (.getfield 3, 3) := dk_180 0 3 (dk_at dksX26_holdsNow_0 1 rfl rfl)
theorem dX26_holdsNow_4 : decode cX26_holdsNow 4 = .ok (.getfield 39, 3) := dk_180 0 39 (dk_at dksX26_holdsNow_0 4 rfl rfl)
theorem dX26_holdsNow_7 : decode cX26_holdsNow 7 = .ok (.iload_n 1, 1) := dk_27 (dk_at dksX26_holdsNow_0 7 rfl rfl)
theorem dX26_holdsNow_8 : decode cX26_holdsNow 8 = .ok (.iaload, 1) := dk_46 (dk_at dksX26_holdsNow_0 8 rfl rfl)
theorem dX26_holdsNow_9 : decode cX26_holdsNow 9 = .ok (.istore 8, 2) := dk_54 8 (dk_at dksX26_holdsNow_0 9 rfl rfl)
theorem dX26_holdsNow_11 : decode cX26_holdsNow 11 = .ok (.aload_n 0, 1) := dk_42 (dk_at dksX26_holdsNow_0 11 rfl rfl)
theorem dX26_holdsNow_12 : decode cX26_holdsNow 12 = .ok (.getfield 3, 3) := dk_180 0 3 (dk_at dksX26_holdsNow_0 12 rfl rfl)
theorem dX26_holdsNow_15 : decode cX26_holdsNow 15 = .ok (.getfield 43, 3) := dk_180 0 43 (dk_at dksX26_holdsNow_0 15 rfl rfl)
theorem dX26_holdsNow_18 : decode cX26_holdsNow 18 = .ok (.iload_n 1, 1) := dk_27 (dk_at dksX26_holdsNow_0 18 rfl rfl)
theorem dX26_holdsNow_19 : decode cX26_holdsNow 19 = .ok (.caload, 1) := dk_52 (dk_at dksX26_holdsNow_0 19 rfl rfl)
theorem dX26_holdsNow_20 : decode cX26_holdsNow 20 = .ok (.lookupswitch 250 #[(33, 162), (38, 180), (102, 135), (110, 76), (116, 91), (118, 120), (119, 105), (124, 215)], 76) := by decide +kernel
theorem dX26_holdsNow_96 : decode cX26_holdsNow 96 = .ok (.iload 4, 2) := dk_21 4 (dk_at dksX26_holdsNow_2 0 rfl rfl)
theorem dX26_holdsNow_98 : decode cX26_holdsNow 98 = .ok (.iload 8, 2) := dk_21 8 (dk_at dksX26_holdsNow_2 2 rfl rfl)
theorem dX26_holdsNow_100 : decode cX26_holdsNow 100 = .ok (.if_icmp .ne 7, 3) := dk_160 0 7 (dk_at dksX26_holdsNow_2 4 rfl rfl)
theorem dX26_holdsNow_103 : decode cX26_holdsNow 103 = .ok (.iconst 1, 1) := dk_4 (dk_at dksX26_holdsNow_2 7 rfl rfl)
theorem dX26_holdsNow_104 : decode cX26_holdsNow 104 = .ok (.goto 184, 3) := dk_167 0 184 (dk_at dksX26_holdsNow_2 8 rfl rfl)
theorem dX26_holdsNow_107 : decode cX26_holdsNow 107 = .ok (.iconst 0, 1) := dk_3 (dk_at dksX26_holdsNow_2 11 rfl rfl)
theorem dX26_holdsNow_108 : decode cX26_holdsNow 108 = .ok (.goto 180, 3) := dk_167 0 180 (dk_at dksX26_holdsNow_2 12 rfl rfl)
theorem dX26_holdsNow_111 : decode cX26_holdsNow 111 = .ok (.aload_n 0, 1) := dk_42 (dk_at dksX26_holdsNow_2 15 rfl rfl)
theorem dX26_holdsNow_112 : decode cX26_holdsNow 112 = .ok (.getfield 3, 3) := dk_180 0 3 (dk_at dksX26_holdsNow_2 16 rfl rfl)
theorem dX26_holdsNow_115 : decode cX26_holdsNow 115 = .ok (.iload 5, 2) := dk_21 5 (dk_at dksX26_holdsNow_2 19 rfl rfl)
theorem dX26_holdsNow_117 : decode cX26_holdsNow 117 = .ok (.iload 8, 2) := dk_21 8 (dk_at dksX26_holdsNow_2 21 rfl rfl)
theorem dX26_holdsNow_119 : decode cX26_holdsNow 119 = .ok (.invokevirtual 47, 3) := dk_182 0 47 (dk_at dksX26_holdsNow_3 0 rfl rfl)
theorem dX26_holdsNow_122 : decode cX26_holdsNow 122 = .ok (.goto 166, 3) := dk_167 0 166 (dk_at dksX26_holdsNow_3 3 rfl rfl)
theorem dX26_holdsNow_125 : decode cX26_holdsNow 125 = .ok (.iload 6, 2) := dk_21 6 (dk_at dksX26_holdsNow_3 6 rfl rfl)
theorem dX26_holdsNow_127 : decode cX26_holdsNow 127 = .ok (.iload 8, 2) := dk_21 8 (dk_at dksX26_holdsNow_3 8 rfl rfl)
theorem dX26_holdsNow_129 : decode cX26_holdsNow 129 = .ok (.if_icmp .ne 7, 3) := dk_160 0 7 (dk_at dksX26_holdsNow_3 10 rfl rfl)
theorem dX26_holdsNow_132 : decode cX26_holdsNow 132 = .ok (.iconst 1, 1) := dk_4 (dk_at dksX26_holdsNow_3 13 rfl rfl)
theorem dX26_holdsNow_133 : decode cX26_holdsNow 133 = .ok (.goto 155, 3) := dk_167 0 155 (dk_at dksX26_holdsNow_3 14 rfl rfl)
theorem dX26_holdsNow_136 : decode cX26_holdsNow 136 = .ok (.iconst 0, 1) := dk_3 (dk_at dksX26_holdsNow_3 17 rfl rfl)
theorem dX26_holdsNow_137 : decode cX26_holdsNow 137 = .ok (.goto 151, 3) := dk_167 0 151 (dk_at dksX26_holdsNow_3 18 rfl rfl)
theorem dX26_holdsNow_140 : decode cX26_holdsNow 140 = .ok (.iload 7, 2) := dk_21 7 (dk_at dksX26_holdsNow_3 21 rfl rfl)
theorem dX26_holdsNow_142 : decode cX26_holdsNow 142 = .ok (.iload 8, 2) := dk_21 8 (dk_at dksX26_holdsNow_4 0 rfl rfl)
theorem dX26_holdsNow_144 : decode cX26_holdsNow 144 = .ok (.if_icmp .le 7, 3) := dk_164 0 7 (dk_at dksX26_holdsNow_4 2 rfl rfl)
theorem dX26_holdsNow_147 : decode cX26_holdsNow 147 = .ok (.iconst 1, 1) := dk_4 (dk_at dksX26_holdsNow_4 5 rfl rfl)
theorem dX26_holdsNow_148 : decode cX26_holdsNow 148 = .ok (.goto 140, 3) := dk_167 0 140 (dk_at dksX26_holdsNow_4 6 rfl rfl)
theorem dX26_holdsNow_151 : decode cX26_holdsNow 151 = .ok (.iconst 0, 1) := dk_3 (dk_at dksX26_holdsNow_4 9 rfl rfl)
theorem dX26_holdsNow_152 : decode cX26_holdsNow 152 = .ok (.goto 136, 3) := dk_167 0 136 (dk_at dksX26_holdsNow_4 10 rfl rfl)
theorem dX26_holdsNow_155 : decode cX26_holdsNow 155 = .ok (.aload_n 0, 1) := dk_42 (dk_at dksX26_holdsNow_4 13 rfl rfl)
theorem dX26_holdsNow_156 : decode cX26_holdsNow 156 = .ok (.iload_n 2, 1) := dk_28 (dk_at dksX26_holdsNow_4 14 rfl rfl)
theorem dX26_holdsNow_157 : decode cX26_holdsNow 157 = .ok (.iload 8, 2) := dk_21 8 (dk_at dksX26_holdsNow_4 15 rfl rfl)
theorem dX26_holdsNow_159 : decode cX26_holdsNow 159 = .ok (.invokevirtual 51, 3) := dk_182 0 51 (dk_at dksX26_holdsNow_4 17 rfl rfl)
theorem dX26_holdsNow_162 : decode cX26_holdsNow 162 = .ok (.ifCond .ne 12, 3) := dk_154 0 12 (dk_at dksX26_holdsNow_4 20 rfl rfl)
theorem dX26_holdsNow_165 : decode cX26_holdsNow 165 = .ok (.aload_n 0, 1) := dk_42 (dk_at dksX26_holdsNow_4 23 rfl rfl)
theorem dX26_holdsNow_166 : decode cX26_holdsNow 166 = .ok (.iload 8, 2) := dk_21 8 (dk_at dksX26_holdsNow_5 0 rfl rfl)
theorem dX26_holdsNow_168 : decode cX26_holdsNow 168 = .ok (.invokevirtual 54, 3) := dk_182 0 54 (dk_at dksX26_holdsNow_5 2 rfl rfl)
theorem dX26_holdsNow_171 : decode cX26_holdsNow 171 = .ok (.ifCond .eq 7, 3) := dk_153 0 7 (dk_at dksX26_holdsNow_5 5 rfl rfl)
theorem dX26_holdsNow_174 : decode cX26_holdsNow 174 = .ok (.iconst 1, 1) := dk_4 (dk_at dksX26_holdsNow_5 8 rfl rfl)
theorem dX26_holdsNow_175 : decode cX26_holdsNow 175 = .ok (.goto 113, 3) := dk_167 0 113 (dk_at dksX26_holdsNow_5 9 rfl rfl)
theorem dX26_holdsNow_178 : decode cX26_holdsNow 178 = .ok (.iconst 0, 1) := dk_3 (dk_at dksX26_holdsNow_5 12 rfl rfl)
theorem dX26_holdsNow_179 : decode cX26_holdsNow 179 = .ok (.goto 109, 3) := dk_167 0 109 (dk_at dksX26_holdsNow_5 13 rfl rfl)
theorem dX26_holdsNow_182 : decode cX26_holdsNow 182 = .ok (.aload_n 0, 1) := dk_42 (dk_at dksX26_holdsNow_5 16 rfl rfl)
theorem dX26_holdsNow_183 : decode cX26_holdsNow 183 = .ok (.iload_n 2, 1) := dk_28 (dk_at dksX26_holdsNow_5 17 rfl rfl)
theorem dX26_holdsNow_184 : decode cX26_holdsNow 184 = .ok (.iload 8, 2) := dk_21 8 (dk_at dksX26_holdsNow_5 18 rfl rfl)
theorem dX26_holdsNow_186 : decode cX26_holdsNow 186 = .ok (.invokevirtual 51, 3) := dk_182 0 51 (dk_at dksX26_holdsNow_5 20 rfl rfl)
theorem dX26_holdsNow_189 : decode cX26_holdsNow 189 = .ok (.ifCond .ne 7, 3) := dk_154 0 7 (dk_at dksX26_holdsNow_6 0 rfl rfl)
theorem dX26_holdsNow_192 : decode cX26_holdsNow 192 = .ok (.iconst 1, 1) := dk_4 (dk_at dksX26_holdsNow_6 3 rfl rfl)
theorem dX26_holdsNow_193 : decode cX26_holdsNow 193 = .ok (.goto 95, 3) := dk_167 0 95 (dk_at dksX26_holdsNow_6 4 rfl rfl)
theorem dX26_holdsNow_196 : decode cX26_holdsNow 196 = .ok (.iconst 0, 1) := dk_3 (dk_at dksX26_holdsNow_6 7 rfl rfl)
theorem dX26_holdsNow_197 : decode cX26_holdsNow 197 = .ok (.goto 91, 3) := dk_167 0 91 (dk_at dksX26_holdsNow_6 8 rfl rfl)
theorem dX26_holdsNow_200 : decode cX26_holdsNow 200 = .ok (.aload_n 0, 1) := dk_42 (dk_at dksX26_holdsNow_6 11 rfl rfl)
theorem dX26_holdsNow_201 : decode cX26_holdsNow 201 = .ok (.iload_n 2, 1) := dk_28 (dk_at dksX26_holdsNow_6 12 rfl rfl)
theorem dX26_holdsNow_202 : decode cX26_holdsNow 202 = .ok (.iload 8, 2) := dk_21 8 (dk_at dksX26_holdsNow_6 13 rfl rfl)
theorem dX26_holdsNow_204 : decode cX26_holdsNow 204 = .ok (.invokevirtual 51, 3) := dk_182 0 51 (dk_at dksX26_holdsNow_6 15 rfl rfl)
theorem dX26_holdsNow_207 : decode cX26_holdsNow 207 = .ok (.ifCond .eq 24, 3) := dk_153 0 24 (dk_at dksX26_holdsNow_6 18 rfl rfl)
theorem dX26_holdsNow_210 : decode cX26_holdsNow 210 = .ok (.aload_n 0, 1) := dk_42 (dk_at dksX26_holdsNow_6 21 rfl rfl)
theorem dX26_holdsNow_211 : decode cX26_holdsNow 211 = .ok (.iload_n 2, 1) := dk_28 (dk_at dksX26_holdsNow_6 22 rfl rfl)
theorem dX26_holdsNow_212 : decode cX26_holdsNow 212 = .ok (.aload_n 0, 1) := dk_42 (dk_at dksX26_holdsNow_6 23 rfl rfl)
theorem dX26_holdsNow_213 : decode cX26_holdsNow 213 = .ok (.getfield 3, 3) := dk_180 0 3 (dk_at dksX26_holdsNow_7 0 rfl rfl)
theorem dX26_holdsNow_216 : decode cX26_holdsNow 216 = .ok (.getfield 58, 3) := dk_180 0 58 (dk_at dksX26_holdsNow_7 3 rfl rfl)
theorem dX26_holdsNow_219 : decode cX26_holdsNow 219 = .ok (.iload_n 1, 1) := dk_27 (dk_at dksX26_holdsNow_7 6 rfl rfl)
theorem dX26_holdsNow_220 : decode cX26_holdsNow 220 = .ok (.iaload, 1) := dk_46 (dk_at dksX26_holdsNow_7 7 rfl rfl)
theorem dX26_holdsNow_221 : decode cX26_holdsNow 221 = .ok (.invokevirtual 51, 3) := dk_182 0 51 (dk_at dksX26_holdsNow_7 8 rfl rfl)
theorem dX26_holdsNow_224 : decode cX26_holdsNow 224 = .ok (.ifCond .eq 7, 3) := dk_153 0 7 (dk_at dksX26_holdsNow_7 11 rfl rfl)
theorem dX26_holdsNow_227 : decode cX26_holdsNow 227 = .ok (.iconst 1, 1) := dk_4 (dk_at dksX26_holdsNow_7 14 rfl rfl)
theorem dX26_holdsNow_228 : decode cX26_holdsNow 228 = .ok (.goto 60, 3) := dk_167 0 60 (dk_at dksX26_holdsNow_7 15 rfl rfl)
theorem dX26_holdsNow_231 : decode cX26_holdsNow 231 = .ok (.iconst 0, 1) := dk_3 (dk_at dksX26_holdsNow_7 18 rfl rfl)
theorem dX26_holdsNow_232 : decode cX26_holdsNow 232 = .ok (.goto 56, 3) := dk_167 0 56 (dk_at dksX26_holdsNow_7 19 rfl rfl)
theorem dX26_holdsNow_235 : decode cX26_holdsNow 235 = .ok (.aload_n 0, 1) := dk_42 (dk_at dksX26_holdsNow_7 22 rfl rfl)
theorem dX26_holdsNow_236 : decode cX26_holdsNow 236 = .ok (.iload_n 2, 1) := dk_28 (dk_at dksX26_holdsNow_7 23 rfl rfl)
theorem dX26_holdsNow_237 : decode cX26_holdsNow 237 = .ok (.iload 8, 2) := dk_21 8 (dk_at dksX26_holdsNow_8 0 rfl rfl)
theorem dX26_holdsNow_239 : decode cX26_holdsNow 239 = .ok (.invokevirtual 51, 3) := dk_182 0 51 (dk_at dksX26_holdsNow_8 2 rfl rfl)
theorem dX26_holdsNow_242 : decode cX26_holdsNow 242 = .ok (.ifCond .ne 20, 3) := dk_154 0 20 (dk_at dksX26_holdsNow_8 5 rfl rfl)
theorem dX26_holdsNow_245 : decode cX26_holdsNow 245 = .ok (.aload_n 0, 1) := dk_42 (dk_at dksX26_holdsNow_8 8 rfl rfl)
theorem dX26_holdsNow_246 : decode cX26_holdsNow 246 = .ok (.iload_n 2, 1) := dk_28 (dk_at dksX26_holdsNow_8 9 rfl rfl)
theorem dX26_holdsNow_247 : decode cX26_holdsNow 247 = .ok (.aload_n 0, 1) := dk_42 (dk_at dksX26_holdsNow_8 10 rfl rfl)
theorem dX26_holdsNow_248 : decode cX26_holdsNow 248 = .ok (.getfield 3, 3) := dk_180 0 3 (dk_at dksX26_holdsNow_8 11 rfl rfl)
theorem dX26_holdsNow_251 : decode cX26_holdsNow 251 = .ok (.getfield 58, 3) := dk_180 0 58 (dk_at dksX26_holdsNow_8 14 rfl rfl)
theorem dX26_holdsNow_254 : decode cX26_holdsNow 254 = .ok (.iload_n 1, 1) := dk_27 (dk_at dksX26_holdsNow_8 17 rfl rfl)
theorem dX26_holdsNow_255 : decode cX26_holdsNow 255 = .ok (.iaload, 1) := dk_46 (dk_at dksX26_holdsNow_8 18 rfl rfl)
theorem dX26_holdsNow_256 : decode cX26_holdsNow 256 = .ok (.invokevirtual 51, 3) := dk_182 0 51 (dk_at dksX26_holdsNow_8 19 rfl rfl)
theorem dX26_holdsNow_259 : decode cX26_holdsNow 259 = .ok (.ifCond .eq 7, 3) := dk_153 0 7 (dk_at dksX26_holdsNow_9 0 rfl rfl)
theorem dX26_holdsNow_262 : decode cX26_holdsNow 262 = .ok (.iconst 1, 1) := dk_4 (dk_at dksX26_holdsNow_9 3 rfl rfl)
theorem dX26_holdsNow_263 : decode cX26_holdsNow 263 = .ok (.goto 25, 3) := dk_167 0 25 (dk_at dksX26_holdsNow_9 4 rfl rfl)
theorem dX26_holdsNow_266 : decode cX26_holdsNow 266 = .ok (.iconst 0, 1) := dk_3 (dk_at dksX26_holdsNow_9 7 rfl rfl)
theorem dX26_holdsNow_267 : decode cX26_holdsNow 267 = .ok (.goto 21, 3) := dk_167 0 21 (dk_at dksX26_holdsNow_9 8 rfl rfl)
theorem dX26_holdsNow_270 : decode cX26_holdsNow 270 = .ok (.aload_n 0, 1) := dk_42 (dk_at dksX26_holdsNow_9 11 rfl rfl)
theorem dX26_holdsNow_271 : decode cX26_holdsNow 271 = .ok (.getfield 3, 3) := dk_180 0 3 (dk_at dksX26_holdsNow_9 12 rfl rfl)
theorem dX26_holdsNow_274 : decode cX26_holdsNow 274 = .ok (.getfield 43, 3) := dk_180 0 43 (dk_at dksX26_holdsNow_9 15 rfl rfl)
theorem dX26_holdsNow_277 : decode cX26_holdsNow 277 = .ok (.iload_n 1, 1) := dk_27 (dk_at dksX26_holdsNow_9 18 rfl rfl)
theorem dX26_holdsNow_278 : decode cX26_holdsNow 278 = .ok (.caload, 1) := dk_52 (dk_at dksX26_holdsNow_9 19 rfl rfl)
theorem dX26_holdsNow_279 : decode cX26_holdsNow 279 = .ok (.iload_n 3, 1) := dk_29 (dk_at dksX26_holdsNow_9 20 rfl rfl)
theorem dX26_holdsNow_280 : decode cX26_holdsNow 280 = .ok (.if_icmp .ne 7, 3) := dk_160 0 7 (dk_at dksX26_holdsNow_9 21 rfl rfl)
theorem dX26_holdsNow_283 : decode cX26_holdsNow 283 = .ok (.iconst 1, 1) := dk_4 (dk_at dksX26_holdsNow_10 0 rfl rfl)
theorem dX26_holdsNow_284 : decode cX26_holdsNow 284 = .ok (.goto 4, 3) := dk_167 0 4 (dk_at dksX26_holdsNow_10 1 rfl rfl)
theorem dX26_holdsNow_287 : decode cX26_holdsNow 287 = .ok (.iconst 0, 1) := dk_3 (dk_at dksX26_holdsNow_10 4 rfl rfl)
theorem dX26_holdsNow_288 : decode cX26_holdsNow 288 = .ok (.ireturn, 1) := dk_172 (dk_at dksX26_holdsNow_10 5 rfl rfl)
abbrev cX26_isBit : ByteArray := prog_31_method_3_code
def yX26_isBit : MethodName := ⟨RX26, "isBit", "(II)Z"⟩
def dkwX26_isBit_0 : List UInt8 := [27, 28, 122, 4, 126, 4, 160, 0, 7, 4, 167, 0, 4, 3, 172]
abbrev dktX26_isBit_0 : List UInt8 := dkwX26_isBit_0 ++ []
theorem dksX26_isBit_0 : cX26_isBit.data.toList.drop 0 = dktX26_isBit_0 := by decide +kernel
theorem dX26_isBit_0 : decode cX26_isBit 0 = .ok (.iload_n 1, 1) := dk_27 (dk_at dksX26_isBit_0 0 rfl rfl)
theorem dX26_isBit_1 : decode cX26_isBit 1 = .ok (.iload_n 2, 1) := dk_28 (dk_at dksX26_isBit_0 1 rfl rfl)
theorem dX26_isBit_2 : decode cX26_isBit 2 = .ok (.ishr, 1) := dk_122 (dk_at dksX26_isBit_0 2 rfl rfl)
theorem dX26_isBit_3 : decode cX26_isBit 3 = .ok (.iconst 1, 1) := dk_4 (dk_at dksX26_isBit_0 3 rfl rfl)
theorem dX26_isBit_4 : decode cX26_isBit 4 = .ok (.iand, 1) := dk_126 (dk_at dksX26_isBit_0 4 rfl rfl)
theorem dX26_isBit_5 : decode cX26_isBit 5 = .ok (.iconst 1, 1) := dk_4 (dk_at dksX26_isBit_0 5 rfl rfl)
theorem dX26_isBit_6 : decode cX26_isBit 6 = .ok (.if_icmp .ne 7, 3) := dk_160 0 7 (dk_at dksX26_isBit_0 6 rfl rfl)
theorem dX26_isBit_9 : decode cX26_isBit 9 = .ok (.iconst 1, 1) := dk_4 (dk_at dksX26_isBit_0 9 rfl rfl)
theorem dX26_isBit_10 : decode cX26_isBit 10 = .ok (.goto 4, 3) := dk_167 0 4 (dk_at dksX26_isBit_0 10 rfl rfl)
theorem dX26_isBit_13 : decode cX26_isBit 13 = .ok (.iconst 0, 1) := dk_3 (dk_at dksX26_isBit_0 13 rfl rfl)
theorem dX26_isBit_14 : decode cX26_isBit 14 = .ok (.ireturn, 1) := dk_172 (dk_at dksX26_isBit_0 14 rfl rfl)
abbrev cX26_isHeldByOpen : ByteArray := prog_31_method_4_code
def yX26_isHeldByOpen : MethodName := ⟨RX26, "isHeldByOpen", "(I)Z"⟩
def dkwX26_isHeldByOpen_1 : List UInt8 := [192, 0, 75, 78, 42, 45, 182, 0, 77, 27, 182, 0, 51, 153, 0, 5, 4, 172, 167, 255, 223, 3, 172]
abbrev dktX26_isHeldByOpen_1 : List UInt8 := dkwX26_isHeldByOpen_1 ++ []
def dkwX26_isHeldByOpen_0 : List UInt8 := [42, 180, 0, 25, 182, 0, 61, 77, 44, 185, 0, 65, 1, 0, 153, 0, 30, 44, 185, 0, 71, 1, 0]
abbrev dktX26_isHeldByOpen_0 : List UInt8 := dkwX26_isHeldByOpen_0 ++ dktX26_isHeldByOpen_1
theorem dksX26_isHeldByOpen_0 : cX26_isHeldByOpen.data.toList.drop 0 = dktX26_isHeldByOpen_0 := by decide +kernel
theorem dksX26_isHeldByOpen_1 : cX26_isHeldByOpen.data.toList.drop 23 = dktX26_isHeldByOpen_1 := dk_seg dksX26_isHeldByOpen_0 23 rfl rfl
theorem dX26_isHeldByOpen_0 : decode cX26_isHeldByOpen 0 = .ok (.aload_n 0, 1) := dk_42 (dk_at dksX26_isHeldByOpen_0 0 rfl rfl)
theorem dX26_isHeldByOpen_1 : decode cX26_isHeldByOpen 1 = .ok (.getfield 25, 3) := dk_180 0 25 (dk_at dksX26_isHeldByOpen_0 1 rfl rfl)
theorem dX26_isHeldByOpen_4 : decode cX26_isHeldByOpen 4 = .ok (.invokevirtual 61, 3) := dk_182 0 61 (dk_at dksX26_isHeldByOpen_0 4 rfl rfl)
theorem dX26_isHeldByOpen_7 : decode cX26_isHeldByOpen 7 = .ok (.astore_n 2, 1) := dk_77 (dk_at dksX26_isHeldByOpen_0 7 rfl rfl)
theorem dX26_isHeldByOpen_8 : decode cX26_isHeldByOpen 8 = .ok (.aload_n 2, 1) := dk_44 (dk_at dksX26_isHeldByOpen_0 8 rfl rfl)
theorem dX26_isHeldByOpen_9 : decode cX26_isHeldByOpen 9 = .ok (.invokeinterface 65 1, 5) := by decide +kernel
theorem dX26_isHeldByOpen_14 : decode cX26_isHeldByOpen 14 = .ok (.ifCond .eq 30, 3) := dk_153 0 30 (dk_at dksX26_isHeldByOpen_0 14 rfl rfl)
theorem dX26_isHeldByOpen_17 : decode cX26_isHeldByOpen 17 = .ok (.aload_n 2, 1) := dk_44 (dk_at dksX26_isHeldByOpen_0 17 rfl rfl)
theorem dX26_isHeldByOpen_18 : decode cX26_isHeldByOpen 18 = .ok (.invokeinterface 71 1, 5) := by decide +kernel
theorem dX26_isHeldByOpen_23 : decode cX26_isHeldByOpen 23 = .ok (.checkcast 75, 3) := dk_192 0 75 (dk_at dksX26_isHeldByOpen_1 0 rfl rfl)
theorem dX26_isHeldByOpen_26 : decode cX26_isHeldByOpen 26 = .ok (.astore_n 3, 1) := dk_78 (dk_at dksX26_isHeldByOpen_1 3 rfl rfl)
theorem dX26_isHeldByOpen_27 : decode cX26_isHeldByOpen 27 = .ok (.aload_n 0, 1) := dk_42 (dk_at dksX26_isHeldByOpen_1 4 rfl rfl)
theorem dX26_isHeldByOpen_28 : decode cX26_isHeldByOpen 28 = .ok (.aload_n 3, 1) := dk_45 (dk_at dksX26_isHeldByOpen_1 5 rfl rfl)
theorem dX26_isHeldByOpen_29 : decode cX26_isHeldByOpen 29 = .ok (.invokevirtual 77, 3) := dk_182 0 77 (dk_at dksX26_isHeldByOpen_1 6 rfl rfl)
theorem dX26_isHeldByOpen_32 : decode cX26_isHeldByOpen 32 = .ok (.iload_n 1, 1) := dk_27 (dk_at dksX26_isHeldByOpen_1 9 rfl rfl)
theorem dX26_isHeldByOpen_33 : decode cX26_isHeldByOpen 33 = .ok (.invokevirtual 51, 3) := dk_182 0 51 (dk_at dksX26_isHeldByOpen_1 10 rfl rfl)
theorem dX26_isHeldByOpen_36 : decode cX26_isHeldByOpen 36 = .ok (.ifCond .eq 5, 3) := dk_153 0 5 (dk_at dksX26_isHeldByOpen_1 13 rfl rfl)
theorem dX26_isHeldByOpen_39 : decode cX26_isHeldByOpen 39 = .ok (.iconst 1, 1) := dk_4 (dk_at dksX26_isHeldByOpen_1 16 rfl rfl)
theorem dX26_isHeldByOpen_40 : decode cX26_isHeldByOpen 40 = .ok (.ireturn, 1) := dk_172 (dk_at dksX26_isHeldByOpen_1 17 rfl rfl)
theorem dX26_isHeldByOpen_41 : decode cX26_isHeldByOpen 41 = .ok (.goto (-33), 3) := dk_167 255 223 (dk_at dksX26_isHeldByOpen_1 18 rfl rfl)
theorem dX26_isHeldByOpen_44 : decode cX26_isHeldByOpen 44 = .ok (.iconst 0, 1) := dk_3 (dk_at dksX26_isHeldByOpen_1 21 rfl rfl)
theorem dX26_isHeldByOpen_45 : decode cX26_isHeldByOpen 45 = .ok (.ireturn, 1) := dk_172 (dk_at dksX26_isHeldByOpen_1 22 rfl rfl)
abbrev cX26_around : ByteArray := prog_31_method_7_code
def yX26_around : MethodName := ⟨RX26, "around", "(LWeaversgateModel$Point;)Ljava/util/ArrayList;"⟩
def dkwX26_around_4 : List UInt8 := [44, 21, 5, 184, 0, 136, 182, 0, 140, 87, 132, 5, 1, 167, 255, 193, 167, 255, 164, 44, 176]
abbrev dktX26_around_4 : List UInt8 := dkwX26_around_4 ++ []
def dkwX26_around_3 : List UInt8 := [180, 0, 3, 180, 0, 129, 21, 5, 46, 21, 4, 160, 0, 23, 42, 43, 21, 5, 182, 0, 132, 153, 0, 13]
abbrev dktX26_around_3 : List UInt8 := dkwX26_around_3 ++ dktX26_around_4
def dkwX26_around_2 : List UInt8 := [180, 0, 3, 180, 0, 122, 162, 0, 57, 42, 180, 0, 3, 180, 0, 125, 21, 5, 51, 153, 0, 38, 42]
abbrev dktX26_around_2 : List UInt8 := dkwX26_around_2 ++ dktX26_around_3
def dkwX26_around_1 : List UInt8 := [153, 0, 89, 45, 185, 0, 71, 1, 0, 192, 0, 117, 182, 0, 119, 54, 4, 3, 54, 5, 21, 5, 42]
abbrev dktX26_around_1 : List UInt8 := dkwX26_around_1 ++ dktX26_around_2
def dkwX26_around_0 : List UInt8 := [187, 0, 22, 89, 183, 0, 24, 77, 42, 180, 0, 33, 182, 0, 61, 78, 45, 185, 0, 65, 1, 0]
abbrev dktX26_around_0 : List UInt8 := dkwX26_around_0 ++ dktX26_around_1
theorem dksX26_around_0 : cX26_around.data.toList.drop 0 = dktX26_around_0 := by decide +kernel
theorem dksX26_around_1 : cX26_around.data.toList.drop 22 = dktX26_around_1 := dk_seg dksX26_around_0 22 rfl rfl
theorem dksX26_around_2 : cX26_around.data.toList.drop 45 = dktX26_around_2 := dk_seg dksX26_around_1 23 rfl rfl
theorem dksX26_around_3 : cX26_around.data.toList.drop 68 = dktX26_around_3 := dk_seg dksX26_around_2 23 rfl rfl
theorem dksX26_around_4 : cX26_around.data.toList.drop 92 = dktX26_around_4 := dk_seg dksX26_around_3 24 rfl rfl
theorem dX26_around_0 : decode cX26_around 0 = .ok (.new 22, 3) := dk_187 0 22 (dk_at dksX26_around_0 0 rfl rfl)
theorem dX26_around_3 : decode cX26_around 3 = .ok (.dup, 1) := dk_89 (dk_at dksX26_around_0 3 rfl rfl)
theorem dX26_around_4 : decode cX26_around 4 = .ok (.invokespecial 24, 3) := dk_183 0 24 (dk_at dksX26_around_0 4 rfl rfl)
theorem dX26_around_7 : decode cX26_around 7 = .ok (.astore_n 2, 1) := dk_77 (dk_at dksX26_around_0 7 rfl rfl)
theorem dX26_around_8 : decode cX26_around 8 = .ok (.aload_n 0, 1) := dk_42 (dk_at dksX26_around_0 8 rfl rfl)
theorem dX26_around_9 : decode cX26_around 9 = .ok (.getfield 33, 3) := dk_180 0 33 (dk_at dksX26_around_0 9 rfl rfl)
theorem dX26_around_12 : decode cX26_around 12 = .ok (.invokevirtual 61, 3) := dk_182 0 61 (dk_at dksX26_around_0 12 rfl rfl)
theorem dX26_around_15 : decode cX26_around 15 = .ok (.astore_n 3, 1) := dk_78 (dk_at dksX26_around_0 15 rfl rfl)
theorem dX26_around_16 : decode cX26_around 16 = .ok (.aload_n 3, 1) := dk_45 (dk_at dksX26_around_0 16 rfl rfl)
theorem dX26_around_17 : decode cX26_around 17 = .ok (.invokeinterface 65 1, 5) := by decide +kernel
theorem dX26_around_22 : decode cX26_around 22 = .ok (.ifCond .eq 89, 3) := dk_153 0 89 (dk_at dksX26_around_1 0 rfl rfl)
theorem dX26_around_25 : decode cX26_around 25 = .ok (.aload_n 3, 1) := dk_45 (dk_at dksX26_around_1 3 rfl rfl)
theorem dX26_around_26 : decode cX26_around 26 = .ok (.invokeinterface 71 1, 5) := by decide +kernel
theorem dX26_around_31 : decode cX26_around 31 = .ok (.checkcast 117, 3) := dk_192 0 117 (dk_at dksX26_around_1 9 rfl rfl)
theorem dX26_around_34 : decode cX26_around 34 = .ok (.invokevirtual 119, 3) := dk_182 0 119 (dk_at dksX26_around_1 12 rfl rfl)
theorem dX26_around_37 : decode cX26_around 37 = .ok (.istore 4, 2) := dk_54 4 (dk_at dksX26_around_1 15 rfl rfl)
theorem dX26_around_39 : decode cX26_around 39 = .ok (.iconst 0, 1) := dk_3 (dk_at dksX26_around_1 17 rfl rfl)
theorem dX26_around_40 : decode cX26_around 40 = .ok (.istore 5, 2) := dk_54 5 (dk_at dksX26_around_1 18 rfl rfl)
theorem dX26_around_42 : decode cX26_around 42 = .ok (.iload 5, 2) := dk_21 5 (dk_at dksX26_around_1 20 rfl rfl)
theorem dX26_around_44 : decode cX26_around 44 = .ok (.aload_n 0, 1) := dk_42 (dk_at dksX26_around_1 22 rfl rfl)
theorem dX26_around_45 : decode cX26_around 45 = .ok (.getfield 3, 3) := dk_180 0 3 (dk_at dksX26_around_2 0 rfl rfl)
theorem dX26_around_48 : decode cX26_around 48 = .ok (.getfield 122, 3) := dk_180 0 122 (dk_at dksX26_around_2 3 rfl rfl)
theorem dX26_around_51 : decode cX26_around 51 = .ok (.if_icmp .ge 57, 3) := dk_162 0 57 (dk_at dksX26_around_2 6 rfl rfl)
theorem dX26_around_54 : decode cX26_around 54 = .ok (.aload_n 0, 1) := dk_42 (dk_at dksX26_around_2 9 rfl rfl)
theorem dX26_around_55 : decode cX26_around 55 = .ok (.getfield 3, 3) := dk_180 0 3 (dk_at dksX26_around_2 10 rfl rfl)
theorem dX26_around_58 : decode cX26_around 58 = .ok (.getfield 125, 3) := dk_180 0 125 (dk_at dksX26_around_2 13 rfl rfl)
theorem dX26_around_61 : decode cX26_around 61 = .ok (.iload 5, 2) := dk_21 5 (dk_at dksX26_around_2 16 rfl rfl)
theorem dX26_around_63 : decode cX26_around 63 = .ok (.baload, 1) := dk_51 (dk_at dksX26_around_2 18 rfl rfl)
theorem dX26_around_64 : decode cX26_around 64 = .ok (.ifCond .eq 38, 3) := dk_153 0 38 (dk_at dksX26_around_2 19 rfl rfl)
theorem dX26_around_67 : decode cX26_around 67 = .ok (.aload_n 0, 1) := dk_42 (dk_at dksX26_around_2 22 rfl rfl)
theorem dX26_around_68 : decode cX26_around 68 = .ok (.getfield 3, 3) := dk_180 0 3 (dk_at dksX26_around_3 0 rfl rfl)
theorem dX26_around_71 : decode cX26_around 71 = .ok (.getfield 129, 3) := dk_180 0 129 (dk_at dksX26_around_3 3 rfl rfl)
theorem dX26_around_74 : decode cX26_around 74 = .ok (.iload 5, 2) := dk_21 5 (dk_at dksX26_around_3 6 rfl rfl)
theorem dX26_around_76 : decode cX26_around 76 = .ok (.iaload, 1) := dk_46 (dk_at dksX26_around_3 8 rfl rfl)
theorem dX26_around_77 : decode cX26_around 77 = .ok (.iload 4, 2) := dk_21 4 (dk_at dksX26_around_3 9 rfl rfl)
theorem dX26_around_79 : decode cX26_around 79 = .ok (.if_icmp .ne 23, 3) := dk_160 0 23 (dk_at dksX26_around_3 11 rfl rfl)
theorem dX26_around_82 : decode cX26_around 82 = .ok (.aload_n 0, 1) := dk_42 (dk_at dksX26_around_3 14 rfl rfl)
theorem dX26_around_83 : decode cX26_around 83 = .ok (.aload_n 1, 1) := dk_43 (dk_at dksX26_around_3 15 rfl rfl)
theorem dX26_around_84 : decode cX26_around 84 = .ok (.iload 5, 2) := dk_21 5 (dk_at dksX26_around_3 16 rfl rfl)
theorem dX26_around_86 : decode cX26_around 86 = .ok (.invokevirtual 132, 3) := dk_182 0 132 (dk_at dksX26_around_3 18 rfl rfl)
theorem dX26_around_89 : decode cX26_around 89 = .ok (.ifCond .eq 13, 3) := dk_153 0 13 (dk_at dksX26_around_3 21 rfl rfl)
theorem dX26_around_92 : decode cX26_around 92 = .ok (.aload_n 2, 1) := dk_44 (dk_at dksX26_around_4 0 rfl rfl)
theorem dX26_around_93 : decode cX26_around 93 = .ok (.iload 5, 2) := dk_21 5 (dk_at dksX26_around_4 1 rfl rfl)
theorem dX26_around_95 : decode cX26_around 95 = .ok (.invokestatic 136, 3) := dk_184 0 136 (dk_at dksX26_around_4 3 rfl rfl)
theorem dX26_around_98 : decode cX26_around 98 = .ok (.invokevirtual 140, 3) := dk_182 0 140 (dk_at dksX26_around_4 6 rfl rfl)
theorem dX26_around_101 : decode cX26_around 101 = .ok (.pop, 1) := dk_87 (dk_at dksX26_around_4 9 rfl rfl)
theorem dX26_around_102 : decode cX26_around 102 = .ok (.iinc 5 1, 3) := dk_132 5 1 (dk_at dksX26_around_4 10 rfl rfl)
theorem dX26_around_105 : decode cX26_around 105 = .ok (.goto (-63), 3) := dk_167 255 193 (dk_at dksX26_around_4 13 rfl rfl)
theorem dX26_around_108 : decode cX26_around 108 = .ok (.goto (-92), 3) := dk_167 255 164 (dk_at dksX26_around_4 16 rfl rfl)
theorem dX26_around_111 : decode cX26_around 111 = .ok (.aload_n 2, 1) := dk_44 (dk_at dksX26_around_4 19 rfl rfl)
theorem dX26_around_112 : decode cX26_around 112 = .ok (.areturn, 1) := dk_176 (dk_at dksX26_around_4 20 rfl rfl)
abbrev cX26_isTaken : ByteArray := prog_31_method_6_code
def yX26_isTaken : MethodName := ⟨RX26, "isTaken", "(LWeaversgateModel$Point;I)Z"⟩
def dkwX26_isTaken_3 : List UInt8 := [28, 46, 182, 0, 51, 172]
abbrev dktX26_isTaken_3 : List UInt8 := dkwX26_isTaken_3 ++ []
def dkwX26_isTaken_2 : List UInt8 := [180, 0, 18, 89, 180, 0, 113, 4, 96, 181, 0, 113, 42, 43, 182, 0, 77, 42, 180, 0, 3, 180, 0, 102]
abbrev dktX26_isTaken_2 : List UInt8 := dkwX26_isTaken_2 ++ dktX26_isTaken_3
def dkwX26_isTaken_1 : List UInt8 := [16, 109, 62, 29, 16, 109, 159, 0, 15, 29, 16, 121, 160, 0, 7, 4, 167, 0, 4, 3, 172, 42]
abbrev dktX26_isTaken_1 : List UInt8 := dkwX26_isTaken_1 ++ dktX26_isTaken_2
def dkwX26_isTaken_0 : List UInt8 := [42, 180, 0, 35, 153, 0, 20, 43, 182, 0, 81, 2, 159, 0, 12, 42, 43, 28, 182, 0, 109, 167, 0, 5]
abbrev dktX26_isTaken_0 : List UInt8 := dkwX26_isTaken_0 ++ dktX26_isTaken_1
theorem dksX26_isTaken_0 : cX26_isTaken.data.toList.drop 0 = dktX26_isTaken_0 := by decide +kernel
theorem dksX26_isTaken_1 : cX26_isTaken.data.toList.drop 24 = dktX26_isTaken_1 := dk_seg dksX26_isTaken_0 24 rfl rfl
theorem dksX26_isTaken_2 : cX26_isTaken.data.toList.drop 46 = dktX26_isTaken_2 := dk_seg dksX26_isTaken_1 22 rfl rfl
theorem dksX26_isTaken_3 : cX26_isTaken.data.toList.drop 70 = dktX26_isTaken_3 := dk_seg dksX26_isTaken_2 24 rfl rfl
theorem dX26_isTaken_0 : decode cX26_isTaken 0 = .ok (.aload_n 0, 1) := dk_42 (dk_at dksX26_isTaken_0 0 rfl rfl)
theorem dX26_isTaken_1 : decode cX26_isTaken 1 = .ok (.getfield 35, 3) := dk_180 0 35 (dk_at dksX26_isTaken_0 1 rfl rfl)
theorem dX26_isTaken_4 : decode cX26_isTaken 4 = .ok (.ifCond .eq 20, 3) := dk_153 0 20 (dk_at dksX26_isTaken_0 4 rfl rfl)
theorem dX26_isTaken_7 : decode cX26_isTaken 7 = .ok (.aload_n 1, 1) := dk_43 (dk_at dksX26_isTaken_0 7 rfl rfl)
theorem dX26_isTaken_8 : decode cX26_isTaken 8 = .ok (.invokevirtual 81, 3) := dk_182 0 81 (dk_at dksX26_isTaken_0 8 rfl rfl)
theorem dX26_isTaken_11 : decode cX26_isTaken 11 = .ok (.iconst (-1), 1) := dk_2 (dk_at dksX26_isTaken_0 11 rfl rfl)
theorem dX26_isTaken_12 : decode cX26_isTaken 12 = .ok (.if_icmp .eq 12, 3) := dk_159 0 12 (dk_at dksX26_isTaken_0 12 rfl rfl)
theorem dX26_isTaken_15 : decode cX26_isTaken 15 = .ok (.aload_n 0, 1) := dk_42 (dk_at dksX26_isTaken_0 15 rfl rfl)
theorem dX26_isTaken_16 : decode cX26_isTaken 16 = .ok (.aload_n 1, 1) := dk_43 (dk_at dksX26_isTaken_0 16 rfl rfl)
theorem dX26_isTaken_17 : decode cX26_isTaken 17 = .ok (.iload_n 2, 1) := dk_28 (dk_at dksX26_isTaken_0 17 rfl rfl)
theorem dX26_isTaken_18 : decode cX26_isTaken 18 = .ok (.invokevirtual 109, 3) := dk_182 0 109 (dk_at dksX26_isTaken_0 18 rfl rfl)
theorem dX26_isTaken_21 : decode cX26_isTaken 21 = .ok (.goto 5, 3) := dk_167 0 5 (dk_at dksX26_isTaken_0 21 rfl rfl)
theorem dX26_isTaken_24 : decode cX26_isTaken 24 = .ok (.bipush 109, 2) := dk_16 109 (dk_at dksX26_isTaken_1 0 rfl rfl)
theorem dX26_isTaken_26 : decode cX26_isTaken 26 = .ok (.istore_n 3, 1) := dk_62 (dk_at dksX26_isTaken_1 2 rfl rfl)
theorem dX26_isTaken_27 : decode cX26_isTaken 27 = .ok (.iload_n 3, 1) := dk_29 (dk_at dksX26_isTaken_1 3 rfl rfl)
theorem dX26_isTaken_28 : decode cX26_isTaken 28 = .ok (.bipush 109, 2) := dk_16 109 (dk_at dksX26_isTaken_1 4 rfl rfl)
theorem dX26_isTaken_30 : decode cX26_isTaken 30 = .ok (.if_icmp .eq 15, 3) := dk_159 0 15 (dk_at dksX26_isTaken_1 6 rfl rfl)
theorem dX26_isTaken_33 : decode cX26_isTaken 33 = .ok (.iload_n 3, 1) := dk_29 (dk_at dksX26_isTaken_1 9 rfl rfl)
theorem dX26_isTaken_34 : decode cX26_isTaken 34 = .ok (.bipush 121, 2) := dk_16 121 (dk_at dksX26_isTaken_1 10 rfl rfl)
theorem dX26_isTaken_36 : decode cX26_isTaken 36 = .ok (.if_icmp .ne 7, 3) := dk_160 0 7 (dk_at dksX26_isTaken_1 12 rfl rfl)
theorem dX26_isTaken_39 : decode cX26_isTaken 39 = .ok (.iconst 1, 1) := dk_4 (dk_at dksX26_isTaken_1 15 rfl rfl)
theorem dX26_isTaken_40 : decode cX26_isTaken 40 = .ok (.goto 4, 3) := dk_167 0 4 (dk_at dksX26_isTaken_1 16 rfl rfl)
theorem dX26_isTaken_43 : decode cX26_isTaken 43 = .ok (.iconst 0, 1) := dk_3 (dk_at dksX26_isTaken_1 19 rfl rfl)
theorem dX26_isTaken_44 : decode cX26_isTaken 44 = .ok (.ireturn, 1) := dk_172 (dk_at dksX26_isTaken_1 20 rfl rfl)
theorem dX26_isTaken_45 : decode cX26_isTaken 45 = .ok (.aload_n 0, 1) := dk_42 (dk_at dksX26_isTaken_1 21 rfl rfl)
theorem dX26_isTaken_46 : decode cX26_isTaken 46 = .ok (.getfield 18, 3) := dk_180 0 18 (dk_at dksX26_isTaken_2 0 rfl rfl)
theorem dX26_isTaken_49 : decode cX26_isTaken 49 = .ok (.dup, 1) := dk_89 (dk_at dksX26_isTaken_2 3 rfl rfl)
theorem dX26_isTaken_50 : decode cX26_isTaken 50 = .ok (.getfield 113, 3) := dk_180 0 113 (dk_at dksX26_isTaken_2 4 rfl rfl)
theorem dX26_isTaken_53 : decode cX26_isTaken 53 = .ok (.iconst 1, 1) := dk_4 (dk_at dksX26_isTaken_2 7 rfl rfl)
theorem dX26_isTaken_54 : decode cX26_isTaken 54 = .ok (.iadd, 1) := dk_96 (dk_at dksX26_isTaken_2 8 rfl rfl)
theorem dX26_isTaken_55 : decode cX26_isTaken 55 = .ok (.putfield 113, 3) := dk_181 0 113 (dk_at dksX26_isTaken_2 9 rfl rfl)
theorem dX26_isTaken_58 : decode cX26_isTaken 58 = .ok (.aload_n 0, 1) := dk_42 (dk_at dksX26_isTaken_2 12 rfl rfl)
theorem dX26_isTaken_59 : decode cX26_isTaken 59 = .ok (.aload_n 1, 1) := dk_43 (dk_at dksX26_isTaken_2 13 rfl rfl)
theorem dX26_isTaken_60 : decode cX26_isTaken 60 = .ok (.invokevirtual 77, 3) := dk_182 0 77 (dk_at dksX26_isTaken_2 14 rfl rfl)
theorem dX26_isTaken_63 : decode cX26_isTaken 63 = .ok (.aload_n 0, 1) := dk_42 (dk_at dksX26_isTaken_2 17 rfl rfl)
theorem dX26_isTaken_64 : decode cX26_isTaken 64 = .ok (.getfield 3, 3) := dk_180 0 3 (dk_at dksX26_isTaken_2 18 rfl rfl)
theorem dX26_isTaken_67 : decode cX26_isTaken 67 = .ok (.getfield 102, 3) := dk_180 0 102 (dk_at dksX26_isTaken_2 21 rfl rfl)
theorem dX26_isTaken_70 : decode cX26_isTaken 70 = .ok (.iload_n 2, 1) := dk_28 (dk_at dksX26_isTaken_3 0 rfl rfl)
theorem dX26_isTaken_71 : decode cX26_isTaken 71 = .ok (.iaload, 1) := dk_46 (dk_at dksX26_isTaken_3 1 rfl rfl)
theorem dX26_isTaken_72 : decode cX26_isTaken 72 = .ok (.invokevirtual 51, 3) := dk_182 0 51 (dk_at dksX26_isTaken_3 2 rfl rfl)
theorem dX26_isTaken_75 : decode cX26_isTaken 75 = .ok (.ireturn, 1) := dk_172 (dk_at dksX26_isTaken_3 5 rfl rfl)
abbrev cX26_spotMatch : ByteArray := prog_31_method_5_code
def yX26_spotMatch : MethodName := ⟨RX26, "spotMatch", "(LWeaversgateModel$Point;I)C"⟩
def dkwX26_spotMatch_4 : List UInt8 := [167, 255, 185, 16, 109, 172]
abbrev dktX26_spotMatch_4 : List UInt8 := dkwX26_spotMatch_4 ++ []
def dkwX26_spotMatch_3 : List UInt8 := [25, 4, 43, 182, 0, 81, 43, 182, 0, 84, 42, 180, 0, 3, 180, 0, 102, 28, 46, 182, 0, 105, 172]
abbrev dktX26_spotMatch_3 : List UInt8 := dkwX26_spotMatch_3 ++ dktX26_spotMatch_4
def dkwX26_spotMatch_2 : List UInt8 := [43, 182, 0, 97, 160, 0, 42, 25, 4, 182, 0, 98, 43, 182, 0, 101, 160, 0, 30, 42, 180, 0, 3]
abbrev dktX26_spotMatch_2 : List UInt8 := dkwX26_spotMatch_2 ++ dktX26_spotMatch_3
def dkwX26_spotMatch_1 : List UInt8 := [185, 0, 65, 1, 0, 153, 0, 68, 45, 185, 0, 71, 1, 0, 192, 0, 91, 58, 4, 25, 4, 182, 0, 93]
abbrev dktX26_spotMatch_1 : List UInt8 := dkwX26_spotMatch_1 ++ dktX26_spotMatch_2
def dkwX26_spotMatch_0 : List UInt8 := [42, 180, 0, 3, 43, 182, 0, 81, 43, 182, 0, 84, 182, 0, 87, 182, 0, 61, 78, 45]
abbrev dktX26_spotMatch_0 : List UInt8 := dkwX26_spotMatch_0 ++ dktX26_spotMatch_1
theorem dksX26_spotMatch_0 : cX26_spotMatch.data.toList.drop 0 = dktX26_spotMatch_0 := by decide +kernel
theorem dksX26_spotMatch_1 : cX26_spotMatch.data.toList.drop 20 = dktX26_spotMatch_1 := dk_seg dksX26_spotMatch_0 20 rfl rfl
theorem dksX26_spotMatch_2 : cX26_spotMatch.data.toList.drop 44 = dktX26_spotMatch_2 := dk_seg dksX26_spotMatch_1 24 rfl rfl
theorem dksX26_spotMatch_3 : cX26_spotMatch.data.toList.drop 67 = dktX26_spotMatch_3 := dk_seg dksX26_spotMatch_2 23 rfl rfl
theorem dksX26_spotMatch_4 : cX26_spotMatch.data.toList.drop 90 = dktX26_spotMatch_4 := dk_seg dksX26_spotMatch_3 23 rfl rfl
theorem dX26_spotMatch_0 : decode cX26_spotMatch 0 = .ok (.aload_n 0, 1) := dk_42 (dk_at dksX26_spotMatch_0 0 rfl rfl)
theorem dX26_spotMatch_1 : decode cX26_spotMatch 1 = .ok (.getfield 3, 3) := dk_180 0 3 (dk_at dksX26_spotMatch_0 1 rfl rfl)
theorem dX26_spotMatch_4 : decode cX26_spotMatch 4 = .ok (.aload_n 1, 1) := dk_43 (dk_at dksX26_spotMatch_0 4 rfl rfl)
theorem dX26_spotMatch_5 : decode cX26_spotMatch 5 = .ok (.invokevirtual 81, 3) := dk_182 0 81 (dk_at dksX26_spotMatch_0 5 rfl rfl)
theorem dX26_spotMatch_8 : decode cX26_spotMatch 8 = .ok (.aload_n 1, 1) := dk_43 (dk_at dksX26_spotMatch_0 8 rfl rfl)
theorem dX26_spotMatch_9 : decode cX26_spotMatch 9 = .ok (.invokevirtual 84, 3) := dk_182 0 84 (dk_at dksX26_spotMatch_0 9 rfl rfl)
theorem dX26_spotMatch_12 : decode cX26_spotMatch 12 = .ok (.invokevirtual 87, 3) := dk_182 0 87 (dk_at dksX26_spotMatch_0 12 rfl rfl)
theorem dX26_spotMatch_15 : decode cX26_spotMatch 15 = .ok (.invokevirtual 61, 3) := dk_182 0 61 (dk_at dksX26_spotMatch_0 15 rfl rfl)
theorem dX26_spotMatch_18 : decode cX26_spotMatch 18 = .ok (.astore_n 3, 1) := dk_78 (dk_at dksX26_spotMatch_0 18 rfl rfl)
theorem dX26_spotMatch_19 : decode cX26_spotMatch 19 = .ok (.aload_n 3, 1) := dk_45 (dk_at dksX26_spotMatch_0 19 rfl rfl)
theorem dX26_spotMatch_20 : decode cX26_spotMatch 20 = .ok (.invokeinterface 65 1, 5) := by decide +kernel
theorem dX26_spotMatch_25 : decode cX26_spotMatch 25 = .ok (.ifCond .eq 68, 3) := dk_153 0 68 (dk_at dksX26_spotMatch_1 5 rfl rfl)
theorem dX26_spotMatch_28 : decode cX26_spotMatch 28 = .ok (.aload_n 3, 1) := dk_45 (dk_at dksX26_spotMatch_1 8 rfl rfl)
theorem dX26_spotMatch_29 : decode cX26_spotMatch 29 = .ok (.invokeinterface 71 1, 5) := by decide +kernel
theorem dX26_spotMatch_34 : decode cX26_spotMatch 34 = .ok (.checkcast 91, 3) := dk_192 0 91 (dk_at dksX26_spotMatch_1 14 rfl rfl)
theorem dX26_spotMatch_37 : decode cX26_spotMatch 37 = .ok (.astore 4, 2) := dk_58 4 (dk_at dksX26_spotMatch_1 17 rfl rfl)
theorem dX26_spotMatch_39 : decode cX26_spotMatch 39 = .ok (.aload 4, 2) := dk_25 4 (dk_at dksX26_spotMatch_1 19 rfl rfl)
theorem dX26_spotMatch_41 : decode cX26_spotMatch 41 = .ok (.invokevirtual 93, 3) := dk_182 0 93 (dk_at dksX26_spotMatch_1 21 rfl rfl)
theorem dX26_spotMatch_44 : decode cX26_spotMatch 44 = .ok (.aload_n 1, 1) := dk_43 (dk_at dksX26_spotMatch_2 0 rfl rfl)
theorem dX26_spotMatch_45 : decode cX26_spotMatch 45 = .ok (.invokevirtual 97, 3) := dk_182 0 97 (dk_at dksX26_spotMatch_2 1 rfl rfl)
theorem dX26_spotMatch_48 : decode cX26_spotMatch 48 = .ok (.if_icmp .ne 42, 3) := dk_160 0 42 (dk_at dksX26_spotMatch_2 4 rfl rfl)
theorem dX26_spotMatch_51 : decode cX26_spotMatch 51 = .ok (.aload 4, 2) := dk_25 4 (dk_at dksX26_spotMatch_2 7 rfl rfl)
theorem dX26_spotMatch_53 : decode cX26_spotMatch 53 = .ok (.invokevirtual 98, 3) := dk_182 0 98 (dk_at dksX26_spotMatch_2 9 rfl rfl)
theorem dX26_spotMatch_56 : decode cX26_spotMatch 56 = .ok (.aload_n 1, 1) := dk_43 (dk_at dksX26_spotMatch_2 12 rfl rfl)
theorem dX26_spotMatch_57 : decode cX26_spotMatch 57 = .ok (.invokevirtual 101, 3) := dk_182 0 101 (dk_at dksX26_spotMatch_2 13 rfl rfl)
theorem dX26_spotMatch_60 : decode cX26_spotMatch 60 = .ok (.if_icmp .ne 30, 3) := dk_160 0 30 (dk_at dksX26_spotMatch_2 16 rfl rfl)
theorem dX26_spotMatch_63 : decode cX26_spotMatch 63 = .ok (.aload_n 0, 1) := dk_42 (dk_at dksX26_spotMatch_2 19 rfl rfl)
theorem dX26_spotMatch_64 : decode cX26_spotMatch 64 = .ok (.getfield 3, 3) := dk_180 0 3 (dk_at dksX26_spotMatch_2 20 rfl rfl)
theorem dX26_spotMatch_67 : decode cX26_spotMatch 67 = .ok (.aload 4, 2) := dk_25 4 (dk_at dksX26_spotMatch_3 0 rfl rfl)
theorem dX26_spotMatch_69 : decode cX26_spotMatch 69 = .ok (.aload_n 1, 1) := dk_43 (dk_at dksX26_spotMatch_3 2 rfl rfl)
theorem dX26_spotMatch_70 : decode cX26_spotMatch 70 = .ok (.invokevirtual 81, 3) := dk_182 0 81 (dk_at dksX26_spotMatch_3 3 rfl rfl)
theorem dX26_spotMatch_73 : decode cX26_spotMatch 73 = .ok (.aload_n 1, 1) := dk_43 (dk_at dksX26_spotMatch_3 6 rfl rfl)
theorem dX26_spotMatch_74 : decode cX26_spotMatch 74 = .ok (.invokevirtual 84, 3) := dk_182 0 84 (dk_at dksX26_spotMatch_3 7 rfl rfl)
theorem dX26_spotMatch_77 : decode cX26_spotMatch 77 = .ok (.aload_n 0, 1) := dk_42 (dk_at dksX26_spotMatch_3 10 rfl rfl)
theorem dX26_spotMatch_78 : decode cX26_spotMatch 78 = .ok (.getfield 3, 3) := dk_180 0 3 (dk_at dksX26_spotMatch_3 11 rfl rfl)
theorem dX26_spotMatch_81 : decode cX26_spotMatch 81 = .ok (.getfield 102, 3) := dk_180 0 102 (dk_at dksX26_spotMatch_3 14 rfl rfl)
theorem dX26_spotMatch_84 : decode cX26_spotMatch 84 = .ok (.iload_n 2, 1) := dk_28 (dk_at dksX26_spotMatch_3 17 rfl rfl)
theorem dX26_spotMatch_85 : decode cX26_spotMatch 85 = .ok (.iaload, 1) := dk_46 (dk_at dksX26_spotMatch_3 18 rfl rfl)
theorem dX26_spotMatch_86 : decode cX26_spotMatch 86 = .ok (.invokevirtual 105, 3) := dk_182 0 105 (dk_at dksX26_spotMatch_3 19 rfl rfl)
theorem dX26_spotMatch_89 : decode cX26_spotMatch 89 = .ok (.ireturn, 1) := dk_172 (dk_at dksX26_spotMatch_3 22 rfl rfl)
theorem dX26_spotMatch_90 : decode cX26_spotMatch 90 = .ok (.goto (-71), 3) := dk_167 255 185 (dk_at dksX26_spotMatch_4 0 rfl rfl)
theorem dX26_spotMatch_93 : decode cX26_spotMatch 93 = .ok (.bipush 109, 2) := dk_16 109 (dk_at dksX26_spotMatch_4 3 rfl rfl)
theorem dX26_spotMatch_95 : decode cX26_spotMatch 95 = .ok (.ireturn, 1) := dk_172 (dk_at dksX26_spotMatch_4 5 rfl rfl)
abbrev cX26_goes : ByteArray := prog_31_method_10_code
def yX26_goes : MethodName := ⟨RX26, "goes", "(LWeaversgateModel$Point;LWeaversgateModel$Thing;Ljava/util/ArrayList;II)I"⟩
def dkwX26_goes_6 : List UInt8 := [21, 6, 21, 8, 182, 0, 201, 21, 8, 172]
abbrev dktX26_goes_6 : List UInt8 := dkwX26_goes_6 ++ []
def dkwX26_goes_5 : List UInt8 := [180, 0, 207, 182, 0, 201, 25, 9, 191, 21, 7, 16, 97, 159, 0, 10, 21, 7, 16, 102, 160, 0, 11, 42]
abbrev dktX26_goes_5 : List UInt8 := dkwX26_goes_5 ++ dktX26_goes_6
def dkwX26_goes_4 : List UInt8 := [167, 0, 33, 58, 9, 21, 7, 16, 120, 159, 0, 10, 21, 7, 16, 102, 160, 0, 14, 42, 21, 6, 25, 9]
abbrev dktX26_goes_4 : List UInt8 := dkwX26_goes_4 ++ dktX26_goes_5
def dkwX26_goes_3 : List UInt8 := [21, 6, 21, 5, 182, 0, 201, 42, 43, 44, 45, 21, 4, 4, 96, 21, 5, 182, 0, 172, 54, 8]
abbrev dktX26_goes_3 : List UInt8 := dkwX26_goes_3 ++ dktX26_goes_4
def dkwX26_goes_2 : List UInt8 := [160, 0, 15, 42, 43, 44, 45, 21, 4, 21, 5, 182, 0, 198, 172, 21, 7, 16, 98, 160, 0, 11, 42]
abbrev dktX26_goes_2 : List UInt8 := dkwX26_goes_2 ++ dktX26_goes_3
def dkwX26_goes_1 : List UInt8 := [192, 0, 117, 182, 0, 119, 54, 6, 42, 180, 0, 3, 180, 0, 185, 21, 6, 52, 54, 7, 21, 7, 16, 114]
abbrev dktX26_goes_1 : List UInt8 := dkwX26_goes_1 ++ dktX26_goes_2
def dkwX26_goes_0 : List UInt8 := [21, 4, 45, 182, 0, 147, 160, 0, 12, 42, 43, 44, 21, 5, 182, 0, 191, 172, 45, 21, 4, 182, 0, 195]
abbrev dktX26_goes_0 : List UInt8 := dkwX26_goes_0 ++ dktX26_goes_1
theorem dksX26_goes_0 : cX26_goes.data.toList.drop 0 = dktX26_goes_0 := by decide +kernel
theorem dksX26_goes_1 : cX26_goes.data.toList.drop 24 = dktX26_goes_1 := dk_seg dksX26_goes_0 24 rfl rfl
theorem dksX26_goes_2 : cX26_goes.data.toList.drop 48 = dktX26_goes_2 := dk_seg dksX26_goes_1 24 rfl rfl
theorem dksX26_goes_3 : cX26_goes.data.toList.drop 71 = dktX26_goes_3 := dk_seg dksX26_goes_2 23 rfl rfl
theorem dksX26_goes_4 : cX26_goes.data.toList.drop 93 = dktX26_goes_4 := dk_seg dksX26_goes_3 22 rfl rfl
theorem dksX26_goes_5 : cX26_goes.data.toList.drop 117 = dktX26_goes_5 := dk_seg dksX26_goes_4 24 rfl rfl
theorem dksX26_goes_6 : cX26_goes.data.toList.drop 141 = dktX26_goes_6 := dk_seg dksX26_goes_5 24 rfl rfl
theorem dX26_goes_0 : decode cX26_goes 0 = .ok (.iload 4, 2) := dk_21 4 (dk_at dksX26_goes_0 0 rfl rfl)
theorem dX26_goes_2 : decode cX26_goes 2 = .ok (.aload_n 3, 1) := dk_45 (dk_at dksX26_goes_0 2 rfl rfl)
theorem dX26_goes_3 : decode cX26_goes 3 = .ok (.invokevirtual 147, 3) := dk_182 0 147 (dk_at dksX26_goes_0 3 rfl rfl)
theorem dX26_goes_6 : decode cX26_goes 6 = .ok (.if_icmp .ne 12, 3) := dk_160 0 12 (dk_at dksX26_goes_0 6 rfl rfl)
theorem dX26_goes_9 : decode cX26_goes 9 = .ok (.aload_n 0, 1) := dk_42 (dk_at dksX26_goes_0 9 rfl rfl)
theorem dX26_goes_10 : decode cX26_goes 10 = .ok (.aload_n 1, 1) := dk_43 (dk_at dksX26_goes_0 10 rfl rfl)
theorem dX26_goes_11 : decode cX26_goes 11 = .ok (.aload_n 2, 1) := dk_44 (dk_at dksX26_goes_0 11 rfl rfl)
theorem dX26_goes_12 : decode cX26_goes 12 = .ok (.iload 5, 2) := dk_21 5 (dk_at dksX26_goes_0 12 rfl rfl)
theorem dX26_goes_14 : decode cX26_goes 14 = .ok (.invokevirtual 191, 3) := dk_182 0 191 (dk_at dksX26_goes_0 14 rfl rfl)
theorem dX26_goes_17 : decode cX26_goes 17 = .ok (.ireturn, 1) := dk_172 (dk_at dksX26_goes_0 17 rfl rfl)
theorem dX26_goes_18 : decode cX26_goes 18 = .ok (.aload_n 3, 1) := dk_45 (dk_at dksX26_goes_0 18 rfl rfl)
theorem dX26_goes_19 : decode cX26_goes 19 = .ok (.iload 4, 2) := dk_21 4 (dk_at dksX26_goes_0 19 rfl rfl)
theorem dX26_goes_21 : decode cX26_goes 21 = .ok (.invokevirtual 195, 3) := dk_182 0 195 (dk_at dksX26_goes_0 21 rfl rfl)
theorem dX26_goes_24 : decode cX26_goes 24 = .ok (.checkcast 117, 3) := dk_192 0 117 (dk_at dksX26_goes_1 0 rfl rfl)
theorem dX26_goes_27 : decode cX26_goes 27 = .ok (.invokevirtual 119, 3) := dk_182 0 119 (dk_at dksX26_goes_1 3 rfl rfl)
theorem dX26_goes_30 : decode cX26_goes 30 = .ok (.istore 6, 2) := dk_54 6 (dk_at dksX26_goes_1 6 rfl rfl)
theorem dX26_goes_32 : decode cX26_goes 32 = .ok (.aload_n 0, 1) := dk_42 (dk_at dksX26_goes_1 8 rfl rfl)
theorem dX26_goes_33 : decode cX26_goes 33 = .ok (.getfield 3, 3) := dk_180 0 3 (dk_at dksX26_goes_1 9 rfl rfl)
theorem dX26_goes_36 : decode cX26_goes 36 = .ok (.getfield 185, 3) := dk_180 0 185 (dk_at dksX26_goes_1 12 rfl rfl)
theorem dX26_goes_39 : decode cX26_goes 39 = .ok (.iload 6, 2) := dk_21 6 (dk_at dksX26_goes_1 15 rfl rfl)
theorem dX26_goes_41 : decode cX26_goes 41 = .ok (.caload, 1) := dk_52 (dk_at dksX26_goes_1 17 rfl rfl)
theorem dX26_goes_42 : decode cX26_goes 42 = .ok (.istore 7, 2) := dk_54 7 (dk_at dksX26_goes_1 18 rfl rfl)
theorem dX26_goes_44 : decode cX26_goes 44 = .ok (.iload 7, 2) := dk_21 7 (dk_at dksX26_goes_1 20 rfl rfl)
theorem dX26_goes_46 : decode cX26_goes 46 = .ok (.bipush 114, 2) := dk_16 114 (dk_at dksX26_goes_1 22 rfl rfl)
theorem dX26_goes_48 : decode cX26_goes 48 = .ok (.if_icmp .ne 15, 3) := dk_160 0 15 (dk_at dksX26_goes_2 0 rfl rfl)
theorem dX26_goes_51 : decode cX26_goes 51 = .ok (.aload_n 0, 1) := dk_42 (dk_at dksX26_goes_2 3 rfl rfl)
theorem dX26_goes_52 : decode cX26_goes 52 = .ok (.aload_n 1, 1) := dk_43 (dk_at dksX26_goes_2 4 rfl rfl)
theorem dX26_goes_53 : decode cX26_goes 53 = .ok (.aload_n 2, 1) := dk_44 (dk_at dksX26_goes_2 5 rfl rfl)
theorem dX26_goes_54 : decode cX26_goes 54 = .ok (.aload_n 3, 1) := dk_45 (dk_at dksX26_goes_2 6 rfl rfl)
theorem dX26_goes_55 : decode cX26_goes 55 = .ok (.iload 4, 2) := dk_21 4 (dk_at dksX26_goes_2 7 rfl rfl)
theorem dX26_goes_57 : decode cX26_goes 57 = .ok (.iload 5, 2) := dk_21 5 (dk_at dksX26_goes_2 9 rfl rfl)
theorem dX26_goes_59 : decode cX26_goes 59 = .ok (.invokevirtual 198, 3) := dk_182 0 198 (dk_at dksX26_goes_2 11 rfl rfl)
theorem dX26_goes_62 : decode cX26_goes 62 = .ok (.ireturn, 1) := dk_172 (dk_at dksX26_goes_2 14 rfl rfl)
theorem dX26_goes_63 : decode cX26_goes 63 = .ok (.iload 7, 2) := dk_21 7 (dk_at dksX26_goes_2 15 rfl rfl)
theorem dX26_goes_65 : decode cX26_goes 65 = .ok (.bipush 98, 2) := dk_16 98 (dk_at dksX26_goes_2 17 rfl rfl)
theorem dX26_goes_67 : decode cX26_goes 67 = .ok (.if_icmp .ne 11, 3) := dk_160 0 11 (dk_at dksX26_goes_2 19 rfl rfl)
theorem dX26_goes_70 : decode cX26_goes 70 = .ok (.aload_n 0, 1) := dk_42 (dk_at dksX26_goes_2 22 rfl rfl)
theorem dX26_goes_71 : decode cX26_goes 71 = .ok (.iload 6, 2) := dk_21 6 (dk_at dksX26_goes_3 0 rfl rfl)
theorem dX26_goes_73 : decode cX26_goes 73 = .ok (.iload 5, 2) := dk_21 5 (dk_at dksX26_goes_3 2 rfl rfl)
theorem dX26_goes_75 : decode cX26_goes 75 = .ok (.invokevirtual 201, 3) := dk_182 0 201 (dk_at dksX26_goes_3 4 rfl rfl)
theorem dX26_goes_78 : decode cX26_goes 78 = .ok (.aload_n 0, 1) := dk_42 (dk_at dksX26_goes_3 7 rfl rfl)
theorem dX26_goes_79 : decode cX26_goes 79 = .ok (.aload_n 1, 1) := dk_43 (dk_at dksX26_goes_3 8 rfl rfl)
theorem dX26_goes_80 : decode cX26_goes 80 = .ok (.aload_n 2, 1) := dk_44 (dk_at dksX26_goes_3 9 rfl rfl)
theorem dX26_goes_81 : decode cX26_goes 81 = .ok (.aload_n 3, 1) := dk_45 (dk_at dksX26_goes_3 10 rfl rfl)
theorem dX26_goes_82 : decode cX26_goes 82 = .ok (.iload 4, 2) := dk_21 4 (dk_at dksX26_goes_3 11 rfl rfl)
theorem dX26_goes_84 : decode cX26_goes 84 = .ok (.iconst 1, 1) := dk_4 (dk_at dksX26_goes_3 13 rfl rfl)
theorem dX26_goes_85 : decode cX26_goes 85 = .ok (.iadd, 1) := dk_96 (dk_at dksX26_goes_3 14 rfl rfl)
theorem dX26_goes_86 : decode cX26_goes 86 = .ok (.iload 5, 2) := dk_21 5 (dk_at dksX26_goes_3 15 rfl rfl)
theorem dX26_goes_88 : decode cX26_goes 88 = .ok (.invokevirtual 172, 3) := dk_182 0 172 (dk_at dksX26_goes_3 17 rfl rfl)
theorem dX26_goes_91 : decode cX26_goes 91 = .ok (.istore 8, 2) := dk_54 8 (dk_at dksX26_goes_3 20 rfl rfl)
theorem dX26_goes_93 : decode cX26_goes 93 = .ok (.goto 33, 3) := dk_167 0 33 (dk_at dksX26_goes_4 0 rfl rfl)
theorem dX26_goes_96 : decode cX26_goes 96 = .ok (.astore 9, 2) := dk_58 9 (dk_at dksX26_goes_4 3 rfl rfl)
theorem dX26_goes_98 : decode cX26_goes 98 = .ok (.iload 7, 2) := dk_21 7 (dk_at dksX26_goes_4 5 rfl rfl)
theorem dX26_goes_100 : decode cX26_goes 100 = .ok (.bipush 120, 2) := dk_16 120 (dk_at dksX26_goes_4 7 rfl rfl)
theorem dX26_goes_102 : decode cX26_goes 102 = .ok (.if_icmp .eq 10, 3) := dk_159 0 10 (dk_at dksX26_goes_4 9 rfl rfl)
theorem dX26_goes_105 : decode cX26_goes 105 = .ok (.iload 7, 2) := dk_21 7 (dk_at dksX26_goes_4 12 rfl rfl)
theorem dX26_goes_107 : decode cX26_goes 107 = .ok (.bipush 102, 2) := dk_16 102 (dk_at dksX26_goes_4 14 rfl rfl)
theorem dX26_goes_109 : decode cX26_goes 109 = .ok (.if_icmp .ne 14, 3) := dk_160 0 14 (dk_at dksX26_goes_4 16 rfl rfl)
theorem dX26_goes_112 : decode cX26_goes 112 = .ok (.aload_n 0, 1) := dk_42 (dk_at dksX26_goes_4 19 rfl rfl)
theorem dX26_goes_113 : decode cX26_goes 113 = .ok (.iload 6, 2) := dk_21 6 (dk_at dksX26_goes_4 20 rfl rfl)
theorem dX26_goes_115 : decode cX26_goes 115 = .ok (.aload 9, 2) := dk_25 9 (dk_at dksX26_goes_4 22 rfl rfl)
theorem dX26_goes_117 : decode cX26_goes 117 = .ok (.getfield 207, 3) := dk_180 0 207 (dk_at dksX26_goes_5 0 rfl rfl)
theorem dX26_goes_120 : decode cX26_goes 120 = .ok (.invokevirtual 201, 3) := dk_182 0 201 (dk_at dksX26_goes_5 3 rfl rfl)
theorem dX26_goes_123 : decode cX26_goes 123 = .ok (.aload 9, 2) := dk_25 9 (dk_at dksX26_goes_5 6 rfl rfl)
theorem dX26_goes_125 : decode cX26_goes 125 = .ok (.athrow, 1) := dk_191 (dk_at dksX26_goes_5 8 rfl rfl)
theorem dX26_goes_126 : decode cX26_goes 126 = .ok (.iload 7, 2) := dk_21 7 (dk_at dksX26_goes_5 9 rfl rfl)
theorem dX26_goes_128 : decode cX26_goes 128 = .ok (.bipush 97, 2) := dk_16 97 (dk_at dksX26_goes_5 11 rfl rfl)
theorem dX26_goes_130 : decode cX26_goes 130 = .ok (.if_icmp .eq 10, 3) := dk_159 0 10 (dk_at dksX26_goes_5 13 rfl rfl)
theorem dX26_goes_133 : decode cX26_goes 133 = .ok (.iload 7, 2) := dk_21 7 (dk_at dksX26_goes_5 16 rfl rfl)
theorem dX26_goes_135 : decode cX26_goes 135 = .ok (.bipush 102, 2) := dk_16 102 (dk_at dksX26_goes_5 18 rfl rfl)
theorem dX26_goes_137 : decode cX26_goes 137 = .ok (.if_icmp .ne 11, 3) := dk_160 0 11 (dk_at dksX26_goes_5 20 rfl rfl)
theorem dX26_goes_140 : decode cX26_goes 140 = .ok (.aload_n 0, 1) := dk_42 (dk_at dksX26_goes_5 23 rfl rfl)
theorem dX26_goes_141 : decode cX26_goes 141 = .ok (.iload 6, 2) := dk_21 6 (dk_at dksX26_goes_6 0 rfl rfl)
theorem dX26_goes_143 : decode cX26_goes 143 = .ok (.iload 8, 2) := dk_21 8 (dk_at dksX26_goes_6 2 rfl rfl)
theorem dX26_goes_145 : decode cX26_goes 145 = .ok (.invokevirtual 201, 3) := dk_182 0 201 (dk_at dksX26_goes_6 4 rfl rfl)
theorem dX26_goes_148 : decode cX26_goes 148 = .ok (.iload 8, 2) := dk_21 8 (dk_at dksX26_goes_6 7 rfl rfl)
theorem dX26_goes_150 : decode cX26_goes 150 = .ok (.ireturn, 1) := dk_172 (dk_at dksX26_goes_6 9 rfl rfl)
abbrev cX26_does : ByteArray := prog_31_method_12_code
def yX26_does : MethodName := ⟨RX26, "does", "(LWeaversgateModel$Point;LWeaversgateModel$Thing;I)I"⟩
def dkwX26_does_5 : List UInt8 := [79, 29, 172]
abbrev dktX26_does_5 : List UInt8 := dkwX26_does_5 ++ []
def dkwX26_does_4 : List UInt8 := [180, 0, 234, 21, 4, 46, 96, 172, 43, 182, 0, 97, 16, 115, 160, 0, 11, 44, 180, 0, 234, 21, 4, 29]
abbrev dktX26_does_4 : List UInt8 := dkwX26_does_4 ++ dktX26_does_5
def dkwX26_does_3 : List UInt8 := [42, 44, 43, 182, 0, 81, 21, 4, 29, 182, 0, 230, 172, 43, 182, 0, 97, 16, 103, 160, 0, 13, 29, 44]
abbrev dktX26_does_3 : List UInt8 := dkwX26_does_3 ++ dktX26_does_4
def dkwX26_does_2 : List UInt8 := [16, 101, 21, 4, 44, 21, 5, 21, 4, 2, 29, 182, 0, 226, 172, 43, 182, 0, 97, 16, 101, 160, 0, 16]
abbrev dktX26_does_2 : List UInt8 := dkwX26_does_2 ++ dktX26_does_3
def dkwX26_does_1 : List UInt8 := [21, 4, 182, 0, 219, 54, 5, 21, 5, 2, 160, 0, 12, 187, 0, 205, 89, 7, 183, 0, 223, 191, 42]
abbrev dktX26_does_1 : List UInt8 := dkwX26_does_1 ++ dktX26_does_2
def dkwX26_does_0 : List UInt8 := [43, 182, 0, 216, 54, 4, 43, 182, 0, 97, 16, 99, 160, 0, 49, 42, 180, 0, 3, 44, 180, 0, 156]
abbrev dktX26_does_0 : List UInt8 := dkwX26_does_0 ++ dktX26_does_1
theorem dksX26_does_0 : cX26_does.data.toList.drop 0 = dktX26_does_0 := by decide +kernel
theorem dksX26_does_1 : cX26_does.data.toList.drop 23 = dktX26_does_1 := dk_seg dksX26_does_0 23 rfl rfl
theorem dksX26_does_2 : cX26_does.data.toList.drop 46 = dktX26_does_2 := dk_seg dksX26_does_1 23 rfl rfl
theorem dksX26_does_3 : cX26_does.data.toList.drop 70 = dktX26_does_3 := dk_seg dksX26_does_2 24 rfl rfl
theorem dksX26_does_4 : cX26_does.data.toList.drop 94 = dktX26_does_4 := dk_seg dksX26_does_3 24 rfl rfl
theorem dksX26_does_5 : cX26_does.data.toList.drop 118 = dktX26_does_5 := dk_seg dksX26_does_4 24 rfl rfl
theorem dX26_does_0 : decode cX26_does 0 = .ok (.aload_n 1, 1) := dk_43 (dk_at dksX26_does_0 0 rfl rfl)
theorem dX26_does_1 : decode cX26_does 1 = .ok (.invokevirtual 216, 3) := dk_182 0 216 (dk_at dksX26_does_0 1 rfl rfl)
theorem dX26_does_4 : decode cX26_does 4 = .ok (.istore 4, 2) := dk_54 4 (dk_at dksX26_does_0 4 rfl rfl)
theorem dX26_does_6 : decode cX26_does 6 = .ok (.aload_n 1, 1) := dk_43 (dk_at dksX26_does_0 6 rfl rfl)
theorem dX26_does_7 : decode cX26_does 7 = .ok (.invokevirtual 97, 3) := dk_182 0 97 (dk_at dksX26_does_0 7 rfl rfl)
theorem dX26_does_10 : decode cX26_does 10 = .ok (.bipush 99, 2) := dk_16 99 (dk_at dksX26_does_0 10 rfl rfl)
theorem dX26_does_12 : decode cX26_does 12 = .ok (.if_icmp .ne 49, 3) := dk_160 0 49 (dk_at dksX26_does_0 12 rfl rfl)
theorem dX26_does_15 : decode cX26_does 15 = .ok (.aload_n 0, 1) := dk_42 (dk_at dksX26_does_0 15 rfl rfl)
theorem dX26_does_16 : decode cX26_does 16 = .ok (.getfield 3, 3) := dk_180 0 3 (dk_at dksX26_does_0 16 rfl rfl)
theorem dX26_does_19 : decode cX26_does 19 = .ok (.aload_n 2, 1) := dk_44 (dk_at dksX26_does_0 19 rfl rfl)
theorem dX26_does_20 : decode cX26_does 20 = .ok (.getfield 156, 3) := dk_180 0 156 (dk_at dksX26_does_0 20 rfl rfl)
theorem dX26_does_23 : decode cX26_does 23 = .ok (.iload 4, 2) := dk_21 4 (dk_at dksX26_does_1 0 rfl rfl)
theorem dX26_does_25 : decode cX26_does 25 = .ok (.invokevirtual 219, 3) := dk_182 0 219 (dk_at dksX26_does_1 2 rfl rfl)
theorem dX26_does_28 : decode cX26_does 28 = .ok (.istore 5, 2) := dk_54 5 (dk_at dksX26_does_1 5 rfl rfl)
theorem dX26_does_30 : decode cX26_does 30 = .ok (.iload 5, 2) := dk_21 5 (dk_at dksX26_does_1 7 rfl rfl)
theorem dX26_does_32 : decode cX26_does 32 = .ok (.iconst (-1), 1) := dk_2 (dk_at dksX26_does_1 9 rfl rfl)
theorem dX26_does_33 : decode cX26_does 33 = .ok (.if_icmp .ne 12, 3) := dk_160 0 12 (dk_at dksX26_does_1 10 rfl rfl)
theorem dX26_does_36 : decode cX26_does 36 = .ok (.new 205, 3) := dk_187 0 205 (dk_at dksX26_does_1 13 rfl rfl)
theorem dX26_does_39 : decode cX26_does 39 = .ok (.dup, 1) := dk_89 (dk_at dksX26_does_1 16 rfl rfl)
theorem dX26_does_40 : decode cX26_does 40 = .ok (.iconst 4, 1) := dk_7 (dk_at dksX26_does_1 17 rfl rfl)
theorem dX26_does_41 : decode cX26_does 41 = .ok (.invokespecial 223, 3) := dk_183 0 223 (dk_at dksX26_does_1 18 rfl rfl)
theorem dX26_does_44 : decode cX26_does 44 = .ok (.athrow, 1) := dk_191 (dk_at dksX26_does_1 21 rfl rfl)
theorem dX26_does_45 : decode cX26_does 45 = .ok (.aload_n 0, 1) := dk_42 (dk_at dksX26_does_1 22 rfl rfl)
theorem dX26_does_46 : decode cX26_does 46 = .ok (.bipush 101, 2) := dk_16 101 (dk_at dksX26_does_2 0 rfl rfl)
theorem dX26_does_48 : decode cX26_does 48 = .ok (.iload 4, 2) := dk_21 4 (dk_at dksX26_does_2 2 rfl rfl)
theorem dX26_does_50 : decode cX26_does 50 = .ok (.aload_n 2, 1) := dk_44 (dk_at dksX26_does_2 4 rfl rfl)
theorem dX26_does_51 : decode cX26_does 51 = .ok (.iload 5, 2) := dk_21 5 (dk_at dksX26_does_2 5 rfl rfl)
theorem dX26_does_53 : decode cX26_does 53 = .ok (.iload 4, 2) := dk_21 4 (dk_at dksX26_does_2 7 rfl rfl)
theorem dX26_does_55 : decode cX26_does 55 = .ok (.iconst (-1), 1) := dk_2 (dk_at dksX26_does_2 9 rfl rfl)
theorem dX26_does_56 : decode cX26_does 56 = .ok (.iload_n 3, 1) := dk_29 (dk_at dksX26_does_2 10 rfl rfl)
theorem dX26_does_57 : decode cX26_does 57 = .ok (.invokevirtual 226, 3) := dk_182 0 226 (dk_at dksX26_does_2 11 rfl rfl)
theorem dX26_does_60 : decode cX26_does 60 = .ok (.ireturn, 1) := dk_172 (dk_at dksX26_does_2 14 rfl rfl)
theorem dX26_does_61 : decode cX26_does 61 = .ok (.aload_n 1, 1) := dk_43 (dk_at dksX26_does_2 15 rfl rfl)
theorem dX26_does_62 : decode cX26_does 62 = .ok (.invokevirtual 97, 3) := dk_182 0 97 (dk_at dksX26_does_2 16 rfl rfl)
theorem dX26_does_65 : decode cX26_does 65 = .ok (.bipush 101, 2) := dk_16 101 (dk_at dksX26_does_2 19 rfl rfl)
theorem dX26_does_67 : decode cX26_does 67 = .ok (.if_icmp .ne 16, 3) := dk_160 0 16 (dk_at dksX26_does_2 21 rfl rfl)
theorem dX26_does_70 : decode cX26_does 70 = .ok (.aload_n 0, 1) := dk_42 (dk_at dksX26_does_3 0 rfl rfl)
theorem dX26_does_71 : decode cX26_does 71 = .ok (.aload_n 2, 1) := dk_44 (dk_at dksX26_does_3 1 rfl rfl)
theorem dX26_does_72 : decode cX26_does 72 = .ok (.aload_n 1, 1) := dk_43 (dk_at dksX26_does_3 2 rfl rfl)
theorem dX26_does_73 : decode cX26_does 73 = .ok (.invokevirtual 81, 3) := dk_182 0 81 (dk_at dksX26_does_3 3 rfl rfl)
theorem dX26_does_76 : decode cX26_does 76 = .ok (.iload 4, 2) := dk_21 4 (dk_at dksX26_does_3 6 rfl rfl)
theorem dX26_does_78 : decode cX26_does 78 = .ok (.iload_n 3, 1) := dk_29 (dk_at dksX26_does_3 8 rfl rfl)
theorem dX26_does_79 : decode cX26_does 79 = .ok (.invokevirtual 230, 3) := dk_182 0 230 (dk_at dksX26_does_3 9 rfl rfl)
theorem dX26_does_82 : decode cX26_does 82 = .ok (.ireturn, 1) := dk_172 (dk_at dksX26_does_3 12 rfl rfl)
theorem dX26_does_83 : decode cX26_does 83 = .ok (.aload_n 1, 1) := dk_43 (dk_at dksX26_does_3 13 rfl rfl)
theorem dX26_does_84 : decode cX26_does 84 = .ok (.invokevirtual 97, 3) := dk_182 0 97 (dk_at dksX26_does_3 14 rfl rfl)
theorem dX26_does_87 : decode cX26_does 87 = .ok (.bipush 103, 2) := dk_16 103 (dk_at dksX26_does_3 17 rfl rfl)
theorem dX26_does_89 : decode cX26_does 89 = .ok (.if_icmp .ne 13, 3) := dk_160 0 13 (dk_at dksX26_does_3 19 rfl rfl)
theorem dX26_does_92 : decode cX26_does 92 = .ok (.iload_n 3, 1) := dk_29 (dk_at dksX26_does_3 22 rfl rfl)
theorem dX26_does_93 : decode cX26_does 93 = .ok (.aload_n 2, 1) := dk_44 (dk_at dksX26_does_3 23 rfl rfl)
theorem dX26_does_94 : decode cX26_does 94 = .ok (.getfield 234, 3) := dk_180 0 234 (dk_at dksX26_does_4 0 rfl rfl)
theorem dX26_does_97 : decode cX26_does 97 = .ok (.iload 4, 2) := dk_21 4 (dk_at dksX26_does_4 3 rfl rfl)
theorem dX26_does_99 : decode cX26_does 99 = .ok (.iaload, 1) := dk_46 (dk_at dksX26_does_4 5 rfl rfl)
theorem dX26_does_100 : decode cX26_does 100 = .ok (.iadd, 1) := dk_96 (dk_at dksX26_does_4 6 rfl rfl)
theorem dX26_does_101 : decode cX26_does 101 = .ok (.ireturn, 1) := dk_172 (dk_at dksX26_does_4 7 rfl rfl)
theorem dX26_does_102 : decode cX26_does 102 = .ok (.aload_n 1, 1) := dk_43 (dk_at dksX26_does_4 8 rfl rfl)
theorem dX26_does_103 : decode cX26_does 103 = .ok (.invokevirtual 97, 3) := dk_182 0 97 (dk_at dksX26_does_4 9 rfl rfl)
theorem dX26_does_106 : decode cX26_does 106 = .ok (.bipush 115, 2) := dk_16 115 (dk_at dksX26_does_4 12 rfl rfl)
theorem dX26_does_108 : decode cX26_does 108 = .ok (.if_icmp .ne 11, 3) := dk_160 0 11 (dk_at dksX26_does_4 14 rfl rfl)
theorem dX26_does_111 : decode cX26_does 111 = .ok (.aload_n 2, 1) := dk_44 (dk_at dksX26_does_4 17 rfl rfl)
theorem dX26_does_112 : decode cX26_does 112 = .ok (.getfield 234, 3) := dk_180 0 234 (dk_at dksX26_does_4 18 rfl rfl)
theorem dX26_does_115 : decode cX26_does 115 = .ok (.iload 4, 2) := dk_21 4 (dk_at dksX26_does_4 21 rfl rfl)
theorem dX26_does_117 : decode cX26_does 117 = .ok (.iload_n 3, 1) := dk_29 (dk_at dksX26_does_4 23 rfl rfl)
theorem dX26_does_118 : decode cX26_does 118 = .ok (.iastore, 1) := dk_79 (dk_at dksX26_does_5 0 rfl rfl)
theorem dX26_does_119 : decode cX26_does 119 = .ok (.iload_n 3, 1) := dk_29 (dk_at dksX26_does_5 1 rfl rfl)
theorem dX26_does_120 : decode cX26_does 120 = .ok (.ireturn, 1) := dk_172 (dk_at dksX26_does_5 2 rfl rfl)
abbrev cX26_carries : ByteArray := prog_31_method_13_code
def yX26_carries : MethodName := ⟨RX26, "carries", "(LWeaversgateModel$Thing;III)I"⟩
def dkwX26_carries_5 : List UInt8 := [3, 182, 0, 226, 54, 7, 132, 8, 1, 167, 255, 156, 21, 7, 172]
abbrev dktX26_carries_5 : List UInt8 := dkwX26_carries_5 ++ []
def dkwX26_carries_4 : List UInt8 := [54, 10, 21, 10, 2, 160, 0, 6, 25, 9, 191, 42, 16, 104, 25, 9, 180, 0, 207, 43, 28, 29, 21, 10]
abbrev dktX26_carries_4 : List UInt8 := dkwX26_carries_4 ++ dktX26_carries_5
def dkwX26_carries_3 : List UInt8 := [182, 0, 249, 54, 7, 167, 0, 48, 58, 9, 42, 25, 5, 25, 6, 25, 9, 180, 0, 207, 182, 0, 253]
abbrev dktX26_carries_3 : List UInt8 := dkwX26_carries_3 ++ dktX26_carries_4
def dkwX26_carries_2 : List UInt8 := [160, 0, 14, 25, 6, 21, 8, 184, 0, 136, 182, 0, 140, 87, 42, 43, 28, 29, 25, 5, 21, 8, 21, 7]
abbrev dktX26_carries_2 : List UInt8 := dkwX26_carries_2 ++ dktX26_carries_3
def dkwX26_carries_1 : List UInt8 := [3, 54, 8, 21, 8, 25, 5, 180, 0, 241, 162, 0, 96, 25, 5, 180, 0, 246, 21, 8, 52, 16, 104]
abbrev dktX26_carries_1 : List UInt8 := dkwX26_carries_1 ++ dktX26_carries_2
def dkwX26_carries_0 : List UInt8 := [42, 180, 0, 3, 28, 29, 182, 0, 237, 58, 5, 187, 0, 22, 89, 183, 0, 24, 58, 6, 21, 4, 54, 7]
abbrev dktX26_carries_0 : List UInt8 := dkwX26_carries_0 ++ dktX26_carries_1
theorem dksX26_carries_0 : cX26_carries.data.toList.drop 0 = dktX26_carries_0 := by decide +kernel
theorem dksX26_carries_1 : cX26_carries.data.toList.drop 24 = dktX26_carries_1 := dk_seg dksX26_carries_0 24 rfl rfl
theorem dksX26_carries_2 : cX26_carries.data.toList.drop 47 = dktX26_carries_2 := dk_seg dksX26_carries_1 23 rfl rfl
theorem dksX26_carries_3 : cX26_carries.data.toList.drop 71 = dktX26_carries_3 := dk_seg dksX26_carries_2 24 rfl rfl
theorem dksX26_carries_4 : cX26_carries.data.toList.drop 94 = dktX26_carries_4 := dk_seg dksX26_carries_3 23 rfl rfl
theorem dksX26_carries_5 : cX26_carries.data.toList.drop 118 = dktX26_carries_5 := dk_seg dksX26_carries_4 24 rfl rfl
theorem dX26_carries_0 : decode cX26_carries 0 = .ok (.aload_n 0, 1) := dk_42 (dk_at dksX26_carries_0 0 rfl rfl)
theorem dX26_carries_1 : decode cX26_carries 1 = .ok (.getfield 3, 3) := dk_180 0 3 (dk_at dksX26_carries_0 1 rfl rfl)
theorem dX26_carries_4 : decode cX26_carries 4 = .ok (.iload_n 2, 1) := dk_28 (dk_at dksX26_carries_0 4 rfl rfl)
theorem dX26_carries_5 : decode cX26_carries 5 = .ok (.iload_n 3, 1) := dk_29 (dk_at dksX26_carries_0 5 rfl rfl)
theorem dX26_carries_6 : decode cX26_carries 6 = .ok (.invokevirtual 237, 3) := dk_182 0 237 (dk_at dksX26_carries_0 6 rfl rfl)
theorem dX26_carries_9 : decode cX26_carries 9 = .ok (.astore 5, 2) := dk_58 5 (dk_at dksX26_carries_0 9 rfl rfl)
theorem dX26_carries_11 : decode cX26_carries 11 = .ok (.new 22, 3) := dk_187 0 22 (dk_at dksX26_carries_0 11 rfl rfl)
theorem dX26_carries_14 : decode cX26_carries 14 = .ok (.dup, 1) := dk_89 (dk_at dksX26_carries_0 14 rfl rfl)
theorem dX26_carries_15 : decode cX26_carries 15 = .ok (.invokespecial 24, 3) := dk_183 0 24 (dk_at dksX26_carries_0 15 rfl rfl)
theorem dX26_carries_18 : decode cX26_carries 18 = .ok (.astore 6, 2) := dk_58 6 (dk_at dksX26_carries_0 18 rfl rfl)
theorem dX26_carries_20 : decode cX26_carries 20 = .ok (.iload 4, 2) := dk_21 4 (dk_at dksX26_carries_0 20 rfl rfl)
theorem dX26_carries_22 : decode cX26_carries 22 = .ok (.istore 7, 2) := dk_54 7 (dk_at dksX26_carries_0 22 rfl rfl)
theorem dX26_carries_24 : decode cX26_carries 24 = .ok (.iconst 0, 1) := dk_3 (dk_at dksX26_carries_1 0 rfl rfl)
theorem dX26_carries_25 : decode cX26_carries 25 = .ok (.istore 8, 2) := dk_54 8 (dk_at dksX26_carries_1 1 rfl rfl)
theorem dX26_carries_27 : decode cX26_carries 27 = .ok (.iload 8, 2) := dk_21 8 (dk_at dksX26_carries_1 3 rfl rfl)
theorem dX26_carries_29 : decode cX26_carries 29 = .ok (.aload 5, 2) := dk_25 5 (dk_at dksX26_carries_1 5 rfl rfl)
theorem dX26_carries_31 : decode cX26_carries 31 = .ok (.getfield 241, 3) := dk_180 0 241 (dk_at dksX26_carries_1 7 rfl rfl)
theorem dX26_carries_34 : decode cX26_carries 34 = .ok (.if_icmp .ge 96, 3) := dk_162 0 96 (dk_at dksX26_carries_1 10 rfl rfl)
theorem dX26_carries_37 : decode cX26_carries 37 = .ok (.aload 5, 2) := dk_25 5 (dk_at dksX26_carries_1 13 rfl rfl)
theorem dX26_carries_39 : decode cX26_carries 39 = .ok (.getfield 246, 3) := dk_180 0 246 (dk_at dksX26_carries_1 15 rfl rfl)
theorem dX26_carries_42 : decode cX26_carries 42 = .ok (.iload 8, 2) := dk_21 8 (dk_at dksX26_carries_1 18 rfl rfl)
theorem dX26_carries_44 : decode cX26_carries 44 = .ok (.caload, 1) := dk_52 (dk_at dksX26_carries_1 20 rfl rfl)
theorem dX26_carries_45 : decode cX26_carries 45 = .ok (.bipush 104, 2) := dk_16 104 (dk_at dksX26_carries_1 21 rfl rfl)
theorem dX26_carries_47 : decode cX26_carries 47 = .ok (.if_icmp .ne 14, 3) := dk_160 0 14 (dk_at dksX26_carries_2 0 rfl rfl)
theorem dX26_carries_50 : decode cX26_carries 50 = .ok (.aload 6, 2) := dk_25 6 (dk_at dksX26_carries_2 3 rfl rfl)
theorem dX26_carries_52 : decode cX26_carries 52 = .ok (.iload 8, 2) := dk_21 8 (dk_at dksX26_carries_2 5 rfl rfl)
theorem dX26_carries_54 : decode cX26_carries 54 = .ok (.invokestatic 136, 3) := dk_184 0 136 (dk_at dksX26_carries_2 7 rfl rfl)
theorem dX26_carries_57 : decode cX26_carries 57 = .ok (.invokevirtual 140, 3) := dk_182 0 140 (dk_at dksX26_carries_2 10 rfl rfl)
theorem dX26_carries_60 : decode cX26_carries 60 = .ok (.pop, 1) := dk_87 (dk_at dksX26_carries_2 13 rfl rfl)
theorem dX26_carries_61 : decode cX26_carries 61 = .ok (.aload_n 0, 1) := dk_42 (dk_at dksX26_carries_2 14 rfl rfl)
theorem dX26_carries_62 : decode cX26_carries 62 = .ok (.aload_n 1, 1) := dk_43 (dk_at dksX26_carries_2 15 rfl rfl)
theorem dX26_carries_63 : decode cX26_carries 63 = .ok (.iload_n 2, 1) := dk_28 (dk_at dksX26_carries_2 16 rfl rfl)
theorem dX26_carries_64 : decode cX26_carries 64 = .ok (.iload_n 3, 1) := dk_29 (dk_at dksX26_carries_2 17 rfl rfl)
theorem dX26_carries_65 : decode cX26_carries 65 = .ok (.aload 5, 2) := dk_25 5 (dk_at dksX26_carries_2 18 rfl rfl)
theorem dX26_carries_67 : decode cX26_carries 67 = .ok (.iload 8, 2) := dk_21 8 (dk_at dksX26_carries_2 20 rfl rfl)
theorem dX26_carries_69 : decode cX26_carries 69 = .ok (.iload 7, 2) := dk_21 7 (dk_at dksX26_carries_2 22 rfl rfl)
theorem dX26_carries_71 : decode cX26_carries 71 = .ok (.invokevirtual 249, 3) := dk_182 0 249 (dk_at dksX26_carries_3 0 rfl rfl)
theorem dX26_carries_74 : decode cX26_carries 74 = .ok (.istore 7, 2) := dk_54 7 (dk_at dksX26_carries_3 3 rfl rfl)
theorem dX26_carries_76 : decode cX26_carries 76 = .ok (.goto 48, 3) := dk_167 0 48 (dk_at dksX26_carries_3 5 rfl rfl)
theorem dX26_carries_79 : decode cX26_carries 79 = .ok (.astore 9, 2) := dk_58 9 (dk_at dksX26_carries_3 8 rfl rfl)
theorem dX26_carries_81 : decode cX26_carries 81 = .ok (.aload_n 0, 1) := dk_42 (dk_at dksX26_carries_3 10 rfl rfl)
theorem dX26_carries_82 : decode cX26_carries 82 = .ok (.aload 5, 2) := dk_25 5 (dk_at dksX26_carries_3 11 rfl rfl)
theorem dX26_carries_84 : decode cX26_carries 84 = .ok (.aload 6, 2) := dk_25 6 (dk_at dksX26_carries_3 13 rfl rfl)
theorem dX26_carries_86 : decode cX26_carries 86 = .ok (.aload 9, 2) := dk_25 9 (dk_at dksX26_carries_3 15 rfl rfl)
theorem dX26_carries_88 : decode cX26_carries 88 = .ok (.getfield 207, 3) := dk_180 0 207 (dk_at dksX26_carries_3 17 rfl rfl)
theorem dX26_carries_91 : decode cX26_carries 91 = .ok (.invokevirtual 253, 3) := dk_182 0 253 (dk_at dksX26_carries_3 20 rfl rfl)
theorem dX26_carries_94 : decode cX26_carries 94 = .ok (.istore 10, 2) := dk_54 10 (dk_at dksX26_carries_4 0 rfl rfl)
theorem dX26_carries_96 : decode cX26_carries 96 = .ok (.iload 10, 2) := dk_21 10 (dk_at dksX26_carries_4 2 rfl rfl)
theorem dX26_carries_98 : decode cX26_carries 98 = .ok (.iconst (-1), 1) := dk_2 (dk_at dksX26_carries_4 4 rfl rfl)
theorem dX26_carries_99 : decode cX26_carries 99 = .ok (.if_icmp .ne 6, 3) := dk_160 0 6 (dk_at dksX26_carries_4 5 rfl rfl)
theorem dX26_carries_102 : decode cX26_carries 102 = .ok (.aload 9, 2) := dk_25 9 (dk_at dksX26_carries_4 8 rfl rfl)
theorem dX26_carries_104 : decode cX26_carries 104 = .ok (.athrow, 1) := dk_191 (dk_at dksX26_carries_4 10 rfl rfl)
theorem dX26_carries_105 : decode cX26_carries 105 = .ok (.aload_n 0, 1) := dk_42 (dk_at dksX26_carries_4 11 rfl rfl)
theorem dX26_carries_106 : decode cX26_carries 106 = .ok (.bipush 104, 2) := dk_16 104 (dk_at dksX26_carries_4 12 rfl rfl)
theorem dX26_carries_108 : decode cX26_carries 108 = .ok (.aload 9, 2) := dk_25 9 (dk_at dksX26_carries_4 14 rfl rfl)
theorem dX26_carries_110 : decode cX26_carries 110 = .ok (.getfield 207, 3) := dk_180 0 207 (dk_at dksX26_carries_4 16 rfl rfl)
theorem dX26_carries_113 : decode cX26_carries 113 = .ok (.aload_n 1, 1) := dk_43 (dk_at dksX26_carries_4 19 rfl rfl)
theorem dX26_carries_114 : decode cX26_carries 114 = .ok (.iload_n 2, 1) := dk_28 (dk_at dksX26_carries_4 20 rfl rfl)
theorem dX26_carries_115 : decode cX26_carries 115 = .ok (.iload_n 3, 1) := dk_29 (dk_at dksX26_carries_4 21 rfl rfl)
theorem dX26_carries_116 : decode cX26_carries 116 = .ok (.iload 10, 2) := dk_21 10 (dk_at dksX26_carries_4 22 rfl rfl)
theorem dX26_carries_118 : decode cX26_carries 118 = .ok (.iconst 0, 1) := dk_3 (dk_at dksX26_carries_5 0 rfl rfl)
theorem dX26_carries_119 : decode cX26_carries 119 = .ok (.invokevirtual 226, 3) := dk_182 0 226 (dk_at dksX26_carries_5 1 rfl rfl)
theorem dX26_carries_122 : decode cX26_carries 122 = .ok (.istore 7, 2) := dk_54 7 (dk_at dksX26_carries_5 4 rfl rfl)
theorem dX26_carries_124 : decode cX26_carries 124 = .ok (.iinc 8 1, 3) := dk_132 8 1 (dk_at dksX26_carries_5 6 rfl rfl)
theorem dX26_carries_127 : decode cX26_carries 127 = .ok (.goto (-100), 3) := dk_167 255 156 (dk_at dksX26_carries_5 9 rfl rfl)
theorem dX26_carries_130 : decode cX26_carries 130 = .ok (.iload 7, 2) := dk_21 7 (dk_at dksX26_carries_5 12 rfl rfl)
theorem dX26_carries_132 : decode cX26_carries 132 = .ok (.ireturn, 1) := dk_172 (dk_at dksX26_carries_5 14 rfl rfl)
abbrev cX26_step : ByteArray := prog_31_method_15_code
def yX26_step : MethodName := ⟨RX26, "step", "(LWeaversgateModel$Thing;IILWeaversgateModel$Body;II)I"⟩
def dkwX26_step_6 : List UInt8 := [16, 99, 25, 4, 180, 1, 4, 21, 5, 46, 25, 9, 28, 29, 21, 5, 21, 10, 182, 0, 226, 172]
abbrev dktX26_step_6 : List UInt8 := dkwX26_step_6 ++ []
def dkwX26_step_5 : List UInt8 := [183, 1, 7, 58, 9, 42, 16, 109, 21, 8, 25, 9, 28, 29, 21, 5, 21, 6, 182, 0, 226, 54, 10, 42]
abbrev dktX26_step_5 : List UInt8 := dkwX26_step_5 ++ dktX26_step_6
def dkwX26_step_4 : List UInt8 := [21, 6, 182, 0, 226, 172, 21, 7, 16, 109, 159, 0, 6, 21, 6, 172, 187, 0, 157, 89, 21, 8]
abbrev dktX26_step_4 : List UInt8 := dkwX26_step_4 ++ dktX26_step_5
def dkwX26_step_3 : List UInt8 := [21, 7, 16, 103, 159, 0, 10, 21, 7, 16, 115, 160, 0, 19, 42, 21, 7, 21, 8, 43, 28, 29, 21, 5]
abbrev dktX26_step_3 : List UInt8 := dkwX26_step_3 ++ dktX26_step_4
def dkwX26_step_2 : List UInt8 := [21, 5, 46, 164, 0, 13, 187, 0, 205, 89, 21, 8, 183, 0, 223, 191, 21, 7, 16, 99, 159, 0, 17]
abbrev dktX26_step_2 : List UInt8 := dkwX26_step_2 ++ dktX26_step_3
def dkwX26_step_1 : List UInt8 := [160, 0, 9, 21, 6, 21, 8, 96, 172, 21, 7, 16, 116, 160, 0, 26, 21, 6, 25, 4, 180, 1, 4]
abbrev dktX26_step_1 : List UInt8 := dkwX26_step_1 ++ dktX26_step_2
def dkwX26_step_0 : List UInt8 := [25, 4, 180, 0, 246, 21, 5, 52, 54, 7, 25, 4, 180, 1, 1, 21, 5, 46, 54, 8, 21, 7, 16, 110]
abbrev dktX26_step_0 : List UInt8 := dkwX26_step_0 ++ dktX26_step_1
theorem dksX26_step_0 : cX26_step.data.toList.drop 0 = dktX26_step_0 := by decide +kernel
theorem dksX26_step_1 : cX26_step.data.toList.drop 24 = dktX26_step_1 := dk_seg dksX26_step_0 24 rfl rfl
theorem dksX26_step_2 : cX26_step.data.toList.drop 47 = dktX26_step_2 := dk_seg dksX26_step_1 23 rfl rfl
theorem dksX26_step_3 : cX26_step.data.toList.drop 70 = dktX26_step_3 := dk_seg dksX26_step_2 23 rfl rfl
theorem dksX26_step_4 : cX26_step.data.toList.drop 94 = dktX26_step_4 := dk_seg dksX26_step_3 24 rfl rfl
theorem dksX26_step_5 : cX26_step.data.toList.drop 116 = dktX26_step_5 := dk_seg dksX26_step_4 22 rfl rfl
theorem dksX26_step_6 : cX26_step.data.toList.drop 140 = dktX26_step_6 := dk_seg dksX26_step_5 24 rfl rfl
theorem dX26_step_0 : decode cX26_step 0 = .ok (.aload 4, 2) := dk_25 4 (dk_at dksX26_step_0 0 rfl rfl)
theorem dX26_step_2 : decode cX26_step 2 = .ok (.getfield 246, 3) := dk_180 0 246 (dk_at dksX26_step_0 2 rfl rfl)
theorem dX26_step_5 : decode cX26_step 5 = .ok (.iload 5, 2) := dk_21 5 (dk_at dksX26_step_0 5 rfl rfl)
theorem dX26_step_7 : decode cX26_step 7 = .ok (.caload, 1) := dk_52 (dk_at dksX26_step_0 7 rfl rfl)
theorem dX26_step_8 : decode cX26_step 8 = .ok (.istore 7, 2) := dk_54 7 (dk_at dksX26_step_0 8 rfl rfl)
theorem dX26_step_10 : decode cX26_step 10 = .ok (.aload 4, 2) := dk_25 4 (dk_at dksX26_step_0 10 rfl rfl)
theorem dX26_step_12 : decode cX26_step 12 = .ok (.getfield 257, 3) := dk_180 1 1 (dk_at dksX26_step_0 12 rfl rfl)
theorem dX26_step_15 : decode cX26_step 15 = .ok (.iload 5, 2) := dk_21 5 (dk_at dksX26_step_0 15 rfl rfl)
theorem dX26_step_17 : decode cX26_step 17 = .ok (.iaload, 1) := dk_46 (dk_at dksX26_step_0 17 rfl rfl)
theorem dX26_step_18 : decode cX26_step 18 = .ok (.istore 8, 2) := dk_54 8 (dk_at dksX26_step_0 18 rfl rfl)
theorem dX26_step_20 : decode cX26_step 20 = .ok (.iload 7, 2) := dk_21 7 (dk_at dksX26_step_0 20 rfl rfl)
theorem dX26_step_22 : decode cX26_step 22 = .ok (.bipush 110, 2) := dk_16 110 (dk_at dksX26_step_0 22 rfl rfl)
theorem dX26_step_24 : decode cX26_step 24 = .ok (.if_icmp .ne 9, 3) := dk_160 0 9 (dk_at dksX26_step_1 0 rfl rfl)
theorem dX26_step_27 : decode cX26_step 27 = .ok (.iload 6, 2) := dk_21 6 (dk_at dksX26_step_1 3 rfl rfl)
theorem dX26_step_29 : decode cX26_step 29 = .ok (.iload 8, 2) := dk_21 8 (dk_at dksX26_step_1 5 rfl rfl)
theorem dX26_step_31 : decode cX26_step 31 = .ok (.iadd, 1) := dk_96 (dk_at dksX26_step_1 7 rfl rfl)
theorem dX26_step_32 : decode cX26_step 32 = .ok (.ireturn, 1) := dk_172 (dk_at dksX26_step_1 8 rfl rfl)
theorem dX26_step_33 : decode cX26_step 33 = .ok (.iload 7, 2) := dk_21 7 (dk_at dksX26_step_1 9 rfl rfl)
theorem dX26_step_35 : decode cX26_step 35 = .ok (.bipush 116, 2) := dk_16 116 (dk_at dksX26_step_1 11 rfl rfl)
theorem dX26_step_37 : decode cX26_step 37 = .ok (.if_icmp .ne 26, 3) := dk_160 0 26 (dk_at dksX26_step_1 13 rfl rfl)
theorem dX26_step_40 : decode cX26_step 40 = .ok (.iload 6, 2) := dk_21 6 (dk_at dksX26_step_1 16 rfl rfl)
theorem dX26_step_42 : decode cX26_step 42 = .ok (.aload 4, 2) := dk_25 4 (dk_at dksX26_step_1 18 rfl rfl)
theorem dX26_step_44 : decode cX26_step 44 = .ok (.getfield 260, 3) := dk_180 1 4 (dk_at dksX26_step_1 20 rfl rfl)
theorem dX26_step_47 : decode cX26_step 47 = .ok (.iload 5, 2) := dk_21 5 (dk_at dksX26_step_2 0 rfl rfl)
theorem dX26_step_49 : decode cX26_step 49 = .ok (.iaload, 1) := dk_46 (dk_at dksX26_step_2 2 rfl rfl)
theorem dX26_step_50 : decode cX26_step 50 = .ok (.if_icmp .le 13, 3) := dk_164 0 13 (dk_at dksX26_step_2 3 rfl rfl)
theorem dX26_step_53 : decode cX26_step 53 = .ok (.new 205, 3) := dk_187 0 205 (dk_at dksX26_step_2 6 rfl rfl)
theorem dX26_step_56 : decode cX26_step 56 = .ok (.dup, 1) := dk_89 (dk_at dksX26_step_2 9 rfl rfl)
theorem dX26_step_57 : decode cX26_step 57 = .ok (.iload 8, 2) := dk_21 8 (dk_at dksX26_step_2 10 rfl rfl)
theorem dX26_step_59 : decode cX26_step 59 = .ok (.invokespecial 223, 3) := dk_183 0 223 (dk_at dksX26_step_2 12 rfl rfl)
theorem dX26_step_62 : decode cX26_step 62 = .ok (.athrow, 1) := dk_191 (dk_at dksX26_step_2 15 rfl rfl)
theorem dX26_step_63 : decode cX26_step 63 = .ok (.iload 7, 2) := dk_21 7 (dk_at dksX26_step_2 16 rfl rfl)
theorem dX26_step_65 : decode cX26_step 65 = .ok (.bipush 99, 2) := dk_16 99 (dk_at dksX26_step_2 18 rfl rfl)
theorem dX26_step_67 : decode cX26_step 67 = .ok (.if_icmp .eq 17, 3) := dk_159 0 17 (dk_at dksX26_step_2 20 rfl rfl)
theorem dX26_step_70 : decode cX26_step 70 = .ok (.iload 7, 2) := dk_21 7 (dk_at dksX26_step_3 0 rfl rfl)
theorem dX26_step_72 : decode cX26_step 72 = .ok (.bipush 103, 2) := dk_16 103 (dk_at dksX26_step_3 2 rfl rfl)
theorem dX26_step_74 : decode cX26_step 74 = .ok (.if_icmp .eq 10, 3) := dk_159 0 10 (dk_at dksX26_step_3 4 rfl rfl)
theorem dX26_step_77 : decode cX26_step 77 = .ok (.iload 7, 2) := dk_21 7 (dk_at dksX26_step_3 7 rfl rfl)
theorem dX26_step_79 : decode cX26_step 79 = .ok (.bipush 115, 2) := dk_16 115 (dk_at dksX26_step_3 9 rfl rfl)
theorem dX26_step_81 : decode cX26_step 81 = .ok (.if_icmp .ne 19, 3) := dk_160 0 19 (dk_at dksX26_step_3 11 rfl rfl)
theorem dX26_step_84 : decode cX26_step 84 = .ok (.aload_n 0, 1) := dk_42 (dk_at dksX26_step_3 14 rfl rfl)
theorem dX26_step_85 : decode cX26_step 85 = .ok (.iload 7, 2) := dk_21 7 (dk_at dksX26_step_3 15 rfl rfl)
theorem dX26_step_87 : decode cX26_step 87 = .ok (.iload 8, 2) := dk_21 8 (dk_at dksX26_step_3 17 rfl rfl)
theorem dX26_step_89 : decode cX26_step 89 = .ok (.aload_n 1, 1) := dk_43 (dk_at dksX26_step_3 19 rfl rfl)
theorem dX26_step_90 : decode cX26_step 90 = .ok (.iload_n 2, 1) := dk_28 (dk_at dksX26_step_3 20 rfl rfl)
theorem dX26_step_91 : decode cX26_step 91 = .ok (.iload_n 3, 1) := dk_29 (dk_at dksX26_step_3 21 rfl rfl)
theorem dX26_step_92 : decode cX26_step 92 = .ok (.iload 5, 2) := dk_21 5 (dk_at dksX26_step_3 22 rfl rfl)
theorem dX26_step_94 : decode cX26_step 94 = .ok (.iload 6, 2) := dk_21 6 (dk_at dksX26_step_4 0 rfl rfl)
theorem dX26_step_96 : decode cX26_step 96 = .ok (.invokevirtual 226, 3) := dk_182 0 226 (dk_at dksX26_step_4 2 rfl rfl)
theorem dX26_step_99 : decode cX26_step 99 = .ok (.ireturn, 1) := dk_172 (dk_at dksX26_step_4 5 rfl rfl)
theorem dX26_step_100 : decode cX26_step 100 = .ok (.iload 7, 2) := dk_21 7 (dk_at dksX26_step_4 6 rfl rfl)
theorem dX26_step_102 : decode cX26_step 102 = .ok (.bipush 109, 2) := dk_16 109 (dk_at dksX26_step_4 8 rfl rfl)
theorem dX26_step_104 : decode cX26_step 104 = .ok (.if_icmp .eq 6, 3) := dk_159 0 6 (dk_at dksX26_step_4 10 rfl rfl)
theorem dX26_step_107 : decode cX26_step 107 = .ok (.iload 6, 2) := dk_21 6 (dk_at dksX26_step_4 13 rfl rfl)
theorem dX26_step_109 : decode cX26_step 109 = .ok (.ireturn, 1) := dk_172 (dk_at dksX26_step_4 15 rfl rfl)
theorem dX26_step_110 : decode cX26_step 110 = .ok (.new 157, 3) := dk_187 0 157 (dk_at dksX26_step_4 16 rfl rfl)
theorem dX26_step_113 : decode cX26_step 113 = .ok (.dup, 1) := dk_89 (dk_at dksX26_step_4 19 rfl rfl)
theorem dX26_step_114 : decode cX26_step 114 = .ok (.iload 8, 2) := dk_21 8 (dk_at dksX26_step_4 20 rfl rfl)
theorem dX26_step_116 : decode cX26_step 116 = .ok (.invokespecial 263, 3) := dk_183 1 7 (dk_at dksX26_step_5 0 rfl rfl)
theorem dX26_step_119 : decode cX26_step 119 = .ok (.astore 9, 2) := dk_58 9 (dk_at dksX26_step_5 3 rfl rfl)
theorem dX26_step_121 : decode cX26_step 121 = .ok (.aload_n 0, 1) := dk_42 (dk_at dksX26_step_5 5 rfl rfl)
theorem dX26_step_122 : decode cX26_step 122 = .ok (.bipush 109, 2) := dk_16 109 (dk_at dksX26_step_5 6 rfl rfl)
theorem dX26_step_124 : decode cX26_step 124 = .ok (.iload 8, 2) := dk_21 8 (dk_at dksX26_step_5 8 rfl rfl)
theorem dX26_step_126 : decode cX26_step 126 = .ok (.aload 9, 2) := dk_25 9 (dk_at dksX26_step_5 10 rfl rfl)
theorem dX26_step_128 : decode cX26_step 128 = .ok (.iload_n 2, 1) := dk_28 (dk_at dksX26_step_5 12 rfl rfl)
theorem dX26_step_129 : decode cX26_step 129 = .ok (.iload_n 3, 1) := dk_29 (dk_at dksX26_step_5 13 rfl rfl)
theorem dX26_step_130 : decode cX26_step 130 = .ok (.iload 5, 2) := dk_21 5 (dk_at dksX26_step_5 14 rfl rfl)
theorem dX26_step_132 : decode cX26_step 132 = .ok (.iload 6, 2) := dk_21 6 (dk_at dksX26_step_5 16 rfl rfl)
theorem dX26_step_134 : decode cX26_step 134 = .ok (.invokevirtual 226, 3) := dk_182 0 226 (dk_at dksX26_step_5 18 rfl rfl)
theorem dX26_step_137 : decode cX26_step 137 = .ok (.istore 10, 2) := dk_54 10 (dk_at dksX26_step_5 21 rfl rfl)
theorem dX26_step_139 : decode cX26_step 139 = .ok (.aload_n 0, 1) := dk_42 (dk_at dksX26_step_5 23 rfl rfl)
theorem dX26_step_140 : decode cX26_step 140 = .ok (.bipush 99, 2) := dk_16 99 (dk_at dksX26_step_6 0 rfl rfl)
theorem dX26_step_142 : decode cX26_step 142 = .ok (.aload 4, 2) := dk_25 4 (dk_at dksX26_step_6 2 rfl rfl)
theorem dX26_step_144 : decode cX26_step 144 = .ok (.getfield 260, 3) := dk_180 1 4 (dk_at dksX26_step_6 4 rfl rfl)
theorem dX26_step_147 : decode cX26_step 147 = .ok (.iload 5, 2) := dk_21 5 (dk_at dksX26_step_6 7 rfl rfl)
theorem dX26_step_149 : decode cX26_step 149 = .ok (.iaload, 1) := dk_46 (dk_at dksX26_step_6 9 rfl rfl)
theorem dX26_step_150 : decode cX26_step 150 = .ok (.aload 9, 2) := dk_25 9 (dk_at dksX26_step_6 10 rfl rfl)
theorem dX26_step_152 : decode cX26_step 152 = .ok (.iload_n 2, 1) := dk_28 (dk_at dksX26_step_6 12 rfl rfl)
theorem dX26_step_153 : decode cX26_step 153 = .ok (.iload_n 3, 1) := dk_29 (dk_at dksX26_step_6 13 rfl rfl)
theorem dX26_step_154 : decode cX26_step 154 = .ok (.iload 5, 2) := dk_21 5 (dk_at dksX26_step_6 14 rfl rfl)
theorem dX26_step_156 : decode cX26_step 156 = .ok (.iload 10, 2) := dk_21 10 (dk_at dksX26_step_6 16 rfl rfl)
theorem dX26_step_158 : decode cX26_step 158 = .ok (.invokevirtual 226, 3) := dk_182 0 226 (dk_at dksX26_step_6 18 rfl rfl)
theorem dX26_step_161 : decode cX26_step 161 = .ok (.ireturn, 1) := dk_172 (dk_at dksX26_step_6 21 rfl rfl)
abbrev cX26_handler : ByteArray := prog_31_method_14_code
def yX26_handler : MethodName := ⟨RX26, "handler", "(LWeaversgateModel$Body;Ljava/util/ArrayList;I)I"⟩
def dkwX26_handler_2 : List UInt8 := [21, 6, 167, 0, 5, 21, 4, 54, 4, 167, 255, 211, 21, 4, 172]
abbrev dktX26_handler_2 : List UInt8 := dkwX26_handler_2 ++ []
def dkwX26_handler_1 : List UInt8 := [185, 0, 71, 1, 0, 192, 0, 117, 182, 0, 119, 54, 6, 29, 43, 180, 1, 1, 21, 6, 46, 163, 0, 8]
abbrev dktX26_handler_1 : List UInt8 := dkwX26_handler_1 ++ dktX26_handler_2
def dkwX26_handler_0 : List UInt8 := [2, 54, 4, 44, 182, 0, 61, 58, 5, 25, 5, 185, 0, 65, 1, 0, 153, 0, 41, 25, 5]
abbrev dktX26_handler_0 : List UInt8 := dkwX26_handler_0 ++ dktX26_handler_1
theorem dksX26_handler_0 : cX26_handler.data.toList.drop 0 = dktX26_handler_0 := by decide +kernel
theorem dksX26_handler_1 : cX26_handler.data.toList.drop 21 = dktX26_handler_1 := dk_seg dksX26_handler_0 21 rfl rfl
theorem dksX26_handler_2 : cX26_handler.data.toList.drop 45 = dktX26_handler_2 := dk_seg dksX26_handler_1 24 rfl rfl
theorem dX26_handler_0 : decode cX26_handler 0 = .ok (.iconst (-1), 1) := dk_2 (dk_at dksX26_handler_0 0 rfl rfl)
theorem dX26_handler_1 : decode cX26_handler 1 = .ok (.istore 4, 2) := dk_54 4 (dk_at dksX26_handler_0 1 rfl rfl)
theorem dX26_handler_3 : decode cX26_handler 3 = .ok (.aload_n 2, 1) := dk_44 (dk_at dksX26_handler_0 3 rfl rfl)
theorem dX26_handler_4 : decode cX26_handler 4 = .ok (.invokevirtual 61, 3) := dk_182 0 61 (dk_at dksX26_handler_0 4 rfl rfl)
theorem dX26_handler_7 : decode cX26_handler 7 = .ok (.astore 5, 2) := dk_58 5 (dk_at dksX26_handler_0 7 rfl rfl)
theorem dX26_handler_9 : decode cX26_handler 9 = .ok (.aload 5, 2) := dk_25 5 (dk_at dksX26_handler_0 9 rfl rfl)
theorem dX26_handler_11 : decode cX26_handler 11 = .ok (.invokeinterface 65 1, 5) := by decide +kernel
theorem dX26_handler_16 : decode cX26_handler 16 = .ok (.ifCond .eq 41, 3) := dk_153 0 41 (dk_at dksX26_handler_0 16 rfl rfl)
theorem dX26_handler_19 : decode cX26_handler 19 = .ok (.aload 5, 2) := dk_25 5 (dk_at dksX26_handler_0 19 rfl rfl)
theorem dX26_handler_21 : decode cX26_handler 21 = .ok (.invokeinterface 71 1, 5) := by decide +kernel
theorem dX26_handler_26 : decode cX26_handler 26 = .ok (.checkcast 117, 3) := dk_192 0 117 (dk_at dksX26_handler_1 5 rfl rfl)
theorem dX26_handler_29 : decode cX26_handler 29 = .ok (.invokevirtual 119, 3) := dk_182 0 119 (dk_at dksX26_handler_1 8 rfl rfl)
theorem dX26_handler_32 : decode cX26_handler 32 = .ok (.istore 6, 2) := dk_54 6 (dk_at dksX26_handler_1 11 rfl rfl)
theorem dX26_handler_34 : decode cX26_handler 34 = .ok (.iload_n 3, 1) := dk_29 (dk_at dksX26_handler_1 13 rfl rfl)
theorem dX26_handler_35 : decode cX26_handler 35 = .ok (.aload_n 1, 1) := dk_43 (dk_at dksX26_handler_1 14 rfl rfl)
theorem dX26_handler_36 : decode cX26_handler 36 = .ok (.getfield 257, 3) := dk_180 1 1 (dk_at dksX26_handler_1 15 rfl rfl)
theorem dX26_handler_39 : decode cX26_handler 39 = .ok (.iload 6, 2) := dk_21 6 (dk_at dksX26_handler_1 18 rfl rfl)
theorem dX26_handler_41 : decode cX26_handler 41 = .ok (.iaload, 1) := dk_46 (dk_at dksX26_handler_1 20 rfl rfl)
theorem dX26_handler_42 : decode cX26_handler 42 = .ok (.if_icmp .gt 8, 3) := dk_163 0 8 (dk_at dksX26_handler_1 21 rfl rfl)
theorem dX26_handler_45 : decode cX26_handler 45 = .ok (.iload 6, 2) := dk_21 6 (dk_at dksX26_handler_2 0 rfl rfl)
theorem dX26_handler_47 : decode cX26_handler 47 = .ok (.goto 5, 3) := dk_167 0 5 (dk_at dksX26_handler_2 2 rfl rfl)
theorem dX26_handler_50 : decode cX26_handler 50 = .ok (.iload 4, 2) := dk_21 4 (dk_at dksX26_handler_2 5 rfl rfl)
theorem dX26_handler_52 : decode cX26_handler 52 = .ok (.istore 4, 2) := dk_54 4 (dk_at dksX26_handler_2 7 rfl rfl)
theorem dX26_handler_54 : decode cX26_handler 54 = .ok (.goto (-45), 3) := dk_167 255 211 (dk_at dksX26_handler_2 9 rfl rfl)
theorem dX26_handler_57 : decode cX26_handler 57 = .ok (.iload 4, 2) := dk_21 4 (dk_at dksX26_handler_2 12 rfl rfl)
theorem dX26_handler_59 : decode cX26_handler 59 = .ok (.ireturn, 1) := dk_172 (dk_at dksX26_handler_2 14 rfl rfl)
abbrev cX26_replaces : ByteArray := prog_31_method_11_code
def yX26_replaces : MethodName := ⟨RX26, "replaces", "(LWeaversgateModel$Point;LWeaversgateModel$Thing;Ljava/util/ArrayList;II)I"⟩
def dkwX26_replaces_3 : List UInt8 := [132, 8, 1, 167, 255, 212, 21, 7, 172]
abbrev dktX26_replaces_3 : List UInt8 := dkwX26_replaces_3 ++ []
def dkwX26_replaces_2 : List UInt8 := [21, 4, 4, 96, 21, 7, 42, 180, 0, 3, 180, 0, 213, 21, 6, 46, 96, 182, 0, 172, 54, 7]
abbrev dktX26_replaces_2 : List UInt8 := dkwX26_replaces_2 ++ dktX26_replaces_3
def dkwX26_replaces_1 : List UInt8 := [54, 7, 3, 54, 8, 21, 8, 42, 180, 0, 3, 180, 0, 210, 21, 6, 46, 162, 0, 35, 42, 43, 44, 45]
abbrev dktX26_replaces_1 : List UInt8 := dkwX26_replaces_1 ++ dktX26_replaces_2
def dkwX26_replaces_0 : List UInt8 := [45, 21, 4, 182, 0, 195, 192, 0, 117, 182, 0, 119, 54, 6, 42, 21, 6, 21, 5, 182, 0, 201, 21, 5]
abbrev dktX26_replaces_0 : List UInt8 := dkwX26_replaces_0 ++ dktX26_replaces_1
theorem dksX26_replaces_0 : cX26_replaces.data.toList.drop 0 = dktX26_replaces_0 := by decide +kernel
theorem dksX26_replaces_1 : cX26_replaces.data.toList.drop 24 = dktX26_replaces_1 := dk_seg dksX26_replaces_0 24 rfl rfl
theorem dksX26_replaces_2 : cX26_replaces.data.toList.drop 48 = dktX26_replaces_2 := dk_seg dksX26_replaces_1 24 rfl rfl
theorem dksX26_replaces_3 : cX26_replaces.data.toList.drop 70 = dktX26_replaces_3 := dk_seg dksX26_replaces_2 22 rfl rfl
theorem dX26_replaces_0 : decode cX26_replaces 0 = .ok (.aload_n 3, 1) := dk_45 (dk_at dksX26_replaces_0 0 rfl rfl)
theorem dX26_replaces_1 : decode cX26_replaces 1 = .ok (.iload 4, 2) := dk_21 4 (dk_at dksX26_replaces_0 1 rfl rfl)
theorem dX26_replaces_3 : decode cX26_replaces 3 = .ok (.invokevirtual 195, 3) := dk_182 0 195 (dk_at dksX26_replaces_0 3 rfl rfl)
theorem dX26_replaces_6 : decode cX26_replaces 6 = .ok (.checkcast 117, 3) := dk_192 0 117 (dk_at dksX26_replaces_0 6 rfl rfl)
theorem dX26_replaces_9 : decode cX26_replaces 9 = .ok (.invokevirtual 119, 3) := dk_182 0 119 (dk_at dksX26_replaces_0 9 rfl rfl)
theorem dX26_replaces_12 : decode cX26_replaces 12 = .ok (.istore 6, 2) := dk_54 6 (dk_at dksX26_replaces_0 12 rfl rfl)
theorem dX26_replaces_14 : decode cX26_replaces 14 = .ok (.aload_n 0, 1) := dk_42 (dk_at dksX26_replaces_0 14 rfl rfl)
theorem dX26_replaces_15 : decode cX26_replaces 15 = .ok (.iload 6, 2) := dk_21 6 (dk_at dksX26_replaces_0 15 rfl rfl)
theorem dX26_replaces_17 : decode cX26_replaces 17 = .ok (.iload 5, 2) := dk_21 5 (dk_at dksX26_replaces_0 17 rfl rfl)
theorem dX26_replaces_19 : decode cX26_replaces 19 = .ok (.invokevirtual 201, 3) := dk_182 0 201 (dk_at dksX26_replaces_0 19 rfl rfl)
theorem dX26_replaces_22 : decode cX26_replaces 22 = .ok (.iload 5, 2) := dk_21 5 (dk_at dksX26_replaces_0 22 rfl rfl)
theorem dX26_replaces_24 : decode cX26_replaces 24 = .ok (.istore 7, 2) := dk_54 7 (dk_at dksX26_replaces_1 0 rfl rfl)
theorem dX26_replaces_26 : decode cX26_replaces 26 = .ok (.iconst 0, 1) := dk_3 (dk_at dksX26_replaces_1 2 rfl rfl)
theorem dX26_replaces_27 : decode cX26_replaces 27 = .ok (.istore 8, 2) := dk_54 8 (dk_at dksX26_replaces_1 3 rfl rfl)
theorem dX26_replaces_29 : decode cX26_replaces 29 = .ok (.iload 8, 2) := dk_21 8 (dk_at dksX26_replaces_1 5 rfl rfl)
theorem dX26_replaces_31 : decode cX26_replaces 31 = .ok (.aload_n 0, 1) := dk_42 (dk_at dksX26_replaces_1 7 rfl rfl)
theorem dX26_replaces_32 : decode cX26_replaces 32 = .ok (.getfield 3, 3) := dk_180 0 3 (dk_at dksX26_replaces_1 8 rfl rfl)
theorem dX26_replaces_35 : decode cX26_replaces 35 = .ok (.getfield 210, 3) := dk_180 0 210 (dk_at dksX26_replaces_1 11 rfl rfl)
theorem dX26_replaces_38 : decode cX26_replaces 38 = .ok (.iload 6, 2) := dk_21 6 (dk_at dksX26_replaces_1 14 rfl rfl)
theorem dX26_replaces_40 : decode cX26_replaces 40 = .ok (.iaload, 1) := dk_46 (dk_at dksX26_replaces_1 16 rfl rfl)
theorem dX26_replaces_41 : decode cX26_replaces 41 = .ok (.if_icmp .ge 35, 3) := dk_162 0 35 (dk_at dksX26_replaces_1 17 rfl rfl)
theorem dX26_replaces_44 : decode cX26_replaces 44 = .ok (.aload_n 0, 1) := dk_42 (dk_at dksX26_replaces_1 20 rfl rfl)
theorem dX26_replaces_45 : decode cX26_replaces 45 = .ok (.aload_n 1, 1) := dk_43 (dk_at dksX26_replaces_1 21 rfl rfl)
theorem dX26_replaces_46 : decode cX26_replaces 46 = .ok (.aload_n 2, 1) := dk_44 (dk_at dksX26_replaces_1 22 rfl rfl)
theorem dX26_replaces_47 : decode cX26_replaces 47 = .ok (.aload_n 3, 1) := dk_45 (dk_at dksX26_replaces_1 23 rfl rfl)
theorem dX26_replaces_48 : decode cX26_replaces 48 = .ok (.iload 4, 2) := dk_21 4 (dk_at dksX26_replaces_2 0 rfl rfl)
theorem dX26_replaces_50 : decode cX26_replaces 50 = .ok (.iconst 1, 1) := dk_4 (dk_at dksX26_replaces_2 2 rfl rfl)
theorem dX26_replaces_51 : decode cX26_replaces 51 = .ok (.iadd, 1) := dk_96 (dk_at dksX26_replaces_2 3 rfl rfl)
theorem dX26_replaces_52 : decode cX26_replaces 52 = .ok (.iload 7, 2) := dk_21 7 (dk_at dksX26_replaces_2 4 rfl rfl)
theorem dX26_replaces_54 : decode cX26_replaces 54 = .ok (.aload_n 0, 1) := dk_42 (dk_at dksX26_replaces_2 6 rfl rfl)
theorem dX26_replaces_55 : decode cX26_replaces 55 = .ok (.getfield 3, 3) := dk_180 0 3 (dk_at dksX26_replaces_2 7 rfl rfl)
theorem dX26_replaces_58 : decode cX26_replaces 58 = .ok (.getfield 213, 3) := dk_180 0 213 (dk_at dksX26_replaces_2 10 rfl rfl)
theorem dX26_replaces_61 : decode cX26_replaces 61 = .ok (.iload 6, 2) := dk_21 6 (dk_at dksX26_replaces_2 13 rfl rfl)
theorem dX26_replaces_63 : decode cX26_replaces 63 = .ok (.iaload, 1) := dk_46 (dk_at dksX26_replaces_2 15 rfl rfl)
theorem dX26_replaces_64 : decode cX26_replaces 64 = .ok (.iadd, 1) := dk_96 (dk_at dksX26_replaces_2 16 rfl rfl)
theorem dX26_replaces_65 : decode cX26_replaces 65 = .ok (.invokevirtual 172, 3) := dk_182 0 172 (dk_at dksX26_replaces_2 17 rfl rfl)
theorem dX26_replaces_68 : decode cX26_replaces 68 = .ok (.istore 7, 2) := dk_54 7 (dk_at dksX26_replaces_2 20 rfl rfl)
theorem dX26_replaces_70 : decode cX26_replaces 70 = .ok (.iinc 8 1, 3) := dk_132 8 1 (dk_at dksX26_replaces_3 0 rfl rfl)
theorem dX26_replaces_73 : decode cX26_replaces 73 = .ok (.goto (-44), 3) := dk_167 255 212 (dk_at dksX26_replaces_3 3 rfl rfl)
theorem dX26_replaces_76 : decode cX26_replaces 76 = .ok (.iload 7, 2) := dk_21 7 (dk_at dksX26_replaces_3 6 rfl rfl)
theorem dX26_replaces_78 : decode cX26_replaces 78 = .ok (.ireturn, 1) := dk_172 (dk_at dksX26_replaces_3 8 rfl rfl)
abbrev cX26_acts : ByteArray := prog_31_method_9_code
def yX26_acts : MethodName := ⟨RX26, "acts", "(II)V"⟩
def dkwX26_acts_2 : List UInt8 := [183, 0, 188, 182, 0, 140, 87, 177]
abbrev dktX26_acts_2 : List UInt8 := dkwX26_acts_2 ++ []
def dkwX26_acts_1 : List UInt8 := [42, 180, 0, 18, 180, 0, 180, 187, 0, 183, 89, 42, 180, 0, 3, 180, 0, 185, 27, 52, 28, 27]
abbrev dktX26_acts_1 : List UInt8 := dkwX26_acts_1 ++ dktX26_acts_2
def dkwX26_acts_0 : List UInt8 := [42, 180, 0, 18, 180, 0, 180, 182, 0, 147, 17, 1, 144, 160, 0, 11, 187, 0, 150, 89, 183, 0, 152, 191]
abbrev dktX26_acts_0 : List UInt8 := dkwX26_acts_0 ++ dktX26_acts_1
theorem dksX26_acts_0 : cX26_acts.data.toList.drop 0 = dktX26_acts_0 := by decide +kernel
theorem dksX26_acts_1 : cX26_acts.data.toList.drop 24 = dktX26_acts_1 := dk_seg dksX26_acts_0 24 rfl rfl
theorem dksX26_acts_2 : cX26_acts.data.toList.drop 46 = dktX26_acts_2 := dk_seg dksX26_acts_1 22 rfl rfl
theorem dX26_acts_0 : decode cX26_acts 0 = .ok (.aload_n 0, 1) := dk_42 (dk_at dksX26_acts_0 0 rfl rfl)
theorem dX26_acts_1 : decode cX26_acts 1 = .ok (.getfield 18, 3) := dk_180 0 18 (dk_at dksX26_acts_0 1 rfl rfl)
theorem dX26_acts_4 : decode cX26_acts 4 = .ok (.getfield 180, 3) := dk_180 0 180 (dk_at dksX26_acts_0 4 rfl rfl)
theorem dX26_acts_7 : decode cX26_acts 7 = .ok (.invokevirtual 147, 3) := dk_182 0 147 (dk_at dksX26_acts_0 7 rfl rfl)
theorem dX26_acts_10 : decode cX26_acts 10 = .ok (.sipush 400, 3) := dk_17 1 144 (dk_at dksX26_acts_0 10 rfl rfl)
theorem dX26_acts_13 : decode cX26_acts 13 = .ok (.if_icmp .ne 11, 3) := dk_160 0 11 (dk_at dksX26_acts_0 13 rfl rfl)
theorem dX26_acts_16 : decode cX26_acts 16 = .ok (.new 150, 3) := dk_187 0 150 (dk_at dksX26_acts_0 16 rfl rfl)
theorem dX26_acts_19 : decode cX26_acts 19 = .ok (.dup, 1) := dk_89 (dk_at dksX26_acts_0 19 rfl rfl)
theorem dX26_acts_20 : decode cX26_acts 20 = .ok (.invokespecial 152, 3) := dk_183 0 152 (dk_at dksX26_acts_0 20 rfl rfl)
theorem dX26_acts_23 : decode cX26_acts 23 = .ok (.athrow, 1) := dk_191 (dk_at dksX26_acts_0 23 rfl rfl)
theorem dX26_acts_24 : decode cX26_acts 24 = .ok (.aload_n 0, 1) := dk_42 (dk_at dksX26_acts_1 0 rfl rfl)
theorem dX26_acts_25 : decode cX26_acts 25 = .ok (.getfield 18, 3) := dk_180 0 18 (dk_at dksX26_acts_1 1 rfl rfl)
theorem dX26_acts_28 : decode cX26_acts 28 = .ok (.getfield 180, 3) := dk_180 0 180 (dk_at dksX26_acts_1 4 rfl rfl)
theorem dX26_acts_31 : decode cX26_acts 31 = .ok (.new 183, 3) := dk_187 0 183 (dk_at dksX26_acts_1 7 rfl rfl)
theorem dX26_acts_34 : decode cX26_acts 34 = .ok (.dup, 1) := dk_89 (dk_at dksX26_acts_1 10 rfl rfl)
theorem dX26_acts_35 : decode cX26_acts 35 = .ok (.aload_n 0, 1) := dk_42 (dk_at dksX26_acts_1 11 rfl rfl)
theorem dX26_acts_36 : decode cX26_acts 36 = .ok (.getfield 3, 3) := dk_180 0 3 (dk_at dksX26_acts_1 12 rfl rfl)
theorem dX26_acts_39 : decode cX26_acts 39 = .ok (.getfield 185, 3) := dk_180 0 185 (dk_at dksX26_acts_1 15 rfl rfl)
theorem dX26_acts_42 : decode cX26_acts 42 = .ok (.iload_n 1, 1) := dk_27 (dk_at dksX26_acts_1 18 rfl rfl)
theorem dX26_acts_43 : decode cX26_acts 43 = .ok (.caload, 1) := dk_52 (dk_at dksX26_acts_1 19 rfl rfl)
theorem dX26_acts_44 : decode cX26_acts 44 = .ok (.iload_n 2, 1) := dk_28 (dk_at dksX26_acts_1 20 rfl rfl)
theorem dX26_acts_45 : decode cX26_acts 45 = .ok (.iload_n 1, 1) := dk_27 (dk_at dksX26_acts_1 21 rfl rfl)
theorem dX26_acts_46 : decode cX26_acts 46 = .ok (.invokespecial 188, 3) := dk_183 0 188 (dk_at dksX26_acts_2 0 rfl rfl)
theorem dX26_acts_49 : decode cX26_acts 49 = .ok (.invokevirtual 140, 3) := dk_182 0 140 (dk_at dksX26_acts_2 3 rfl rfl)
theorem dX26_acts_52 : decode cX26_acts 52 = .ok (.pop, 1) := dk_87 (dk_at dksX26_acts_2 6 rfl rfl)
theorem dX26_acts_53 : decode cX26_acts 53 = .ok (.return_, 1) := dk_177 (dk_at dksX26_acts_2 7 rfl rfl)
theorem q112 : (Jvm.Cond.initialized "WeaversgateModel$Run") ∈ lw_all := lw_g (lw_at lw_m1 53 rfl) rfl
theorem q801 : (Jvm.Cond.selects "WeaversgateModel$Run" ({ cls := "java/lang/Object", name := "getClass", desc := "()Ljava/lang/Class;" } : Jvm.MethodName) ({ cls := "java/lang/Object", name := "getClass", desc := "()Ljava/lang/Class;" } : Jvm.MethodName)) ∈ lw_all := lw_g (lw_at lw_m4 22 rfl) rfl
theorem q1775 : (Jvm.Cond.fieldLink "WeaversgateModel$Run" (180 : Nat) "WeaversgateModel$Result" "trace" "Ljava/util/ArrayList;") ∈ lw_all := lw_g (lw_at lw_m8 36 rfl) rfl
theorem q1778 : (Jvm.Cond.fieldLink "WeaversgateModel$Run" (265 : Nat) "WeaversgateModel$Result" "end" "C") ∈ lw_all := lw_g (lw_at lw_m8 39 rfl) rfl
theorem q1781 : (Jvm.Cond.fieldLink "WeaversgateModel$Run" (264 : Nat) "WeaversgateModel$Result" "number" "I") ∈ lw_all := lw_g (lw_at lw_m8 42 rfl) rfl
theorem q1784 : (Jvm.Cond.fieldLink "WeaversgateModel$Run" (144 : Nat) "WeaversgateModel$Result" "points" "I") ∈ lw_all := lw_g (lw_at lw_m8 45 rfl) rfl
theorem q1787 : (Jvm.Cond.fieldLink "WeaversgateModel$Run" (113 : Nat) "WeaversgateModel$Result" "asked" "I") ∈ lw_all := lw_g (lw_at lw_m8 48 rfl) rfl
theorem q1803 : (Jvm.Cond.fieldLinkNest "WeaversgateModel$Run" (39 : Nat) "WeaversgateModel" "patternAs" "[I" "WeaversgateModel") ∈ lw_tbl := lw_at lw_m8 64 rfl
theorem q1805 : (Jvm.Cond.fieldLinkNest "WeaversgateModel$Run" (58 : Nat) "WeaversgateModel" "patternBs" "[I" "WeaversgateModel") ∈ lw_tbl := lw_at lw_m8 66 rfl
theorem q1807 : (Jvm.Cond.fieldLinkNest "WeaversgateModel$Run" (129 : Nat) "WeaversgateModel" "aspects" "[I" "WeaversgateModel") ∈ lw_tbl := lw_at lw_m8 68 rfl
theorem q1809 : (Jvm.Cond.fieldLinkNest "WeaversgateModel$Run" (102 : Nat) "WeaversgateModel" "patterns" "[I" "WeaversgateModel") ∈ lw_tbl := lw_at lw_m8 70 rfl
theorem q1811 : (Jvm.Cond.fieldLinkNest "WeaversgateModel$Run" (213 : Nat) "WeaversgateModel" "mores" "[I" "WeaversgateModel") ∈ lw_tbl := lw_at lw_m8 72 rfl
theorem q1813 : (Jvm.Cond.fieldLinkNest "WeaversgateModel$Run" (210 : Nat) "WeaversgateModel" "times" "[I" "WeaversgateModel") ∈ lw_tbl := lw_at lw_m8 74 rfl
theorem q1815 : (Jvm.Cond.fieldLinkNest "WeaversgateModel$Run" (43 : Nat) "WeaversgateModel" "patternKinds" "[C" "WeaversgateModel") ∈ lw_tbl := lw_at lw_m8 76 rfl
theorem q1817 : (Jvm.Cond.fieldLinkNest "WeaversgateModel$Run" (185 : Nat) "WeaversgateModel" "adviceKinds" "[C" "WeaversgateModel") ∈ lw_tbl := lw_at lw_m8 78 rfl
theorem q1819 : (Jvm.Cond.fieldLinkNest "WeaversgateModel$Run" (125 : Nat) "WeaversgateModel" "areOn" "[Z" "WeaversgateModel") ∈ lw_tbl := lw_at lw_m8 80 rfl
theorem q1824 : (Jvm.Cond.fieldLinkNest "WeaversgateModel$Run" (153 : Nat) "WeaversgateModel" "patternCount" "I" "WeaversgateModel") ∈ lw_tbl := lw_at lw_m8 85 rfl
theorem q1826 : (Jvm.Cond.fieldLinkNest "WeaversgateModel$Run" (122 : Nat) "WeaversgateModel" "adviceCount" "I" "WeaversgateModel") ∈ lw_tbl := lw_at lw_m8 87 rfl
theorem q1900 : (Jvm.Cond.fieldLink "WeaversgateModel$Run" (246 : Nat) "WeaversgateModel$Body" "kinds" "[C") ∈ lw_all := lw_g (lw_at lw_m8 161 rfl) rfl
theorem q1903 : (Jvm.Cond.fieldLink "WeaversgateModel$Run" (257 : Nat) "WeaversgateModel$Body" "as" "[I") ∈ lw_all := lw_g (lw_at lw_m8 164 rfl) rfl
theorem q1906 : (Jvm.Cond.fieldLink "WeaversgateModel$Run" (260 : Nat) "WeaversgateModel$Body" "bs" "[I") ∈ lw_all := lw_g (lw_at lw_m8 167 rfl) rfl
theorem q1909 : (Jvm.Cond.fieldLink "WeaversgateModel$Run" (241 : Nat) "WeaversgateModel$Body" "count" "I") ∈ lw_all := lw_g (lw_at lw_m8 170 rfl) rfl
theorem q2064 : (Jvm.Cond.selects "WeaversgateModel$Run" ({ cls := "java/lang/Object", name := "equals", desc := "(Ljava/lang/Object;)Z" } : Jvm.MethodName) ({ cls := "java/lang/Object", name := "equals", desc := "(Ljava/lang/Object;)Z" } : Jvm.MethodName)) ∈ lw_all := lw_g (lw_at lw_m9 85 rfl) rfl
theorem q2239 : (Jvm.Cond.instantiable "WeaversgateModel$Run" (5 : Nat)) ∈ lw_all := lw_g (lw_at lw_m10 20 rfl) rfl
theorem q2241 : (Jvm.Cond.instanceMethod ({ cls := "WeaversgateModel$Run", name := "<init>", desc := "(LWeaversgateModel;Z)V" } : Jvm.MethodName)) ∈ lw_all := lw_g (lw_at lw_m10 22 rfl) rfl
theorem q2242 : (Jvm.Cond.code ({ cls := "WeaversgateModel$Run", name := "<init>", desc := "(LWeaversgateModel;Z)V" } : Jvm.MethodName) prog_31_method_1_code (3 : Nat) (Option.none : Option Jvm.ClassFile.FieldType)) ∈ lw_all := lw_g (lw_at lw_m10 23 rfl) rfl
theorem q2243 : (Jvm.Cond.methodLink "WeaversgateModel$Run" (9 : Nat) ({ cls := "java/lang/Object", name := "<init>", desc := "()V" } : Jvm.MethodName)) ∈ lw_all := lw_g (lw_at lw_m10 24 rfl) rfl
theorem q2244 : (Jvm.Cond.classLink "WeaversgateModel$Run" (15 : Nat) "WeaversgateModel$Result") ∈ lw_all := lw_g (lw_at lw_m10 25 rfl) rfl
theorem q2245 : (Jvm.Cond.methodLinkNest "WeaversgateModel$Run" (17 : Nat) ({ cls := "WeaversgateModel$Result", name := "<init>", desc := "()V" } : Jvm.MethodName) "WeaversgateModel") ∈ lw_tbl := lw_at lw_m10 26 rfl
theorem q2246 : (Jvm.Cond.classLink "WeaversgateModel$Run" (22 : Nat) "java/util/ArrayList") ∈ lw_all := lw_g (lw_at lw_m10 27 rfl) rfl
theorem q2247 : (Jvm.Cond.methodLink "WeaversgateModel$Run" (24 : Nat) ({ cls := "java/util/ArrayList", name := "<init>", desc := "()V" } : Jvm.MethodName)) ∈ lw_all := lw_g (lw_at lw_m10 28 rfl) rfl
theorem q2248 : (Jvm.Cond.methodLinkNest "WeaversgateModel$Run" (29 : Nat) ({ cls := "WeaversgateModel", name := "order", desc := "()Ljava/util/ArrayList;" } : Jvm.MethodName) "WeaversgateModel") ∈ lw_tbl := lw_at lw_m10 29 rfl
theorem q2249 : (Jvm.Cond.fieldLink "WeaversgateModel$Run" (18 : Nat) "WeaversgateModel$Run" "result" "LWeaversgateModel$Result;") ∈ lw_all := lw_g (lw_at lw_m10 30 rfl) rfl
theorem q2250 : (Jvm.Cond.fieldLink "WeaversgateModel$Run" (25 : Nat) "WeaversgateModel$Run" "open" "Ljava/util/ArrayList;") ∈ lw_all := lw_g (lw_at lw_m10 31 rfl) rfl
theorem q2251 : (Jvm.Cond.fieldLink "WeaversgateModel$Run" (33 : Nat) "WeaversgateModel$Run" "order" "Ljava/util/ArrayList;") ∈ lw_all := lw_g (lw_at lw_m10 32 rfl) rfl
theorem q2252 : (Jvm.Cond.fieldLink "WeaversgateModel$Run" (35 : Nat) "WeaversgateModel$Run" "isWoven" "Z") ∈ lw_all := lw_g (lw_at lw_m10 33 rfl) rfl
theorem q2253 : (Jvm.Cond.fieldLink "WeaversgateModel$Run" (3 : Nat) "WeaversgateModel$Run" "this$0" "LWeaversgateModel;") ∈ lw_all := lw_g (lw_at lw_m10 34 rfl) rfl
theorem q2254 : (Jvm.Cond.laysFinal "WeaversgateModel$Run" "WeaversgateModel$Run" "result" "LWeaversgateModel$Result;") ∈ lw_all := lw_g (lw_at lw_m10 35 rfl) rfl
theorem q2255 : (Jvm.Cond.soleField "WeaversgateModel$Run" "result") ∈ lw_all := lw_g (lw_at lw_m10 36 rfl) rfl
theorem q2256 : (Jvm.Cond.laysFinal "WeaversgateModel$Run" "WeaversgateModel$Run" "open" "Ljava/util/ArrayList;") ∈ lw_all := lw_g (lw_at lw_m10 37 rfl) rfl
theorem q2257 : (Jvm.Cond.soleField "WeaversgateModel$Run" "open") ∈ lw_all := lw_g (lw_at lw_m10 38 rfl) rfl
theorem q2258 : (Jvm.Cond.laysFinal "WeaversgateModel$Run" "WeaversgateModel$Run" "order" "Ljava/util/ArrayList;") ∈ lw_all := lw_g (lw_at lw_m10 39 rfl) rfl
theorem q2259 : (Jvm.Cond.soleField "WeaversgateModel$Run" "order") ∈ lw_all := lw_g (lw_at lw_m10 40 rfl) rfl
theorem q2260 : (Jvm.Cond.laysFinal "WeaversgateModel$Run" "WeaversgateModel$Run" "isWoven" "Z") ∈ lw_all := lw_g (lw_at lw_m10 41 rfl) rfl
theorem q2261 : (Jvm.Cond.soleField "WeaversgateModel$Run" "isWoven") ∈ lw_all := lw_g (lw_at lw_m10 42 rfl) rfl
theorem q2262 : (Jvm.Cond.laysFinal "WeaversgateModel$Run" "WeaversgateModel$Run" "this$0" "LWeaversgateModel;") ∈ lw_all := lw_g (lw_at lw_m10 43 rfl) rfl
theorem q2263 : (Jvm.Cond.soleField "WeaversgateModel$Run" "this$0") ∈ lw_all := lw_g (lw_at lw_m10 44 rfl) rfl
theorem q2264 : (Jvm.Cond.superclass "WeaversgateModel$Run" "java/lang/Object") ∈ lw_all := lw_g (lw_at lw_m10 45 rfl) rfl
theorem q2266 : (Jvm.Cond.instanceMethod ({ cls := "WeaversgateModel$Run", name := "runs", desc := "(III)LWeaversgateModel$Result;" } : Jvm.MethodName)) ∈ lw_all := lw_g (lw_at lw_m10 47 rfl) rfl
theorem q2267 : (Jvm.Cond.selects "WeaversgateModel$Run" ({ cls := "WeaversgateModel$Run", name := "runs", desc := "(III)LWeaversgateModel$Result;" } : Jvm.MethodName) ({ cls := "WeaversgateModel$Run", name := "runs", desc := "(III)LWeaversgateModel$Result;" } : Jvm.MethodName)) ∈ lw_all := lw_g (lw_at lw_m10 48 rfl) rfl
theorem q2268 : (Jvm.Cond.codeWith ({ cls := "WeaversgateModel$Run", name := "runs", desc := "(III)LWeaversgateModel$Result;" } : Jvm.MethodName) prog_31_method_16_code (5 : Nat) (Option.some (Jvm.ClassFile.FieldType.object "WeaversgateModel$Result")) [((0 : Nat), (35 : Nat), (38 : Nat), (205 : Nat)), ((0 : Nat), (35 : Nat), (64 : Nat), (150 : Nat))]) ∈ lw_all := lw_g (lw_at lw_m10 49 rfl) rfl
theorem q2269 : (Jvm.Cond.classLink "WeaversgateModel$Run" (205 : Nat) "WeaversgateModel$Raised") ∈ lw_all := lw_g (lw_at lw_m10 50 rfl) rfl
theorem q2270 : (Jvm.Cond.classLink "WeaversgateModel$Run" (150 : Nat) "WeaversgateModel$GivenUp") ∈ lw_all := lw_g (lw_at lw_m10 51 rfl) rfl
theorem q2271 : (Jvm.Cond.classLink "WeaversgateModel$Run" (157 : Nat) "WeaversgateModel$Thing") ∈ lw_all := lw_g (lw_at lw_m10 52 rfl) rfl
theorem q2273 : (Jvm.Cond.methodLink "WeaversgateModel$Run" (263 : Nat) ({ cls := "WeaversgateModel$Thing", name := "<init>", desc := "(I)V" } : Jvm.MethodName)) ∈ lw_all := lw_g (lw_at lw_m10 54 rfl) rfl
theorem q2278 : (Jvm.Cond.fieldLink "WeaversgateModel$Run" (156 : Nat) "WeaversgateModel$Thing" "type" "I") ∈ lw_all := lw_g (lw_at lw_m10 59 rfl) rfl
theorem q2280 : (Jvm.Cond.fieldLink "WeaversgateModel$Run" (234 : Nat) "WeaversgateModel$Thing" "fields" "[I") ∈ lw_all := lw_g (lw_at lw_m10 61 rfl) rfl
theorem q2286 : (Jvm.Cond.methodLink "WeaversgateModel$Run" (226 : Nat) ({ cls := "WeaversgateModel$Run", name := "point", desc := "(CILWeaversgateModel$Thing;IIII)I" } : Jvm.MethodName)) ∈ lw_all := lw_g (lw_at lw_m10 67 rfl) rfl
theorem q2287 : (Jvm.Cond.instanceMethod ({ cls := "WeaversgateModel$Run", name := "point", desc := "(CILWeaversgateModel$Thing;IIII)I" } : Jvm.MethodName)) ∈ lw_all := lw_g (lw_at lw_m10 68 rfl) rfl
theorem q2288 : (Jvm.Cond.selects "WeaversgateModel$Run" ({ cls := "WeaversgateModel$Run", name := "point", desc := "(CILWeaversgateModel$Thing;IIII)I" } : Jvm.MethodName) ({ cls := "WeaversgateModel$Run", name := "point", desc := "(CILWeaversgateModel$Thing;IIII)I" } : Jvm.MethodName)) ∈ lw_all := lw_g (lw_at lw_m10 69 rfl) rfl
theorem q2289 : (Jvm.Cond.codeWith ({ cls := "WeaversgateModel$Run", name := "point", desc := "(CILWeaversgateModel$Thing;IIII)I" } : Jvm.MethodName) prog_31_method_8_code (12 : Nat) (Option.some Jvm.ClassFile.FieldType.int) [((138 : Nat), (156 : Nat), (176 : Nat), (0 : Nat)), ((176 : Nat), (178 : Nat), (176 : Nat), (0 : Nat))]) ∈ lw_all := lw_g (lw_at lw_m10 70 rfl) rfl
theorem q2290 : (Jvm.Cond.methodLink "WeaversgateModel$Run" (147 : Nat) ({ cls := "java/util/ArrayList", name := "size", desc := "()I" } : Jvm.MethodName)) ∈ lw_all := lw_g (lw_at lw_m10 71 rfl) rfl
theorem q2299 : (Jvm.Cond.methodLinkNest "WeaversgateModel$Run" (152 : Nat) ({ cls := "WeaversgateModel$GivenUp", name := "<init>", desc := "()V" } : Jvm.MethodName) "WeaversgateModel") ∈ lw_tbl := lw_at lw_m10 80 rfl
theorem q2305 : (Jvm.Cond.methodLink "WeaversgateModel$Run" (161 : Nat) ({ cls := "WeaversgateModel$Run", name := "holdsNow", desc := "(IICIIII)Z" } : Jvm.MethodName)) ∈ lw_all := lw_g (lw_at lw_m10 86 rfl) rfl
theorem q2306 : (Jvm.Cond.instanceMethod ({ cls := "WeaversgateModel$Run", name := "holdsNow", desc := "(IICIIII)Z" } : Jvm.MethodName)) ∈ lw_all := lw_g (lw_at lw_m10 87 rfl) rfl
theorem q2307 : (Jvm.Cond.selects "WeaversgateModel$Run" ({ cls := "WeaversgateModel$Run", name := "holdsNow", desc := "(IICIIII)Z" } : Jvm.MethodName) ({ cls := "WeaversgateModel$Run", name := "holdsNow", desc := "(IICIIII)Z" } : Jvm.MethodName)) ∈ lw_all := lw_g (lw_at lw_m10 88 rfl) rfl
theorem q2308 : (Jvm.Cond.code ({ cls := "WeaversgateModel$Run", name := "holdsNow", desc := "(IICIIII)Z" } : Jvm.MethodName) prog_31_method_2_code (9 : Nat) (Option.some Jvm.ClassFile.FieldType.boolean)) ∈ lw_all := lw_g (lw_at lw_m10 89 rfl) rfl
theorem q2309 : (Jvm.Cond.methodLinkNest "WeaversgateModel$Run" (47 : Nat) ({ cls := "WeaversgateModel", name := "isBelow", desc := "(II)Z" } : Jvm.MethodName) "WeaversgateModel") ∈ lw_tbl := lw_at lw_m10 90 rfl
theorem q2310 : (Jvm.Cond.methodLink "WeaversgateModel$Run" (51 : Nat) ({ cls := "WeaversgateModel$Run", name := "isBit", desc := "(II)Z" } : Jvm.MethodName)) ∈ lw_all := lw_g (lw_at lw_m10 91 rfl) rfl
theorem q2311 : (Jvm.Cond.instanceMethod ({ cls := "WeaversgateModel$Run", name := "isBit", desc := "(II)Z" } : Jvm.MethodName)) ∈ lw_all := lw_g (lw_at lw_m10 92 rfl) rfl
theorem q2312 : (Jvm.Cond.selects "WeaversgateModel$Run" ({ cls := "WeaversgateModel$Run", name := "isBit", desc := "(II)Z" } : Jvm.MethodName) ({ cls := "WeaversgateModel$Run", name := "isBit", desc := "(II)Z" } : Jvm.MethodName)) ∈ lw_all := lw_g (lw_at lw_m10 93 rfl) rfl
theorem q2313 : (Jvm.Cond.code ({ cls := "WeaversgateModel$Run", name := "isBit", desc := "(II)Z" } : Jvm.MethodName) prog_31_method_3_code (3 : Nat) (Option.some Jvm.ClassFile.FieldType.boolean)) ∈ lw_all := lw_g (lw_at lw_m10 94 rfl) rfl
theorem q2314 : (Jvm.Cond.methodLink "WeaversgateModel$Run" (54 : Nat) ({ cls := "WeaversgateModel$Run", name := "isHeldByOpen", desc := "(I)Z" } : Jvm.MethodName)) ∈ lw_all := lw_g (lw_at lw_m10 95 rfl) rfl
theorem q2315 : (Jvm.Cond.instanceMethod ({ cls := "WeaversgateModel$Run", name := "isHeldByOpen", desc := "(I)Z" } : Jvm.MethodName)) ∈ lw_all := lw_g (lw_at lw_m10 96 rfl) rfl
theorem q2316 : (Jvm.Cond.selects "WeaversgateModel$Run" ({ cls := "WeaversgateModel$Run", name := "isHeldByOpen", desc := "(I)Z" } : Jvm.MethodName) ({ cls := "WeaversgateModel$Run", name := "isHeldByOpen", desc := "(I)Z" } : Jvm.MethodName)) ∈ lw_all := lw_g (lw_at lw_m10 97 rfl) rfl
theorem q2317 : (Jvm.Cond.code ({ cls := "WeaversgateModel$Run", name := "isHeldByOpen", desc := "(I)Z" } : Jvm.MethodName) prog_31_method_4_code (4 : Nat) (Option.some Jvm.ClassFile.FieldType.boolean)) ∈ lw_all := lw_g (lw_at lw_m10 98 rfl) rfl
theorem q2318 : (Jvm.Cond.methodLink "WeaversgateModel$Run" (61 : Nat) ({ cls := "java/util/ArrayList", name := "iterator", desc := "()Ljava/util/Iterator;" } : Jvm.MethodName)) ∈ lw_all := lw_g (lw_at lw_m10 99 rfl) rfl
theorem q2319 : (Jvm.Cond.interfaceEntry "WeaversgateModel$Run" (65 : Nat)) ∈ lw_tbl := lw_at lw_m10 100 rfl
theorem q2320 : (Jvm.Cond.methodLink "WeaversgateModel$Run" (65 : Nat) ({ cls := "java/util/Iterator", name := "hasNext", desc := "()Z" } : Jvm.MethodName)) ∈ lw_all := lw_g (lw_at lw_m10 101 rfl) rfl
theorem q2321 : (Jvm.Cond.interfaceEntry "WeaversgateModel$Run" (71 : Nat)) ∈ lw_tbl := lw_at lw_m10 102 rfl
theorem q2322 : (Jvm.Cond.methodLink "WeaversgateModel$Run" (71 : Nat) ({ cls := "java/util/Iterator", name := "next", desc := "()Ljava/lang/Object;" } : Jvm.MethodName)) ∈ lw_all := lw_g (lw_at lw_m10 103 rfl) rfl
theorem q2323 : (Jvm.Cond.classLink "WeaversgateModel$Run" (75 : Nat) "WeaversgateModel$Point") ∈ lw_all := lw_g (lw_at lw_m10 104 rfl) rfl
theorem q2324 : (Jvm.Cond.methodLink "WeaversgateModel$Run" (77 : Nat) ({ cls := "WeaversgateModel$Point", name := "held", desc := "()I" } : Jvm.MethodName)) ∈ lw_all := lw_g (lw_at lw_m10 105 rfl) rfl
theorem q2329 : (Jvm.Cond.methodLinkNest "WeaversgateModel$Run" (165 : Nat) ({ cls := "WeaversgateModel$Point", name := "<init>", desc := "(CIIIIIII)V" } : Jvm.MethodName) "WeaversgateModel") ∈ lw_tbl := lw_at lw_m10 110 rfl
theorem q2358 : (Jvm.Cond.methodLink "WeaversgateModel$Run" (140 : Nat) ({ cls := "java/util/ArrayList", name := "add", desc := "(Ljava/lang/Object;)Z" } : Jvm.MethodName)) ∈ lw_all := lw_g (lw_at lw_m10 139 rfl) rfl
theorem q2359 : (Jvm.Cond.methodLink "WeaversgateModel$Run" (168 : Nat) ({ cls := "WeaversgateModel$Run", name := "around", desc := "(LWeaversgateModel$Point;)Ljava/util/ArrayList;" } : Jvm.MethodName)) ∈ lw_all := lw_g (lw_at lw_m10 140 rfl) rfl
theorem q2360 : (Jvm.Cond.instanceMethod ({ cls := "WeaversgateModel$Run", name := "around", desc := "(LWeaversgateModel$Point;)Ljava/util/ArrayList;" } : Jvm.MethodName)) ∈ lw_all := lw_g (lw_at lw_m10 141 rfl) rfl
theorem q2361 : (Jvm.Cond.selects "WeaversgateModel$Run" ({ cls := "WeaversgateModel$Run", name := "around", desc := "(LWeaversgateModel$Point;)Ljava/util/ArrayList;" } : Jvm.MethodName) ({ cls := "WeaversgateModel$Run", name := "around", desc := "(LWeaversgateModel$Point;)Ljava/util/ArrayList;" } : Jvm.MethodName)) ∈ lw_all := lw_g (lw_at lw_m10 142 rfl) rfl
theorem q2362 : (Jvm.Cond.code ({ cls := "WeaversgateModel$Run", name := "around", desc := "(LWeaversgateModel$Point;)Ljava/util/ArrayList;" } : Jvm.MethodName) prog_31_method_7_code (6 : Nat) (Option.some (Jvm.ClassFile.FieldType.object "java/util/ArrayList"))) ∈ lw_all := lw_g (lw_at lw_m10 143 rfl) rfl
theorem q2363 : (Jvm.Cond.classLink "WeaversgateModel$Run" (117 : Nat) "java/lang/Integer") ∈ lw_all := lw_g (lw_at lw_m10 144 rfl) rfl
theorem q2364 : (Jvm.Cond.methodLink "WeaversgateModel$Run" (119 : Nat) ({ cls := "java/lang/Integer", name := "intValue", desc := "()I" } : Jvm.MethodName)) ∈ lw_all := lw_g (lw_at lw_m10 145 rfl) rfl
theorem q2365 : (Jvm.Cond.methodLink "WeaversgateModel$Run" (132 : Nat) ({ cls := "WeaversgateModel$Run", name := "isTaken", desc := "(LWeaversgateModel$Point;I)Z" } : Jvm.MethodName)) ∈ lw_all := lw_g (lw_at lw_m10 146 rfl) rfl
theorem q2366 : (Jvm.Cond.instanceMethod ({ cls := "WeaversgateModel$Run", name := "isTaken", desc := "(LWeaversgateModel$Point;I)Z" } : Jvm.MethodName)) ∈ lw_all := lw_g (lw_at lw_m10 147 rfl) rfl
theorem q2367 : (Jvm.Cond.selects "WeaversgateModel$Run" ({ cls := "WeaversgateModel$Run", name := "isTaken", desc := "(LWeaversgateModel$Point;I)Z" } : Jvm.MethodName) ({ cls := "WeaversgateModel$Run", name := "isTaken", desc := "(LWeaversgateModel$Point;I)Z" } : Jvm.MethodName)) ∈ lw_all := lw_g (lw_at lw_m10 148 rfl) rfl
theorem q2368 : (Jvm.Cond.code ({ cls := "WeaversgateModel$Run", name := "isTaken", desc := "(LWeaversgateModel$Point;I)Z" } : Jvm.MethodName) prog_31_method_6_code (4 : Nat) (Option.some Jvm.ClassFile.FieldType.boolean)) ∈ lw_all := lw_g (lw_at lw_m10 149 rfl) rfl
theorem q2369 : (Jvm.Cond.methodLink "WeaversgateModel$Run" (81 : Nat) ({ cls := "WeaversgateModel$Point", name := "placeClass", desc := "()I" } : Jvm.MethodName)) ∈ lw_all := lw_g (lw_at lw_m10 150 rfl) rfl
theorem q2373 : (Jvm.Cond.methodLink "WeaversgateModel$Run" (109 : Nat) ({ cls := "WeaversgateModel$Run", name := "spotMatch", desc := "(LWeaversgateModel$Point;I)C" } : Jvm.MethodName)) ∈ lw_all := lw_g (lw_at lw_m10 154 rfl) rfl
theorem q2374 : (Jvm.Cond.instanceMethod ({ cls := "WeaversgateModel$Run", name := "spotMatch", desc := "(LWeaversgateModel$Point;I)C" } : Jvm.MethodName)) ∈ lw_all := lw_g (lw_at lw_m10 155 rfl) rfl
theorem q2375 : (Jvm.Cond.selects "WeaversgateModel$Run" ({ cls := "WeaversgateModel$Run", name := "spotMatch", desc := "(LWeaversgateModel$Point;I)C" } : Jvm.MethodName) ({ cls := "WeaversgateModel$Run", name := "spotMatch", desc := "(LWeaversgateModel$Point;I)C" } : Jvm.MethodName)) ∈ lw_all := lw_g (lw_at lw_m10 156 rfl) rfl
theorem q2376 : (Jvm.Cond.code ({ cls := "WeaversgateModel$Run", name := "spotMatch", desc := "(LWeaversgateModel$Point;I)C" } : Jvm.MethodName) prog_31_method_5_code (5 : Nat) (Option.some Jvm.ClassFile.FieldType.char)) ∈ lw_all := lw_g (lw_at lw_m10 157 rfl) rfl
theorem q2377 : (Jvm.Cond.methodLink "WeaversgateModel$Run" (84 : Nat) ({ cls := "WeaversgateModel$Point", name := "method", desc := "()I" } : Jvm.MethodName)) ∈ lw_all := lw_g (lw_at lw_m10 158 rfl) rfl
theorem q2381 : (Jvm.Cond.methodLinkNest "WeaversgateModel$Run" (87 : Nat) ({ cls := "WeaversgateModel", name := "spots", desc := "(II)Ljava/util/ArrayList;" } : Jvm.MethodName) "WeaversgateModel") ∈ lw_tbl := lw_at lw_m10 162 rfl
theorem q2382 : (Jvm.Cond.classLink "WeaversgateModel$Run" (91 : Nat) "WeaversgateModel$Spot") ∈ lw_all := lw_g (lw_at lw_m10 163 rfl) rfl
theorem q2383 : (Jvm.Cond.methodLink "WeaversgateModel$Run" (93 : Nat) ({ cls := "WeaversgateModel$Spot", name := "kind", desc := "()C" } : Jvm.MethodName)) ∈ lw_all := lw_g (lw_at lw_m10 164 rfl) rfl
theorem q2384 : (Jvm.Cond.methodLink "WeaversgateModel$Run" (97 : Nat) ({ cls := "WeaversgateModel$Point", name := "kind", desc := "()C" } : Jvm.MethodName)) ∈ lw_all := lw_g (lw_at lw_m10 165 rfl) rfl
theorem q2388 : (Jvm.Cond.methodLink "WeaversgateModel$Run" (98 : Nat) ({ cls := "WeaversgateModel$Spot", name := "index", desc := "()I" } : Jvm.MethodName)) ∈ lw_all := lw_g (lw_at lw_m10 169 rfl) rfl
theorem q2392 : (Jvm.Cond.methodLink "WeaversgateModel$Run" (101 : Nat) ({ cls := "WeaversgateModel$Point", name := "index", desc := "()I" } : Jvm.MethodName)) ∈ lw_all := lw_g (lw_at lw_m10 173 rfl) rfl
theorem q2396 : (Jvm.Cond.methodLinkNest "WeaversgateModel$Run" (105 : Nat) ({ cls := "WeaversgateModel", name := "matches", desc := "(LWeaversgateModel$Spot;III)C" } : Jvm.MethodName) "WeaversgateModel") ∈ lw_tbl := lw_at lw_m10 177 rfl
theorem q2397 : (Jvm.Cond.methodLink "WeaversgateModel$Run" (136 : Nat) ({ cls := "java/lang/Integer", name := "valueOf", desc := "(I)Ljava/lang/Integer;" } : Jvm.MethodName)) ∈ lw_all := lw_g (lw_at lw_m10 178 rfl) rfl
theorem q2398 : (Jvm.Cond.methodLink "WeaversgateModel$Run" (172 : Nat) ({ cls := "WeaversgateModel$Run", name := "goes", desc := "(LWeaversgateModel$Point;LWeaversgateModel$Thing;Ljava/util/ArrayList;II)I" } : Jvm.MethodName)) ∈ lw_all := lw_g (lw_at lw_m10 179 rfl) rfl
theorem q2399 : (Jvm.Cond.instanceMethod ({ cls := "WeaversgateModel$Run", name := "goes", desc := "(LWeaversgateModel$Point;LWeaversgateModel$Thing;Ljava/util/ArrayList;II)I" } : Jvm.MethodName)) ∈ lw_all := lw_g (lw_at lw_m10 180 rfl) rfl
theorem q2400 : (Jvm.Cond.selects "WeaversgateModel$Run" ({ cls := "WeaversgateModel$Run", name := "goes", desc := "(LWeaversgateModel$Point;LWeaversgateModel$Thing;Ljava/util/ArrayList;II)I" } : Jvm.MethodName) ({ cls := "WeaversgateModel$Run", name := "goes", desc := "(LWeaversgateModel$Point;LWeaversgateModel$Thing;Ljava/util/ArrayList;II)I" } : Jvm.MethodName)) ∈ lw_all := lw_g (lw_at lw_m10 181 rfl) rfl
theorem q2401 : (Jvm.Cond.codeWith ({ cls := "WeaversgateModel$Run", name := "goes", desc := "(LWeaversgateModel$Point;LWeaversgateModel$Thing;Ljava/util/ArrayList;II)I" } : Jvm.MethodName) prog_31_method_10_code (10 : Nat) (Option.some Jvm.ClassFile.FieldType.int) [((78 : Nat), (93 : Nat), (96 : Nat), (205 : Nat))]) ∈ lw_all := lw_g (lw_at lw_m10 182 rfl) rfl
theorem q2402 : (Jvm.Cond.methodLink "WeaversgateModel$Run" (191 : Nat) ({ cls := "WeaversgateModel$Run", name := "does", desc := "(LWeaversgateModel$Point;LWeaversgateModel$Thing;I)I" } : Jvm.MethodName)) ∈ lw_all := lw_g (lw_at lw_m10 183 rfl) rfl
theorem q2403 : (Jvm.Cond.instanceMethod ({ cls := "WeaversgateModel$Run", name := "does", desc := "(LWeaversgateModel$Point;LWeaversgateModel$Thing;I)I" } : Jvm.MethodName)) ∈ lw_all := lw_g (lw_at lw_m10 184 rfl) rfl
theorem q2404 : (Jvm.Cond.selects "WeaversgateModel$Run" ({ cls := "WeaversgateModel$Run", name := "does", desc := "(LWeaversgateModel$Point;LWeaversgateModel$Thing;I)I" } : Jvm.MethodName) ({ cls := "WeaversgateModel$Run", name := "does", desc := "(LWeaversgateModel$Point;LWeaversgateModel$Thing;I)I" } : Jvm.MethodName)) ∈ lw_all := lw_g (lw_at lw_m10 185 rfl) rfl
theorem q2405 : (Jvm.Cond.code ({ cls := "WeaversgateModel$Run", name := "does", desc := "(LWeaversgateModel$Point;LWeaversgateModel$Thing;I)I" } : Jvm.MethodName) prog_31_method_12_code (6 : Nat) (Option.some Jvm.ClassFile.FieldType.int)) ∈ lw_all := lw_g (lw_at lw_m10 186 rfl) rfl
theorem q2406 : (Jvm.Cond.methodLink "WeaversgateModel$Run" (216 : Nat) ({ cls := "WeaversgateModel$Point", name := "name", desc := "()I" } : Jvm.MethodName)) ∈ lw_all := lw_g (lw_at lw_m10 187 rfl) rfl
theorem q2410 : (Jvm.Cond.methodLinkNest "WeaversgateModel$Run" (219 : Nat) ({ cls := "WeaversgateModel", name := "found", desc := "(II)I" } : Jvm.MethodName) "WeaversgateModel") ∈ lw_tbl := lw_at lw_m10 191 rfl
theorem q2419 : (Jvm.Cond.methodLink "WeaversgateModel$Run" (223 : Nat) ({ cls := "WeaversgateModel$Raised", name := "<init>", desc := "(I)V" } : Jvm.MethodName)) ∈ lw_all := lw_g (lw_at lw_m10 200 rfl) rfl
theorem q2424 : (Jvm.Cond.fieldLink "WeaversgateModel$Run" (207 : Nat) "WeaversgateModel$Raised" "number" "I") ∈ lw_all := lw_g (lw_at lw_m10 205 rfl) rfl
theorem q2429 : (Jvm.Cond.methodLink "WeaversgateModel$Run" (230 : Nat) ({ cls := "WeaversgateModel$Run", name := "carries", desc := "(LWeaversgateModel$Thing;III)I" } : Jvm.MethodName)) ∈ lw_all := lw_g (lw_at lw_m10 210 rfl) rfl
theorem q2430 : (Jvm.Cond.instanceMethod ({ cls := "WeaversgateModel$Run", name := "carries", desc := "(LWeaversgateModel$Thing;III)I" } : Jvm.MethodName)) ∈ lw_all := lw_g (lw_at lw_m10 211 rfl) rfl
theorem q2431 : (Jvm.Cond.selects "WeaversgateModel$Run" ({ cls := "WeaversgateModel$Run", name := "carries", desc := "(LWeaversgateModel$Thing;III)I" } : Jvm.MethodName) ({ cls := "WeaversgateModel$Run", name := "carries", desc := "(LWeaversgateModel$Thing;III)I" } : Jvm.MethodName)) ∈ lw_all := lw_g (lw_at lw_m10 212 rfl) rfl
theorem q2432 : (Jvm.Cond.codeWith ({ cls := "WeaversgateModel$Run", name := "carries", desc := "(LWeaversgateModel$Thing;III)I" } : Jvm.MethodName) prog_31_method_13_code (11 : Nat) (Option.some Jvm.ClassFile.FieldType.int) [((37 : Nat), (76 : Nat), (79 : Nat), (205 : Nat))]) ∈ lw_all := lw_g (lw_at lw_m10 213 rfl) rfl
theorem q2433 : (Jvm.Cond.methodLinkNest "WeaversgateModel$Run" (237 : Nat) ({ cls := "WeaversgateModel", name := "body", desc := "(II)LWeaversgateModel$Body;" } : Jvm.MethodName) "WeaversgateModel") ∈ lw_tbl := lw_at lw_m10 214 rfl
theorem q2434 : (Jvm.Cond.methodLink "WeaversgateModel$Run" (249 : Nat) ({ cls := "WeaversgateModel$Run", name := "step", desc := "(LWeaversgateModel$Thing;IILWeaversgateModel$Body;II)I" } : Jvm.MethodName)) ∈ lw_all := lw_g (lw_at lw_m10 215 rfl) rfl
theorem q2435 : (Jvm.Cond.instanceMethod ({ cls := "WeaversgateModel$Run", name := "step", desc := "(LWeaversgateModel$Thing;IILWeaversgateModel$Body;II)I" } : Jvm.MethodName)) ∈ lw_all := lw_g (lw_at lw_m10 216 rfl) rfl
theorem q2436 : (Jvm.Cond.selects "WeaversgateModel$Run" ({ cls := "WeaversgateModel$Run", name := "step", desc := "(LWeaversgateModel$Thing;IILWeaversgateModel$Body;II)I" } : Jvm.MethodName) ({ cls := "WeaversgateModel$Run", name := "step", desc := "(LWeaversgateModel$Thing;IILWeaversgateModel$Body;II)I" } : Jvm.MethodName)) ∈ lw_all := lw_g (lw_at lw_m10 217 rfl) rfl
theorem q2437 : (Jvm.Cond.code ({ cls := "WeaversgateModel$Run", name := "step", desc := "(LWeaversgateModel$Thing;IILWeaversgateModel$Body;II)I" } : Jvm.MethodName) prog_31_method_15_code (11 : Nat) (Option.some Jvm.ClassFile.FieldType.int)) ∈ lw_all := lw_g (lw_at lw_m10 218 rfl) rfl
theorem q2438 : (Jvm.Cond.methodLink "WeaversgateModel$Run" (253 : Nat) ({ cls := "WeaversgateModel$Run", name := "handler", desc := "(LWeaversgateModel$Body;Ljava/util/ArrayList;I)I" } : Jvm.MethodName)) ∈ lw_all := lw_g (lw_at lw_m10 219 rfl) rfl
theorem q2439 : (Jvm.Cond.instanceMethod ({ cls := "WeaversgateModel$Run", name := "handler", desc := "(LWeaversgateModel$Body;Ljava/util/ArrayList;I)I" } : Jvm.MethodName)) ∈ lw_all := lw_g (lw_at lw_m10 220 rfl) rfl
theorem q2440 : (Jvm.Cond.selects "WeaversgateModel$Run" ({ cls := "WeaversgateModel$Run", name := "handler", desc := "(LWeaversgateModel$Body;Ljava/util/ArrayList;I)I" } : Jvm.MethodName) ({ cls := "WeaversgateModel$Run", name := "handler", desc := "(LWeaversgateModel$Body;Ljava/util/ArrayList;I)I" } : Jvm.MethodName)) ∈ lw_all := lw_g (lw_at lw_m10 221 rfl) rfl
theorem q2441 : (Jvm.Cond.code ({ cls := "WeaversgateModel$Run", name := "handler", desc := "(LWeaversgateModel$Body;Ljava/util/ArrayList;I)I" } : Jvm.MethodName) prog_31_method_14_code (7 : Nat) (Option.some Jvm.ClassFile.FieldType.int)) ∈ lw_all := lw_g (lw_at lw_m10 222 rfl) rfl
theorem q2442 : (Jvm.Cond.methodLink "WeaversgateModel$Run" (195 : Nat) ({ cls := "java/util/ArrayList", name := "get", desc := "(I)Ljava/lang/Object;" } : Jvm.MethodName)) ∈ lw_all := lw_g (lw_at lw_m10 223 rfl) rfl
theorem q2443 : (Jvm.Cond.methodLink "WeaversgateModel$Run" (198 : Nat) ({ cls := "WeaversgateModel$Run", name := "replaces", desc := "(LWeaversgateModel$Point;LWeaversgateModel$Thing;Ljava/util/ArrayList;II)I" } : Jvm.MethodName)) ∈ lw_all := lw_g (lw_at lw_m10 224 rfl) rfl
theorem q2444 : (Jvm.Cond.instanceMethod ({ cls := "WeaversgateModel$Run", name := "replaces", desc := "(LWeaversgateModel$Point;LWeaversgateModel$Thing;Ljava/util/ArrayList;II)I" } : Jvm.MethodName)) ∈ lw_all := lw_g (lw_at lw_m10 225 rfl) rfl
theorem q2445 : (Jvm.Cond.selects "WeaversgateModel$Run" ({ cls := "WeaversgateModel$Run", name := "replaces", desc := "(LWeaversgateModel$Point;LWeaversgateModel$Thing;Ljava/util/ArrayList;II)I" } : Jvm.MethodName) ({ cls := "WeaversgateModel$Run", name := "replaces", desc := "(LWeaversgateModel$Point;LWeaversgateModel$Thing;Ljava/util/ArrayList;II)I" } : Jvm.MethodName)) ∈ lw_all := lw_g (lw_at lw_m10 226 rfl) rfl
theorem q2446 : (Jvm.Cond.code ({ cls := "WeaversgateModel$Run", name := "replaces", desc := "(LWeaversgateModel$Point;LWeaversgateModel$Thing;Ljava/util/ArrayList;II)I" } : Jvm.MethodName) prog_31_method_11_code (9 : Nat) (Option.some Jvm.ClassFile.FieldType.int)) ∈ lw_all := lw_g (lw_at lw_m10 227 rfl) rfl
theorem q2447 : (Jvm.Cond.methodLink "WeaversgateModel$Run" (201 : Nat) ({ cls := "WeaversgateModel$Run", name := "acts", desc := "(II)V" } : Jvm.MethodName)) ∈ lw_all := lw_g (lw_at lw_m10 228 rfl) rfl
theorem q2448 : (Jvm.Cond.instanceMethod ({ cls := "WeaversgateModel$Run", name := "acts", desc := "(II)V" } : Jvm.MethodName)) ∈ lw_all := lw_g (lw_at lw_m10 229 rfl) rfl
theorem q2449 : (Jvm.Cond.selects "WeaversgateModel$Run" ({ cls := "WeaversgateModel$Run", name := "acts", desc := "(II)V" } : Jvm.MethodName) ({ cls := "WeaversgateModel$Run", name := "acts", desc := "(II)V" } : Jvm.MethodName)) ∈ lw_all := lw_g (lw_at lw_m10 230 rfl) rfl
theorem q2450 : (Jvm.Cond.code ({ cls := "WeaversgateModel$Run", name := "acts", desc := "(II)V" } : Jvm.MethodName) prog_31_method_9_code (3 : Nat) (Option.none : Option Jvm.ClassFile.FieldType)) ∈ lw_all := lw_g (lw_at lw_m10 231 rfl) rfl
theorem q2451 : (Jvm.Cond.classLink "WeaversgateModel$Run" (183 : Nat) "WeaversgateModel$Act") ∈ lw_all := lw_g (lw_at lw_m10 232 rfl) rfl
theorem q2453 : (Jvm.Cond.methodLinkNest "WeaversgateModel$Run" (188 : Nat) ({ cls := "WeaversgateModel$Act", name := "<init>", desc := "(CII)V" } : Jvm.MethodName) "WeaversgateModel") ∈ lw_tbl := lw_at lw_m10 234 rfl
theorem q2467 : (Jvm.Cond.methodLink "WeaversgateModel$Run" (176 : Nat) ({ cls := "java/util/ArrayList", name := "remove", desc := "(I)Ljava/lang/Object;" } : Jvm.MethodName)) ∈ lw_all := lw_g (lw_at lw_m11 8 rfl) rfl
theorem q2635 : (Jvm.Cond.castable "WeaversgateModel$Run" "java/lang/Object") ∈ lw_tbl := lw_at lw_m11 176 rfl
theorem in_X26 : ∀ w ∈ wsX260, w ∈ lw_all := lw_in wsX260 [2254, 2256, 2258, 2260, 2262] (by decide +kernel) (by decide +kernel)

/-! WeaversgateModel$Result -/
set_option maxRecDepth 100000
def RX5 : String := "WeaversgateModel$Result"
def TX5 : u_T := fun k => match k with
  | 0 => ("WeaversgateModel$Result", "trace", "Ljava/util/ArrayList;", true)
  | 1 => ("WeaversgateModel$Result", "end", "C", false)
  | 2 => ("WeaversgateModel$Result", "number", "I", false)
  | 3 => ("WeaversgateModel$Result", "points", "I", false)
  | _ => ("WeaversgateModel$Result", "asked", "I", false)
def tyX5 : Nat → FieldType := fun k => match k with
  | 0 => .object "java/util/ArrayList"
  | 1 => .char
  | 2 => .int
  | 3 => .int
  | _ => .int
abbrev wsX50 : List Cond := u_ws RX5 TX5 5
theorem nmX5 : ∀ a, a < 5 → ∀ b, b < 5 → a ≠ b → (TX5 a).2.1 ≠ (TX5 b).2.1 := by decide +kernel
theorem tyX5_ok : ∀ k, k < 5 → parseFieldDescriptor (TX5 k).2.2.1 = some (tyX5 k) := by decide +kernel
abbrev cX5_init : ByteArray := prog_30_method_1_code
def yX5_init : MethodName := ⟨RX5, "<init>", "()V"⟩
def dkwX5_init_1 : List UInt8 := [181, 0, 20, 42, 3, 181, 0, 24, 42, 3, 181, 0, 27, 177]
abbrev dktX5_init_1 : List UInt8 := dkwX5_init_1 ++ []
def dkwX5_init_0 : List UInt8 := [42, 183, 0, 1, 42, 187, 0, 7, 89, 183, 0, 9, 181, 0, 10, 42, 16, 32, 181, 0, 16, 42, 3]
abbrev dktX5_init_0 : List UInt8 := dkwX5_init_0 ++ dktX5_init_1
theorem dksX5_init_0 : cX5_init.data.toList.drop 0 = dktX5_init_0 := by decide +kernel
theorem dksX5_init_1 : cX5_init.data.toList.drop 23 = dktX5_init_1 := dk_seg dksX5_init_0 23 rfl rfl
theorem dX5_init_0 : decode cX5_init 0 = .ok (.aload_n 0, 1) := dk_42 (dk_at dksX5_init_0 0 rfl rfl)
theorem dX5_init_1 : decode cX5_init 1 = .ok (.invokespecial 1, 3) := dk_183 0 1 (dk_at dksX5_init_0 1 rfl rfl)
theorem dX5_init_4 : decode cX5_init 4 = .ok (.aload_n 0, 1) := dk_42 (dk_at dksX5_init_0 4 rfl rfl)
theorem dX5_init_5 : decode cX5_init 5 = .ok (.new 7, 3) := dk_187 0 7 (dk_at dksX5_init_0 5 rfl rfl)
theorem dX5_init_8 : decode cX5_init 8 = .ok (.dup, 1) := dk_89 (dk_at dksX5_init_0 8 rfl rfl)
theorem dX5_init_9 : decode cX5_init 9 = .ok (.invokespecial 9, 3) := dk_183 0 9 (dk_at dksX5_init_0 9 rfl rfl)
theorem dX5_init_12 : decode cX5_init 12 = .ok (.putfield 10, 3) := dk_181 0 10 (dk_at dksX5_init_0 12 rfl rfl)
theorem dX5_init_15 : decode cX5_init 15 = .ok (.aload_n 0, 1) := dk_42 (dk_at dksX5_init_0 15 rfl rfl)
theorem dX5_init_16 : decode cX5_init 16 = .ok (.bipush 32, 2) := dk_16 32 (dk_at dksX5_init_0 16 rfl rfl)
theorem dX5_init_18 : decode cX5_init 18 = .ok (.putfield 16, 3) := dk_181 0 16 (dk_at dksX5_init_0 18 rfl rfl)
theorem dX5_init_21 : decode cX5_init 21 = .ok (.aload_n 0, 1) := dk_42 (dk_at dksX5_init_0 21 rfl rfl)
theorem dX5_init_22 : decode cX5_init 22 = .ok (.iconst 0, 1) := dk_3 (dk_at dksX5_init_0 22 rfl rfl)
theorem dX5_init_23 : decode cX5_init 23 = .ok (.putfield 20, 3) := dk_181 0 20 (dk_at dksX5_init_1 0 rfl rfl)
theorem dX5_init_26 : decode cX5_init 26 = .ok (.aload_n 0, 1) := dk_42 (dk_at dksX5_init_1 3 rfl rfl)
theorem dX5_init_27 : decode cX5_init 27 = .ok (.iconst 0, 1) := dk_3 (dk_at dksX5_init_1 4 rfl rfl)
theorem dX5_init_28 : decode cX5_init 28 = .ok (.putfield 24, 3) := dk_181 0 24 (dk_at dksX5_init_1 5 rfl rfl)
theorem dX5_init_31 : decode cX5_init 31 = .ok (.aload_n 0, 1) := dk_42 (dk_at dksX5_init_1 8 rfl rfl)
theorem dX5_init_32 : decode cX5_init 32 = .ok (.iconst 0, 1) := dk_3 (dk_at dksX5_init_1 9 rfl rfl)
theorem dX5_init_33 : decode cX5_init 33 = .ok (.putfield 27, 3) := dk_181 0 27 (dk_at dksX5_init_1 10 rfl rfl)
theorem dX5_init_36 : decode cX5_init 36 = .ok (.return_, 1) := dk_177 (dk_at dksX5_init_1 13 rfl rfl)
theorem q67 : (Jvm.Cond.initialized "WeaversgateModel$Result") ∈ lw_all := lw_g (lw_at lw_m1 8 rfl) rfl
theorem q800 : (Jvm.Cond.selects "WeaversgateModel$Result" ({ cls := "java/lang/Object", name := "getClass", desc := "()Ljava/lang/Class;" } : Jvm.MethodName) ({ cls := "java/lang/Object", name := "getClass", desc := "()Ljava/lang/Class;" } : Jvm.MethodName)) ∈ lw_all := lw_g (lw_at lw_m4 21 rfl) rfl
theorem q1767 : (Jvm.Cond.instantiable "WeaversgateModel$Result" (5 : Nat)) ∈ lw_all := lw_g (lw_at lw_m8 28 rfl) rfl
theorem q1769 : (Jvm.Cond.instanceMethod ({ cls := "WeaversgateModel$Result", name := "<init>", desc := "()V" } : Jvm.MethodName)) ∈ lw_all := lw_g (lw_at lw_m8 30 rfl) rfl
theorem q1770 : (Jvm.Cond.code ({ cls := "WeaversgateModel$Result", name := "<init>", desc := "()V" } : Jvm.MethodName) prog_30_method_1_code (1 : Nat) (Option.none : Option Jvm.ClassFile.FieldType)) ∈ lw_all := lw_g (lw_at lw_m8 31 rfl) rfl
theorem q1771 : (Jvm.Cond.methodLink "WeaversgateModel$Result" (1 : Nat) ({ cls := "java/lang/Object", name := "<init>", desc := "()V" } : Jvm.MethodName)) ∈ lw_all := lw_g (lw_at lw_m8 32 rfl) rfl
theorem q1772 : (Jvm.Cond.classLink "WeaversgateModel$Result" (7 : Nat) "java/util/ArrayList") ∈ lw_all := lw_g (lw_at lw_m8 33 rfl) rfl
theorem q1773 : (Jvm.Cond.methodLink "WeaversgateModel$Result" (9 : Nat) ({ cls := "java/util/ArrayList", name := "<init>", desc := "()V" } : Jvm.MethodName)) ∈ lw_all := lw_g (lw_at lw_m8 34 rfl) rfl
theorem q1774 : (Jvm.Cond.fieldLink "WeaversgateModel$Result" (10 : Nat) "WeaversgateModel$Result" "trace" "Ljava/util/ArrayList;") ∈ lw_all := lw_g (lw_at lw_m8 35 rfl) rfl
theorem q1777 : (Jvm.Cond.fieldLink "WeaversgateModel$Result" (16 : Nat) "WeaversgateModel$Result" "end" "C") ∈ lw_all := lw_g (lw_at lw_m8 38 rfl) rfl
theorem q1780 : (Jvm.Cond.fieldLink "WeaversgateModel$Result" (20 : Nat) "WeaversgateModel$Result" "number" "I") ∈ lw_all := lw_g (lw_at lw_m8 41 rfl) rfl
theorem q1783 : (Jvm.Cond.fieldLink "WeaversgateModel$Result" (24 : Nat) "WeaversgateModel$Result" "points" "I") ∈ lw_all := lw_g (lw_at lw_m8 44 rfl) rfl
theorem q1786 : (Jvm.Cond.fieldLink "WeaversgateModel$Result" (27 : Nat) "WeaversgateModel$Result" "asked" "I") ∈ lw_all := lw_g (lw_at lw_m8 47 rfl) rfl
theorem q1789 : (Jvm.Cond.laysFinal "WeaversgateModel$Result" "WeaversgateModel$Result" "trace" "Ljava/util/ArrayList;") ∈ lw_all := lw_g (lw_at lw_m8 50 rfl) rfl
theorem q1790 : (Jvm.Cond.soleField "WeaversgateModel$Result" "trace") ∈ lw_all := lw_g (lw_at lw_m8 51 rfl) rfl
theorem q1791 : (Jvm.Cond.lays "WeaversgateModel$Result" "WeaversgateModel$Result" "end" "C") ∈ lw_all := lw_g (lw_at lw_m8 52 rfl) rfl
theorem q1792 : (Jvm.Cond.soleField "WeaversgateModel$Result" "end") ∈ lw_all := lw_g (lw_at lw_m8 53 rfl) rfl
theorem q1793 : (Jvm.Cond.lays "WeaversgateModel$Result" "WeaversgateModel$Result" "number" "I") ∈ lw_all := lw_g (lw_at lw_m8 54 rfl) rfl
theorem q1794 : (Jvm.Cond.soleField "WeaversgateModel$Result" "number") ∈ lw_all := lw_g (lw_at lw_m8 55 rfl) rfl
theorem q1795 : (Jvm.Cond.lays "WeaversgateModel$Result" "WeaversgateModel$Result" "points" "I") ∈ lw_all := lw_g (lw_at lw_m8 56 rfl) rfl
theorem q1796 : (Jvm.Cond.soleField "WeaversgateModel$Result" "points") ∈ lw_all := lw_g (lw_at lw_m8 57 rfl) rfl
theorem q1797 : (Jvm.Cond.lays "WeaversgateModel$Result" "WeaversgateModel$Result" "asked" "I") ∈ lw_all := lw_g (lw_at lw_m8 58 rfl) rfl
theorem q1798 : (Jvm.Cond.soleField "WeaversgateModel$Result" "asked") ∈ lw_all := lw_g (lw_at lw_m8 59 rfl) rfl
theorem q1799 : (Jvm.Cond.superclass "WeaversgateModel$Result" "java/lang/Object") ∈ lw_all := lw_g (lw_at lw_m8 60 rfl) rfl
theorem q2063 : (Jvm.Cond.selects "WeaversgateModel$Result" ({ cls := "java/lang/Object", name := "equals", desc := "(Ljava/lang/Object;)Z" } : Jvm.MethodName) ({ cls := "java/lang/Object", name := "equals", desc := "(Ljava/lang/Object;)Z" } : Jvm.MethodName)) ∈ lw_all := lw_g (lw_at lw_m9 84 rfl) rfl
theorem q2607 : (Jvm.Cond.castable "WeaversgateModel$Result" "java/lang/Object") ∈ lw_tbl := lw_at lw_m11 148 rfl
theorem in_X5 : ∀ w ∈ wsX50, w ∈ lw_all := lw_in wsX50 [1789, 1791, 1793, 1795, 1797] (by decide +kernel) (by decide +kernel)

/-! WeaversgateModel$Body -/
set_option maxRecDepth 100000
def RX8 : String := "WeaversgateModel$Body"
def TX8 : u_T := fun k => match k with
  | 0 => ("WeaversgateModel$Body", "kinds", "[C", true)
  | 1 => ("WeaversgateModel$Body", "as", "[I", true)
  | 2 => ("WeaversgateModel$Body", "bs", "[I", true)
  | _ => ("WeaversgateModel$Body", "count", "I", false)
def tyX8 : Nat → FieldType := fun k => match k with
  | 0 => .array .char
  | 1 => .array .int
  | 2 => .array .int
  | _ => .int
abbrev wsX80 : List Cond := u_ws RX8 TX8 4
theorem nmX8 : ∀ a, a < 4 → ∀ b, b < 4 → a ≠ b → (TX8 a).2.1 ≠ (TX8 b).2.1 := by decide +kernel
theorem tyX8_ok : ∀ k, k < 4 → parseFieldDescriptor (TX8 k).2.2.1 = some (tyX8 k) := by decide +kernel
abbrev cX8_init : ByteArray := prog_26_method_1_code
def yX8_init : MethodName := ⟨RX8, "<init>", "()V"⟩
def dkwX8_init_1 : List UInt8 := [188, 10, 181, 0, 17, 42, 3, 181, 0, 20, 177]
abbrev dktX8_init_1 : List UInt8 := dkwX8_init_1 ++ []
def dkwX8_init_0 : List UInt8 := [42, 183, 0, 1, 42, 16, 8, 188, 5, 181, 0, 7, 42, 16, 8, 188, 10, 181, 0, 13, 42, 16, 8]
abbrev dktX8_init_0 : List UInt8 := dkwX8_init_0 ++ dktX8_init_1
theorem dksX8_init_0 : cX8_init.data.toList.drop 0 = dktX8_init_0 := by decide +kernel
theorem dksX8_init_1 : cX8_init.data.toList.drop 23 = dktX8_init_1 := dk_seg dksX8_init_0 23 rfl rfl
theorem dX8_init_0 : decode cX8_init 0 = .ok (.aload_n 0, 1) := dk_42 (dk_at dksX8_init_0 0 rfl rfl)
theorem dX8_init_1 : decode cX8_init 1 = .ok (.invokespecial 1, 3) := dk_183 0 1 (dk_at dksX8_init_0 1 rfl rfl)
theorem dX8_init_4 : decode cX8_init 4 = .ok (.aload_n 0, 1) := dk_42 (dk_at dksX8_init_0 4 rfl rfl)
theorem dX8_init_5 : decode cX8_init 5 = .ok (.bipush 8, 2) := dk_16 8 (dk_at dksX8_init_0 5 rfl rfl)
theorem dX8_init_7 : decode cX8_init 7 = .ok (.newarray .char, 2) := dk_188_5 (dk_at dksX8_init_0 7 rfl rfl)
theorem dX8_init_9 : decode cX8_init 9 = .ok (.putfield 7, 3) := dk_181 0 7 (dk_at dksX8_init_0 9 rfl rfl)
theorem dX8_init_12 : decode cX8_init 12 = .ok (.aload_n 0, 1) := dk_42 (dk_at dksX8_init_0 12 rfl rfl)
theorem dX8_init_13 : decode cX8_init 13 = .ok (.bipush 8, 2) := dk_16 8 (dk_at dksX8_init_0 13 rfl rfl)
theorem dX8_init_15 : decode cX8_init 15 = .ok (.newarray .int, 2) := dk_188_10 (dk_at dksX8_init_0 15 rfl rfl)
theorem dX8_init_17 : decode cX8_init 17 = .ok (.putfield 13, 3) := dk_181 0 13 (dk_at dksX8_init_0 17 rfl rfl)
theorem dX8_init_20 : decode cX8_init 20 = .ok (.aload_n 0, 1) := dk_42 (dk_at dksX8_init_0 20 rfl rfl)
theorem dX8_init_21 : decode cX8_init 21 = .ok (.bipush 8, 2) := dk_16 8 (dk_at dksX8_init_0 21 rfl rfl)
theorem dX8_init_23 : decode cX8_init 23 = .ok (.newarray .int, 2) := dk_188_10 (dk_at dksX8_init_1 0 rfl rfl)
theorem dX8_init_25 : decode cX8_init 25 = .ok (.putfield 17, 3) := dk_181 0 17 (dk_at dksX8_init_1 2 rfl rfl)
theorem dX8_init_28 : decode cX8_init 28 = .ok (.aload_n 0, 1) := dk_42 (dk_at dksX8_init_1 5 rfl rfl)
theorem dX8_init_29 : decode cX8_init 29 = .ok (.iconst 0, 1) := dk_3 (dk_at dksX8_init_1 6 rfl rfl)
theorem dX8_init_30 : decode cX8_init 30 = .ok (.putfield 20, 3) := dk_181 0 20 (dk_at dksX8_init_1 7 rfl rfl)
theorem dX8_init_33 : decode cX8_init 33 = .ok (.return_, 1) := dk_177 (dk_at dksX8_init_1 10 rfl rfl)
theorem q84 : (Jvm.Cond.initialized "WeaversgateModel$Body") ∈ lw_all := lw_g (lw_at lw_m1 25 rfl) rfl
theorem q796 : (Jvm.Cond.selects "WeaversgateModel$Body" ({ cls := "java/lang/Object", name := "getClass", desc := "()Ljava/lang/Class;" } : Jvm.MethodName) ({ cls := "java/lang/Object", name := "getClass", desc := "()Ljava/lang/Class;" } : Jvm.MethodName)) ∈ lw_all := lw_g (lw_at lw_m4 17 rfl) rfl
theorem q1893 : (Jvm.Cond.instantiable "WeaversgateModel$Body" (4 : Nat)) ∈ lw_all := lw_g (lw_at lw_m8 154 rfl) rfl
theorem q1895 : (Jvm.Cond.instanceMethod ({ cls := "WeaversgateModel$Body", name := "<init>", desc := "()V" } : Jvm.MethodName)) ∈ lw_all := lw_g (lw_at lw_m8 156 rfl) rfl
theorem q1896 : (Jvm.Cond.code ({ cls := "WeaversgateModel$Body", name := "<init>", desc := "()V" } : Jvm.MethodName) prog_26_method_1_code (1 : Nat) (Option.none : Option Jvm.ClassFile.FieldType)) ∈ lw_all := lw_g (lw_at lw_m8 157 rfl) rfl
theorem q1897 : (Jvm.Cond.methodLink "WeaversgateModel$Body" (1 : Nat) ({ cls := "java/lang/Object", name := "<init>", desc := "()V" } : Jvm.MethodName)) ∈ lw_all := lw_g (lw_at lw_m8 158 rfl) rfl
theorem q1898 : (Jvm.Cond.fieldLink "WeaversgateModel$Body" (7 : Nat) "WeaversgateModel$Body" "kinds" "[C") ∈ lw_all := lw_g (lw_at lw_m8 159 rfl) rfl
theorem q1901 : (Jvm.Cond.fieldLink "WeaversgateModel$Body" (13 : Nat) "WeaversgateModel$Body" "as" "[I") ∈ lw_all := lw_g (lw_at lw_m8 162 rfl) rfl
theorem q1904 : (Jvm.Cond.fieldLink "WeaversgateModel$Body" (17 : Nat) "WeaversgateModel$Body" "bs" "[I") ∈ lw_all := lw_g (lw_at lw_m8 165 rfl) rfl
theorem q1907 : (Jvm.Cond.fieldLink "WeaversgateModel$Body" (20 : Nat) "WeaversgateModel$Body" "count" "I") ∈ lw_all := lw_g (lw_at lw_m8 168 rfl) rfl
theorem q1910 : (Jvm.Cond.laysFinal "WeaversgateModel$Body" "WeaversgateModel$Body" "kinds" "[C") ∈ lw_all := lw_g (lw_at lw_m8 171 rfl) rfl
theorem q1911 : (Jvm.Cond.soleField "WeaversgateModel$Body" "kinds") ∈ lw_all := lw_g (lw_at lw_m8 172 rfl) rfl
theorem q1912 : (Jvm.Cond.laysFinal "WeaversgateModel$Body" "WeaversgateModel$Body" "as" "[I") ∈ lw_all := lw_g (lw_at lw_m8 173 rfl) rfl
theorem q1913 : (Jvm.Cond.soleField "WeaversgateModel$Body" "as") ∈ lw_all := lw_g (lw_at lw_m8 174 rfl) rfl
theorem q1914 : (Jvm.Cond.laysFinal "WeaversgateModel$Body" "WeaversgateModel$Body" "bs" "[I") ∈ lw_all := lw_g (lw_at lw_m8 175 rfl) rfl
theorem q1915 : (Jvm.Cond.soleField "WeaversgateModel$Body" "bs") ∈ lw_all := lw_g (lw_at lw_m8 176 rfl) rfl
theorem q1916 : (Jvm.Cond.lays "WeaversgateModel$Body" "WeaversgateModel$Body" "count" "I") ∈ lw_all := lw_g (lw_at lw_m8 177 rfl) rfl
theorem q1917 : (Jvm.Cond.soleField "WeaversgateModel$Body" "count") ∈ lw_all := lw_g (lw_at lw_m8 178 rfl) rfl
theorem q1918 : (Jvm.Cond.superclass "WeaversgateModel$Body" "java/lang/Object") ∈ lw_all := lw_g (lw_at lw_m8 179 rfl) rfl
theorem q2057 : (Jvm.Cond.selects "WeaversgateModel$Body" ({ cls := "java/lang/Object", name := "equals", desc := "(Ljava/lang/Object;)Z" } : Jvm.MethodName) ({ cls := "java/lang/Object", name := "equals", desc := "(Ljava/lang/Object;)Z" } : Jvm.MethodName)) ∈ lw_all := lw_g (lw_at lw_m9 78 rfl) rfl
theorem q2601 : (Jvm.Cond.castable "WeaversgateModel$Body" "java/lang/Object") ∈ lw_tbl := lw_at lw_m11 142 rfl
theorem in_X8 : ∀ w ∈ wsX80, w ∈ lw_all := lw_in wsX80 [1910, 1912, 1914, 1916] (by decide +kernel) (by decide +kernel)

/-! WeaversgateModel$Spot -/
set_option maxRecDepth 100000
def RX20 : String := "WeaversgateModel$Spot"
def TX20 : u_T := fun k => match k with
  | 0 => ("WeaversgateModel$Spot", "kind", "C", true)
  | 1 => ("WeaversgateModel$Spot", "name", "I", true)
  | 2 => ("WeaversgateModel$Spot", "made", "I", true)
  | _ => ("WeaversgateModel$Spot", "index", "I", true)
def tyX20 : Nat → FieldType := fun k => match k with
  | 0 => .char
  | 1 => .int
  | 2 => .int
  | _ => .int
abbrev wsX200 : List Cond := u_ws RX20 TX20 4
theorem nmX20 : ∀ a, a < 4 → ∀ b, b < 4 → a ≠ b → (TX20 a).2.1 ≠ (TX20 b).2.1 := by decide +kernel
theorem tyX20_ok : ∀ k, k < 4 → parseFieldDescriptor (TX20 k).2.2.1 = some (tyX20 k) := by decide +kernel
abbrev cX20_equals : ByteArray := prog_32_method_4_code
def yX20_equals : MethodName := ⟨RX20, "equals", "(Ljava/lang/Object;)Z"⟩
def dkwX20_equals_0 : List UInt8 := [42, 43, 186, 0, 31, 0, 0, 172]
abbrev dktX20_equals_0 : List UInt8 := dkwX20_equals_0 ++ []
theorem dksX20_equals_0 : cX20_equals.data.toList.drop 0 = dktX20_equals_0 := by decide +kernel
theorem dX20_equals_0 : decode cX20_equals 0 = .ok (.aload_n 0, 1) := dk_42 (dk_at dksX20_equals_0 0 rfl rfl)
theorem dX20_equals_1 : decode cX20_equals 1 = .ok (.aload_n 1, 1) := dk_43 (dk_at dksX20_equals_0 1 rfl rfl)
theorem dX20_equals_2 : decode cX20_equals 2 = .ok (.invokedynamic 31, 5) := by decide +kernel
theorem dX20_equals_7 : decode cX20_equals 7 = .ok (.ireturn, 1) := dk_172 (dk_at dksX20_equals_0 7 rfl rfl)
abbrev cX20_init : ByteArray := prog_32_method_1_code
def yX20_init : MethodName := ⟨RX20, "<init>", "(CIII)V"⟩
def dkwX20_init_1 : List UInt8 := [181, 0, 20, 177]
abbrev dktX20_init_1 : List UInt8 := dkwX20_init_1 ++ []
def dkwX20_init_0 : List UInt8 := [42, 183, 0, 1, 42, 27, 181, 0, 7, 42, 28, 181, 0, 13, 42, 29, 181, 0, 17, 42, 21, 4]
abbrev dktX20_init_0 : List UInt8 := dkwX20_init_0 ++ dktX20_init_1
theorem dksX20_init_0 : cX20_init.data.toList.drop 0 = dktX20_init_0 := by decide +kernel
theorem dksX20_init_1 : cX20_init.data.toList.drop 22 = dktX20_init_1 := dk_seg dksX20_init_0 22 rfl rfl
theorem dX20_init_0 : decode cX20_init 0 = .ok (.aload_n 0, 1) := dk_42 (dk_at dksX20_init_0 0 rfl rfl)
theorem dX20_init_1 : decode cX20_init 1 = .ok (.invokespecial 1, 3) := dk_183 0 1 (dk_at dksX20_init_0 1 rfl rfl)
theorem dX20_init_4 : decode cX20_init 4 = .ok (.aload_n 0, 1) := dk_42 (dk_at dksX20_init_0 4 rfl rfl)
theorem dX20_init_5 : decode cX20_init 5 = .ok (.iload_n 1, 1) := dk_27 (dk_at dksX20_init_0 5 rfl rfl)
theorem dX20_init_6 : decode cX20_init 6 = .ok (.putfield 7, 3) := dk_181 0 7 (dk_at dksX20_init_0 6 rfl rfl)
theorem dX20_init_9 : decode cX20_init 9 = .ok (.aload_n 0, 1) := dk_42 (dk_at dksX20_init_0 9 rfl rfl)
theorem dX20_init_10 : decode cX20_init 10 = .ok (.iload_n 2, 1) := dk_28 (dk_at dksX20_init_0 10 rfl rfl)
theorem dX20_init_11 : decode cX20_init 11 = .ok (.putfield 13, 3) := dk_181 0 13 (dk_at dksX20_init_0 11 rfl rfl)
theorem dX20_init_14 : decode cX20_init 14 = .ok (.aload_n 0, 1) := dk_42 (dk_at dksX20_init_0 14 rfl rfl)
theorem dX20_init_15 : decode cX20_init 15 = .ok (.iload_n 3, 1) := dk_29 (dk_at dksX20_init_0 15 rfl rfl)
theorem dX20_init_16 : decode cX20_init 16 = .ok (.putfield 17, 3) := dk_181 0 17 (dk_at dksX20_init_0 16 rfl rfl)
theorem dX20_init_19 : decode cX20_init 19 = .ok (.aload_n 0, 1) := dk_42 (dk_at dksX20_init_0 19 rfl rfl)
theorem dX20_init_20 : decode cX20_init 20 = .ok (.iload 4, 2) := dk_21 4 (dk_at dksX20_init_0 20 rfl rfl)
theorem dX20_init_22 : decode cX20_init 22 = .ok (.putfield 20, 3) := dk_181 0 20 (dk_at dksX20_init_1 0 rfl rfl)
theorem dX20_init_25 : decode cX20_init 25 = .ok (.return_, 1) := dk_177 (dk_at dksX20_init_1 3 rfl rfl)
abbrev cX20_kind : ByteArray := prog_32_method_5_code
def yX20_kind : MethodName := ⟨RX20, "kind", "()C"⟩
theorem dX20_kind_0 : decode cX20_kind 0 = .ok (.aload_n 0, 1) := by decide +kernel
theorem dX20_kind_1 : decode cX20_kind 1 = .ok (.getfield 7, 3) := by decide +kernel
theorem dX20_kind_4 : decode cX20_kind 4 = .ok (.ireturn, 1) := by decide +kernel
abbrev cX20_name : ByteArray := prog_32_method_6_code
def yX20_name : MethodName := ⟨RX20, "name", "()I"⟩
theorem dX20_name_0 : decode cX20_name 0 = .ok (.aload_n 0, 1) := by decide +kernel
theorem dX20_name_1 : decode cX20_name 1 = .ok (.getfield 13, 3) := by decide +kernel
theorem dX20_name_4 : decode cX20_name 4 = .ok (.ireturn, 1) := by decide +kernel
abbrev cX20_made : ByteArray := prog_32_method_7_code
def yX20_made : MethodName := ⟨RX20, "made", "()I"⟩
theorem dX20_made_0 : decode cX20_made 0 = .ok (.aload_n 0, 1) := by decide +kernel
theorem dX20_made_1 : decode cX20_made 1 = .ok (.getfield 17, 3) := by decide +kernel
theorem dX20_made_4 : decode cX20_made 4 = .ok (.ireturn, 1) := by decide +kernel
abbrev cX20_index : ByteArray := prog_32_method_8_code
def yX20_index : MethodName := ⟨RX20, "index", "()I"⟩
theorem dX20_index_0 : decode cX20_index 0 = .ok (.aload_n 0, 1) := by decide +kernel
theorem dX20_index_1 : decode cX20_index 1 = .ok (.getfield 20, 3) := by decide +kernel
theorem dX20_index_4 : decode cX20_index 4 = .ok (.ireturn, 1) := by decide +kernel
theorem q105 : (Jvm.Cond.initialized "WeaversgateModel$Spot") ∈ lw_all := lw_g (lw_at lw_m1 46 rfl) rfl
theorem q802 : (Jvm.Cond.selects "WeaversgateModel$Spot" ({ cls := "java/lang/Object", name := "getClass", desc := "()Ljava/lang/Class;" } : Jvm.MethodName) ({ cls := "java/lang/Object", name := "getClass", desc := "()Ljava/lang/Class;" } : Jvm.MethodName)) ∈ lw_all := lw_g (lw_at lw_m4 23 rfl) rfl
theorem q2065 : (Jvm.Cond.selects "WeaversgateModel$Spot" ({ cls := "java/lang/Object", name := "equals", desc := "(Ljava/lang/Object;)Z" } : Jvm.MethodName) ({ cls := "WeaversgateModel$Spot", name := "equals", desc := "(Ljava/lang/Object;)Z" } : Jvm.MethodName)) ∈ lw_all := lw_g (lw_at lw_m9 86 rfl) rfl
theorem q2066 : (Jvm.Cond.instanceMethod ({ cls := "WeaversgateModel$Spot", name := "equals", desc := "(Ljava/lang/Object;)Z" } : Jvm.MethodName)) ∈ lw_all := lw_g (lw_at lw_m9 87 rfl) rfl
theorem q2067 : (Jvm.Cond.code ({ cls := "WeaversgateModel$Spot", name := "equals", desc := "(Ljava/lang/Object;)Z" } : Jvm.MethodName) prog_32_method_4_code (2 : Nat) (Option.some Jvm.ClassFile.FieldType.boolean)) ∈ lw_all := lw_g (lw_at lw_m9 88 rfl) rfl
theorem q2103 : (Jvm.Cond.instantiable "WeaversgateModel$Spot" (4 : Nat)) ∈ lw_all := lw_g (lw_at lw_m9 124 rfl) rfl
theorem q2105 : (Jvm.Cond.instanceMethod ({ cls := "WeaversgateModel$Spot", name := "<init>", desc := "(CIII)V" } : Jvm.MethodName)) ∈ lw_all := lw_g (lw_at lw_m9 126 rfl) rfl
theorem q2106 : (Jvm.Cond.code ({ cls := "WeaversgateModel$Spot", name := "<init>", desc := "(CIII)V" } : Jvm.MethodName) prog_32_method_1_code (5 : Nat) (Option.none : Option Jvm.ClassFile.FieldType)) ∈ lw_all := lw_g (lw_at lw_m9 127 rfl) rfl
theorem q2107 : (Jvm.Cond.methodLink "WeaversgateModel$Spot" (1 : Nat) ({ cls := "java/lang/Record", name := "<init>", desc := "()V" } : Jvm.MethodName)) ∈ lw_all := lw_g (lw_at lw_m9 128 rfl) rfl
theorem q2111 : (Jvm.Cond.fieldLink "WeaversgateModel$Spot" (7 : Nat) "WeaversgateModel$Spot" "kind" "C") ∈ lw_all := lw_g (lw_at lw_m9 132 rfl) rfl
theorem q2112 : (Jvm.Cond.fieldLink "WeaversgateModel$Spot" (13 : Nat) "WeaversgateModel$Spot" "name" "I") ∈ lw_all := lw_g (lw_at lw_m9 133 rfl) rfl
theorem q2113 : (Jvm.Cond.fieldLink "WeaversgateModel$Spot" (17 : Nat) "WeaversgateModel$Spot" "made" "I") ∈ lw_all := lw_g (lw_at lw_m9 134 rfl) rfl
theorem q2114 : (Jvm.Cond.fieldLink "WeaversgateModel$Spot" (20 : Nat) "WeaversgateModel$Spot" "index" "I") ∈ lw_all := lw_g (lw_at lw_m9 135 rfl) rfl
theorem q2115 : (Jvm.Cond.laysFinal "WeaversgateModel$Spot" "WeaversgateModel$Spot" "kind" "C") ∈ lw_all := lw_g (lw_at lw_m9 136 rfl) rfl
theorem q2116 : (Jvm.Cond.soleField "WeaversgateModel$Spot" "kind") ∈ lw_all := lw_g (lw_at lw_m9 137 rfl) rfl
theorem q2117 : (Jvm.Cond.laysFinal "WeaversgateModel$Spot" "WeaversgateModel$Spot" "name" "I") ∈ lw_all := lw_g (lw_at lw_m9 138 rfl) rfl
theorem q2118 : (Jvm.Cond.soleField "WeaversgateModel$Spot" "name") ∈ lw_all := lw_g (lw_at lw_m9 139 rfl) rfl
theorem q2119 : (Jvm.Cond.laysFinal "WeaversgateModel$Spot" "WeaversgateModel$Spot" "made" "I") ∈ lw_all := lw_g (lw_at lw_m9 140 rfl) rfl
theorem q2120 : (Jvm.Cond.soleField "WeaversgateModel$Spot" "made") ∈ lw_all := lw_g (lw_at lw_m9 141 rfl) rfl
theorem q2121 : (Jvm.Cond.laysFinal "WeaversgateModel$Spot" "WeaversgateModel$Spot" "index" "I") ∈ lw_all := lw_g (lw_at lw_m9 142 rfl) rfl
theorem q2122 : (Jvm.Cond.soleField "WeaversgateModel$Spot" "index") ∈ lw_all := lw_g (lw_at lw_m9 143 rfl) rfl
theorem q2123 : (Jvm.Cond.superclass "WeaversgateModel$Spot" "java/lang/Record") ∈ lw_all := lw_g (lw_at lw_m9 144 rfl) rfl
theorem q2138 : (Jvm.Cond.instanceMethod ({ cls := "WeaversgateModel$Spot", name := "kind", desc := "()C" } : Jvm.MethodName)) ∈ lw_all := lw_g (lw_at lw_m9 159 rfl) rfl
theorem q2139 : (Jvm.Cond.selects "WeaversgateModel$Spot" ({ cls := "WeaversgateModel$Spot", name := "kind", desc := "()C" } : Jvm.MethodName) ({ cls := "WeaversgateModel$Spot", name := "kind", desc := "()C" } : Jvm.MethodName)) ∈ lw_all := lw_g (lw_at lw_m9 160 rfl) rfl
theorem q2140 : (Jvm.Cond.code ({ cls := "WeaversgateModel$Spot", name := "kind", desc := "()C" } : Jvm.MethodName) prog_32_method_5_code (1 : Nat) (Option.some Jvm.ClassFile.FieldType.char)) ∈ lw_all := lw_g (lw_at lw_m9 161 rfl) rfl
theorem q2142 : (Jvm.Cond.instanceMethod ({ cls := "WeaversgateModel$Spot", name := "name", desc := "()I" } : Jvm.MethodName)) ∈ lw_all := lw_g (lw_at lw_m9 163 rfl) rfl
theorem q2143 : (Jvm.Cond.selects "WeaversgateModel$Spot" ({ cls := "WeaversgateModel$Spot", name := "name", desc := "()I" } : Jvm.MethodName) ({ cls := "WeaversgateModel$Spot", name := "name", desc := "()I" } : Jvm.MethodName)) ∈ lw_all := lw_g (lw_at lw_m9 164 rfl) rfl
theorem q2144 : (Jvm.Cond.code ({ cls := "WeaversgateModel$Spot", name := "name", desc := "()I" } : Jvm.MethodName) prog_32_method_6_code (1 : Nat) (Option.some Jvm.ClassFile.FieldType.int)) ∈ lw_all := lw_g (lw_at lw_m9 165 rfl) rfl
theorem q2153 : (Jvm.Cond.instanceMethod ({ cls := "WeaversgateModel$Spot", name := "made", desc := "()I" } : Jvm.MethodName)) ∈ lw_all := lw_g (lw_at lw_m9 174 rfl) rfl
theorem q2154 : (Jvm.Cond.selects "WeaversgateModel$Spot" ({ cls := "WeaversgateModel$Spot", name := "made", desc := "()I" } : Jvm.MethodName) ({ cls := "WeaversgateModel$Spot", name := "made", desc := "()I" } : Jvm.MethodName)) ∈ lw_all := lw_g (lw_at lw_m9 175 rfl) rfl
theorem q2155 : (Jvm.Cond.code ({ cls := "WeaversgateModel$Spot", name := "made", desc := "()I" } : Jvm.MethodName) prog_32_method_7_code (1 : Nat) (Option.some Jvm.ClassFile.FieldType.int)) ∈ lw_all := lw_g (lw_at lw_m9 176 rfl) rfl
theorem q2389 : (Jvm.Cond.instanceMethod ({ cls := "WeaversgateModel$Spot", name := "index", desc := "()I" } : Jvm.MethodName)) ∈ lw_all := lw_g (lw_at lw_m10 170 rfl) rfl
theorem q2390 : (Jvm.Cond.selects "WeaversgateModel$Spot" ({ cls := "WeaversgateModel$Spot", name := "index", desc := "()I" } : Jvm.MethodName) ({ cls := "WeaversgateModel$Spot", name := "index", desc := "()I" } : Jvm.MethodName)) ∈ lw_all := lw_g (lw_at lw_m10 171 rfl) rfl
theorem q2391 : (Jvm.Cond.code ({ cls := "WeaversgateModel$Spot", name := "index", desc := "()I" } : Jvm.MethodName) prog_32_method_8_code (1 : Nat) (Option.some Jvm.ClassFile.FieldType.int)) ∈ lw_all := lw_g (lw_at lw_m10 172 rfl) rfl
theorem q2628 : (Jvm.Cond.castable "WeaversgateModel$Spot" "java/lang/Object") ∈ lw_tbl := lw_at lw_m11 169 rfl
theorem in_X20 : ∀ w ∈ wsX200, w ∈ lw_all := lw_in wsX200 [2115, 2117, 2119, 2121] (by decide +kernel) (by decide +kernel)

/-! WeaversgateModel$Thing -/
set_option maxRecDepth 100000
def RX27 : String := "WeaversgateModel$Thing"
def TX27 : u_T := fun k => match k with
  | 0 => ("WeaversgateModel$Thing", "type", "I", true)
  | _ => ("WeaversgateModel$Thing", "fields", "[I", true)
def tyX27 : Nat → FieldType := fun k => match k with
  | 0 => .int
  | _ => .array .int
abbrev wsX270 : List Cond := u_ws RX27 TX27 2
theorem nmX27 : ∀ a, a < 2 → ∀ b, b < 2 → a ≠ b → (TX27 a).2.1 ≠ (TX27 b).2.1 := by decide +kernel
theorem tyX27_ok : ∀ k, k < 2 → parseFieldDescriptor (TX27 k).2.2.1 = some (tyX27 k) := by decide +kernel
abbrev cX27_init : ByteArray := prog_33_method_1_code
def yX27_init : MethodName := ⟨RX27, "<init>", "(I)V"⟩
def dkwX27_init_0 : List UInt8 := [42, 183, 0, 1, 42, 7, 188, 10, 181, 0, 7, 42, 27, 181, 0, 13, 177]
abbrev dktX27_init_0 : List UInt8 := dkwX27_init_0 ++ []
theorem dksX27_init_0 : cX27_init.data.toList.drop 0 = dktX27_init_0 := by decide +kernel
theorem dX27_init_0 : decode cX27_init 0 = .ok (.aload_n 0, 1) := dk_42 (dk_at dksX27_init_0 0 rfl rfl)
theorem dX27_init_1 : decode cX27_init 1 = .ok (.invokespecial 1, 3) := dk_183 0 1 (dk_at dksX27_init_0 1 rfl rfl)
theorem dX27_init_4 : decode cX27_init 4 = .ok (.aload_n 0, 1) := dk_42 (dk_at dksX27_init_0 4 rfl rfl)
theorem dX27_init_5 : decode cX27_init 5 = .ok (.iconst 4, 1) := dk_7 (dk_at dksX27_init_0 5 rfl rfl)
theorem dX27_init_6 : decode cX27_init 6 = .ok (.newarray .int, 2) := dk_188_10 (dk_at dksX27_init_0 6 rfl rfl)
theorem dX27_init_8 : decode cX27_init 8 = .ok (.putfield 7, 3) := dk_181 0 7 (dk_at dksX27_init_0 8 rfl rfl)
theorem dX27_init_11 : decode cX27_init 11 = .ok (.aload_n 0, 1) := dk_42 (dk_at dksX27_init_0 11 rfl rfl)
theorem dX27_init_12 : decode cX27_init 12 = .ok (.iload_n 1, 1) := dk_27 (dk_at dksX27_init_0 12 rfl rfl)
theorem dX27_init_13 : decode cX27_init 13 = .ok (.putfield 13, 3) := dk_181 0 13 (dk_at dksX27_init_0 13 rfl rfl)
theorem dX27_init_16 : decode cX27_init 16 = .ok (.return_, 1) := dk_177 (dk_at dksX27_init_0 16 rfl rfl)
theorem q113 : (Jvm.Cond.initialized "WeaversgateModel$Thing") ∈ lw_all := lw_g (lw_at lw_m1 54 rfl) rfl
theorem q803 : (Jvm.Cond.selects "WeaversgateModel$Thing" ({ cls := "java/lang/Object", name := "getClass", desc := "()Ljava/lang/Class;" } : Jvm.MethodName) ({ cls := "java/lang/Object", name := "getClass", desc := "()Ljava/lang/Class;" } : Jvm.MethodName)) ∈ lw_all := lw_g (lw_at lw_m4 24 rfl) rfl
theorem q2068 : (Jvm.Cond.selects "WeaversgateModel$Thing" ({ cls := "java/lang/Object", name := "equals", desc := "(Ljava/lang/Object;)Z" } : Jvm.MethodName) ({ cls := "java/lang/Object", name := "equals", desc := "(Ljava/lang/Object;)Z" } : Jvm.MethodName)) ∈ lw_all := lw_g (lw_at lw_m9 89 rfl) rfl
theorem q2272 : (Jvm.Cond.instantiable "WeaversgateModel$Thing" (2 : Nat)) ∈ lw_all := lw_g (lw_at lw_m10 53 rfl) rfl
theorem q2274 : (Jvm.Cond.instanceMethod ({ cls := "WeaversgateModel$Thing", name := "<init>", desc := "(I)V" } : Jvm.MethodName)) ∈ lw_all := lw_g (lw_at lw_m10 55 rfl) rfl
theorem q2275 : (Jvm.Cond.code ({ cls := "WeaversgateModel$Thing", name := "<init>", desc := "(I)V" } : Jvm.MethodName) prog_33_method_1_code (2 : Nat) (Option.none : Option Jvm.ClassFile.FieldType)) ∈ lw_all := lw_g (lw_at lw_m10 56 rfl) rfl
theorem q2276 : (Jvm.Cond.methodLink "WeaversgateModel$Thing" (1 : Nat) ({ cls := "java/lang/Object", name := "<init>", desc := "()V" } : Jvm.MethodName)) ∈ lw_all := lw_g (lw_at lw_m10 57 rfl) rfl
theorem q2277 : (Jvm.Cond.fieldLink "WeaversgateModel$Thing" (13 : Nat) "WeaversgateModel$Thing" "type" "I") ∈ lw_all := lw_g (lw_at lw_m10 58 rfl) rfl
theorem q2279 : (Jvm.Cond.fieldLink "WeaversgateModel$Thing" (7 : Nat) "WeaversgateModel$Thing" "fields" "[I") ∈ lw_all := lw_g (lw_at lw_m10 60 rfl) rfl
theorem q2281 : (Jvm.Cond.laysFinal "WeaversgateModel$Thing" "WeaversgateModel$Thing" "type" "I") ∈ lw_all := lw_g (lw_at lw_m10 62 rfl) rfl
theorem q2282 : (Jvm.Cond.soleField "WeaversgateModel$Thing" "type") ∈ lw_all := lw_g (lw_at lw_m10 63 rfl) rfl
theorem q2283 : (Jvm.Cond.laysFinal "WeaversgateModel$Thing" "WeaversgateModel$Thing" "fields" "[I") ∈ lw_all := lw_g (lw_at lw_m10 64 rfl) rfl
theorem q2284 : (Jvm.Cond.soleField "WeaversgateModel$Thing" "fields") ∈ lw_all := lw_g (lw_at lw_m10 65 rfl) rfl
theorem q2285 : (Jvm.Cond.superclass "WeaversgateModel$Thing" "java/lang/Object") ∈ lw_all := lw_g (lw_at lw_m10 66 rfl) rfl
theorem q2636 : (Jvm.Cond.castable "WeaversgateModel$Thing" "java/lang/Object") ∈ lw_tbl := lw_at lw_m11 177 rfl
theorem in_X27 : ∀ w ∈ wsX270, w ∈ lw_all := lw_in wsX270 [2281, 2283] (by decide +kernel) (by decide +kernel)

/-! WeaversgateModel$GivenUp -/
set_option maxRecDepth 100000
def RX28 : String := "WeaversgateModel$GivenUp"
def TX28 : u_T := fun k => match k with
  | 0 => ("java/lang/Throwable", "cause", "Ljava/lang/Throwable;", false)
  | 1 => ("java/lang/Throwable", "stackTrace", "[Ljava/lang/StackTraceElement;", false)
  | 2 => ("java/lang/Throwable", "suppressedExceptions", "Ljava/util/List;", false)
  | 3 => ("java/lang/Throwable", "detailMessage", "Ljava/lang/String;", false)
  | 4 => ("java/lang/Throwable", "backtrace", "Ljava/lang/Object;", false)
  | _ => ("java/lang/Throwable", "depth", "I", false)
def tyX28 : Nat → FieldType := fun k => match k with
  | 0 => .object "java/lang/Throwable"
  | 1 => .array (.object "java/lang/StackTraceElement")
  | 2 => .object "java/util/List"
  | 3 => .object "java/lang/String"
  | 4 => .object "java/lang/Object"
  | _ => .int
abbrev wsX280 : List Cond := u_ws RX28 TX28 6
theorem nmX28 : ∀ a, a < 6 → ∀ b, b < 6 → a ≠ b → (TX28 a).2.1 ≠ (TX28 b).2.1 := by decide +kernel
theorem tyX28_ok : ∀ k, k < 6 → parseFieldDescriptor (TX28 k).2.2.1 = some (tyX28 k) := by decide +kernel
abbrev cX28_init : ByteArray := prog_27_method_1_code
def yX28_init : MethodName := ⟨RX28, "<init>", "()V"⟩
theorem dX28_init_0 : decode cX28_init 0 = .ok (.aload_n 0, 1) := by decide +kernel
theorem dX28_init_1 : decode cX28_init 1 = .ok (.invokespecial 1, 3) := by decide +kernel
theorem dX28_init_4 : decode cX28_init 4 = .ok (.return_, 1) := by decide +kernel
theorem q114 : (Jvm.Cond.initialized "WeaversgateModel$GivenUp") ∈ lw_all := lw_g (lw_at lw_m1 55 rfl) rfl
theorem q415 : (Jvm.Cond.selects "WeaversgateModel$GivenUp" ({ cls := "java/lang/Throwable", name := "fillInStackTrace", desc := "()Ljava/lang/Throwable;" } : Jvm.MethodName) ({ cls := "java/lang/Throwable", name := "fillInStackTrace", desc := "()Ljava/lang/Throwable;" } : Jvm.MethodName)) ∈ lw_all := lw_g (lw_at lw_m2 116 rfl) rfl
theorem q797 : (Jvm.Cond.selects "WeaversgateModel$GivenUp" ({ cls := "java/lang/Object", name := "getClass", desc := "()Ljava/lang/Class;" } : Jvm.MethodName) ({ cls := "java/lang/Object", name := "getClass", desc := "()Ljava/lang/Class;" } : Jvm.MethodName)) ∈ lw_all := lw_g (lw_at lw_m4 18 rfl) rfl
theorem q2058 : (Jvm.Cond.selects "WeaversgateModel$GivenUp" ({ cls := "java/lang/Object", name := "equals", desc := "(Ljava/lang/Object;)Z" } : Jvm.MethodName) ({ cls := "java/lang/Object", name := "equals", desc := "(Ljava/lang/Object;)Z" } : Jvm.MethodName)) ∈ lw_all := lw_g (lw_at lw_m9 79 rfl) rfl
theorem q2291 : (Jvm.Cond.instantiable "WeaversgateModel$GivenUp" (6 : Nat)) ∈ lw_all := lw_g (lw_at lw_m10 72 rfl) rfl
theorem q2292 : (Jvm.Cond.castable "WeaversgateModel$GivenUp" "WeaversgateModel$GivenUp") ∈ lw_tbl := lw_at lw_m10 73 rfl
theorem q2293 : (Jvm.Cond.selects "WeaversgateModel$GivenUp" ({ cls := "java/lang/Throwable", name := "fillInStackTrace", desc := "(I)Ljava/lang/Throwable;" } : Jvm.MethodName) ({ cls := "java/lang/Throwable", name := "fillInStackTrace", desc := "(I)Ljava/lang/Throwable;" } : Jvm.MethodName)) ∈ lw_all := lw_g (lw_at lw_m10 74 rfl) rfl
theorem q2294 : (Jvm.Cond.lays "WeaversgateModel$GivenUp" "java/lang/Throwable" "cause" "Ljava/lang/Throwable;") ∈ lw_all := lw_g (lw_at lw_m10 75 rfl) rfl
theorem q2295 : (Jvm.Cond.lays "WeaversgateModel$GivenUp" "java/lang/Throwable" "stackTrace" "[Ljava/lang/StackTraceElement;") ∈ lw_all := lw_g (lw_at lw_m10 76 rfl) rfl
theorem q2296 : (Jvm.Cond.lays "WeaversgateModel$GivenUp" "java/lang/Throwable" "suppressedExceptions" "Ljava/util/List;") ∈ lw_all := lw_g (lw_at lw_m10 77 rfl) rfl
theorem q2297 : (Jvm.Cond.lays "WeaversgateModel$GivenUp" "java/lang/Throwable" "detailMessage" "Ljava/lang/String;") ∈ lw_all := lw_g (lw_at lw_m10 78 rfl) rfl
theorem q2298 : (Jvm.Cond.lays "WeaversgateModel$GivenUp" "java/lang/Throwable" "backtrace" "Ljava/lang/Object;") ∈ lw_all := lw_g (lw_at lw_m10 79 rfl) rfl
theorem q2300 : (Jvm.Cond.instanceMethod ({ cls := "WeaversgateModel$GivenUp", name := "<init>", desc := "()V" } : Jvm.MethodName)) ∈ lw_all := lw_g (lw_at lw_m10 81 rfl) rfl
theorem q2301 : (Jvm.Cond.code ({ cls := "WeaversgateModel$GivenUp", name := "<init>", desc := "()V" } : Jvm.MethodName) prog_27_method_1_code (1 : Nat) (Option.none : Option Jvm.ClassFile.FieldType)) ∈ lw_all := lw_g (lw_at lw_m10 82 rfl) rfl
theorem q2302 : (Jvm.Cond.methodLink "WeaversgateModel$GivenUp" (1 : Nat) ({ cls := "java/lang/Exception", name := "<init>", desc := "()V" } : Jvm.MethodName)) ∈ lw_all := lw_g (lw_at lw_m10 83 rfl) rfl
theorem q2303 : (Jvm.Cond.lays "WeaversgateModel$GivenUp" "java/lang/Throwable" "depth" "I") ∈ lw_all := lw_g (lw_at lw_m10 84 rfl) rfl
theorem q2304 : (Jvm.Cond.superclass "WeaversgateModel$GivenUp" "java/lang/Exception") ∈ lw_all := lw_g (lw_at lw_m10 85 rfl) rfl
theorem q2637 : (Jvm.Cond.castable "WeaversgateModel$GivenUp" "java/lang/Object") ∈ lw_tbl := lw_at lw_m11 178 rfl
theorem in_X28 : ∀ w ∈ wsX280, w ∈ lw_all := lw_in wsX280 [2294, 2295, 2296, 2297, 2298, 2303] (by decide +kernel) (by decide +kernel)

/-! WeaversgateModel$Point -/
set_option maxRecDepth 100000
def RX29 : String := "WeaversgateModel$Point"
def TX29 : u_T := fun k => match k with
  | 0 => ("WeaversgateModel$Point", "kind", "C", true)
  | 1 => ("WeaversgateModel$Point", "name", "I", true)
  | 2 => ("WeaversgateModel$Point", "type", "I", true)
  | 3 => ("WeaversgateModel$Point", "placeClass", "I", true)
  | 4 => ("WeaversgateModel$Point", "method", "I", true)
  | 5 => ("WeaversgateModel$Point", "index", "I", true)
  | 6 => ("WeaversgateModel$Point", "value", "I", true)
  | _ => ("WeaversgateModel$Point", "held", "I", true)
def tyX29 : Nat → FieldType := fun k => match k with
  | 0 => .char
  | 1 => .int
  | 2 => .int
  | 3 => .int
  | 4 => .int
  | 5 => .int
  | 6 => .int
  | _ => .int
abbrev wsX290 : List Cond := u_ws RX29 TX29 8
theorem nmX29 : ∀ a, a < 8 → ∀ b, b < 8 → a ≠ b → (TX29 a).2.1 ≠ (TX29 b).2.1 := by decide +kernel
theorem tyX29_ok : ∀ k, k < 8 → parseFieldDescriptor (TX29 k).2.2.1 = some (tyX29 k) := by decide +kernel
abbrev cX29_equals : ByteArray := prog_28_method_4_code
def yX29_equals : MethodName := ⟨RX29, "equals", "(Ljava/lang/Object;)Z"⟩
def dkwX29_equals_0 : List UInt8 := [42, 43, 186, 0, 43, 0, 0, 172]
abbrev dktX29_equals_0 : List UInt8 := dkwX29_equals_0 ++ []
theorem dksX29_equals_0 : cX29_equals.data.toList.drop 0 = dktX29_equals_0 := by decide +kernel
theorem dX29_equals_0 : decode cX29_equals 0 = .ok (.aload_n 0, 1) := dk_42 (dk_at dksX29_equals_0 0 rfl rfl)
theorem dX29_equals_1 : decode cX29_equals 1 = .ok (.aload_n 1, 1) := dk_43 (dk_at dksX29_equals_0 1 rfl rfl)
theorem dX29_equals_2 : decode cX29_equals 2 = .ok (.invokedynamic 43, 5) := by decide +kernel
theorem dX29_equals_7 : decode cX29_equals 7 = .ok (.ireturn, 1) := dk_172 (dk_at dksX29_equals_0 7 rfl rfl)
abbrev cX29_held : ByteArray := prog_28_method_12_code
def yX29_held : MethodName := ⟨RX29, "held", "()I"⟩
theorem dX29_held_0 : decode cX29_held 0 = .ok (.aload_n 0, 1) := by decide +kernel
theorem dX29_held_1 : decode cX29_held 1 = .ok (.getfield 32, 3) := by decide +kernel
theorem dX29_held_4 : decode cX29_held 4 = .ok (.ireturn, 1) := by decide +kernel
abbrev cX29_init : ByteArray := prog_28_method_1_code
def yX29_init : MethodName := ⟨RX29, "<init>", "(CIIIIIII)V"⟩
def dkwX29_init_2 : List UInt8 := [181, 0, 32, 177]
abbrev dktX29_init_2 : List UInt8 := dkwX29_init_2 ++ []
def dkwX29_init_1 : List UInt8 := [181, 0, 20, 42, 21, 5, 181, 0, 23, 42, 21, 6, 181, 0, 26, 42, 21, 7, 181, 0, 29, 42, 21, 8]
abbrev dktX29_init_1 : List UInt8 := dkwX29_init_1 ++ dktX29_init_2
def dkwX29_init_0 : List UInt8 := [42, 183, 0, 1, 42, 27, 181, 0, 7, 42, 28, 181, 0, 13, 42, 29, 181, 0, 17, 42, 21, 4]
abbrev dktX29_init_0 : List UInt8 := dkwX29_init_0 ++ dktX29_init_1
theorem dksX29_init_0 : cX29_init.data.toList.drop 0 = dktX29_init_0 := by decide +kernel
theorem dksX29_init_1 : cX29_init.data.toList.drop 22 = dktX29_init_1 := dk_seg dksX29_init_0 22 rfl rfl
theorem dksX29_init_2 : cX29_init.data.toList.drop 46 = dktX29_init_2 := dk_seg dksX29_init_1 24 rfl rfl
theorem dX29_init_0 : decode cX29_init 0 = .ok (.aload_n 0, 1) := dk_42 (dk_at dksX29_init_0 0 rfl rfl)
theorem dX29_init_1 : decode cX29_init 1 = .ok (.invokespecial 1, 3) := dk_183 0 1 (dk_at dksX29_init_0 1 rfl rfl)
theorem dX29_init_4 : decode cX29_init 4 = .ok (.aload_n 0, 1) := dk_42 (dk_at dksX29_init_0 4 rfl rfl)
theorem dX29_init_5 : decode cX29_init 5 = .ok (.iload_n 1, 1) := dk_27 (dk_at dksX29_init_0 5 rfl rfl)
theorem dX29_init_6 : decode cX29_init 6 = .ok (.putfield 7, 3) := dk_181 0 7 (dk_at dksX29_init_0 6 rfl rfl)
theorem dX29_init_9 : decode cX29_init 9 = .ok (.aload_n 0, 1) := dk_42 (dk_at dksX29_init_0 9 rfl rfl)
theorem dX29_init_10 : decode cX29_init 10 = .ok (.iload_n 2, 1) := dk_28 (dk_at dksX29_init_0 10 rfl rfl)
theorem dX29_init_11 : decode cX29_init 11 = .ok (.putfield 13, 3) := dk_181 0 13 (dk_at dksX29_init_0 11 rfl rfl)
theorem dX29_init_14 : decode cX29_init 14 = .ok (.aload_n 0, 1) := dk_42 (dk_at dksX29_init_0 14 rfl rfl)
theorem dX29_init_15 : decode cX29_init 15 = .ok (.iload_n 3, 1) := dk_29 (dk_at dksX29_init_0 15 rfl rfl)
theorem dX29_init_16 : decode cX29_init 16 = .ok (.putfield 17, 3) := dk_181 0 17 (dk_at dksX29_init_0 16 rfl rfl)
theorem dX29_init_19 : decode cX29_init 19 = .ok (.aload_n 0, 1) := dk_42 (dk_at dksX29_init_0 19 rfl rfl)
theorem dX29_init_20 : decode cX29_init 20 = .ok (.iload 4, 2) := dk_21 4 (dk_at dksX29_init_0 20 rfl rfl)
theorem dX29_init_22 : decode cX29_init 22 = .ok (.putfield 20, 3) := dk_181 0 20 (dk_at dksX29_init_1 0 rfl rfl)
theorem dX29_init_25 : decode cX29_init 25 = .ok (.aload_n 0, 1) := dk_42 (dk_at dksX29_init_1 3 rfl rfl)
theorem dX29_init_26 : decode cX29_init 26 = .ok (.iload 5, 2) := dk_21 5 (dk_at dksX29_init_1 4 rfl rfl)
theorem dX29_init_28 : decode cX29_init 28 = .ok (.putfield 23, 3) := dk_181 0 23 (dk_at dksX29_init_1 6 rfl rfl)
theorem dX29_init_31 : decode cX29_init 31 = .ok (.aload_n 0, 1) := dk_42 (dk_at dksX29_init_1 9 rfl rfl)
theorem dX29_init_32 : decode cX29_init 32 = .ok (.iload 6, 2) := dk_21 6 (dk_at dksX29_init_1 10 rfl rfl)
theorem dX29_init_34 : decode cX29_init 34 = .ok (.putfield 26, 3) := dk_181 0 26 (dk_at dksX29_init_1 12 rfl rfl)
theorem dX29_init_37 : decode cX29_init 37 = .ok (.aload_n 0, 1) := dk_42 (dk_at dksX29_init_1 15 rfl rfl)
theorem dX29_init_38 : decode cX29_init 38 = .ok (.iload 7, 2) := dk_21 7 (dk_at dksX29_init_1 16 rfl rfl)
theorem dX29_init_40 : decode cX29_init 40 = .ok (.putfield 29, 3) := dk_181 0 29 (dk_at dksX29_init_1 18 rfl rfl)
theorem dX29_init_43 : decode cX29_init 43 = .ok (.aload_n 0, 1) := dk_42 (dk_at dksX29_init_1 21 rfl rfl)
theorem dX29_init_44 : decode cX29_init 44 = .ok (.iload 8, 2) := dk_21 8 (dk_at dksX29_init_1 22 rfl rfl)
theorem dX29_init_46 : decode cX29_init 46 = .ok (.putfield 32, 3) := dk_181 0 32 (dk_at dksX29_init_2 0 rfl rfl)
theorem dX29_init_49 : decode cX29_init 49 = .ok (.return_, 1) := dk_177 (dk_at dksX29_init_2 3 rfl rfl)
abbrev cX29_placeClass : ByteArray := prog_28_method_8_code
def yX29_placeClass : MethodName := ⟨RX29, "placeClass", "()I"⟩
theorem dX29_placeClass_0 : decode cX29_placeClass 0 = .ok (.aload_n 0, 1) := by decide +kernel
theorem dX29_placeClass_1 : decode cX29_placeClass 1 = .ok (.getfield 20, 3) := by decide +kernel
theorem dX29_placeClass_4 : decode cX29_placeClass 4 = .ok (.ireturn, 1) := by decide +kernel
abbrev cX29_method : ByteArray := prog_28_method_9_code
def yX29_method : MethodName := ⟨RX29, "method", "()I"⟩
theorem dX29_method_0 : decode cX29_method 0 = .ok (.aload_n 0, 1) := by decide +kernel
theorem dX29_method_1 : decode cX29_method 1 = .ok (.getfield 23, 3) := by decide +kernel
theorem dX29_method_4 : decode cX29_method 4 = .ok (.ireturn, 1) := by decide +kernel
abbrev cX29_kind : ByteArray := prog_28_method_5_code
def yX29_kind : MethodName := ⟨RX29, "kind", "()C"⟩
theorem dX29_kind_0 : decode cX29_kind 0 = .ok (.aload_n 0, 1) := by decide +kernel
theorem dX29_kind_1 : decode cX29_kind 1 = .ok (.getfield 7, 3) := by decide +kernel
theorem dX29_kind_4 : decode cX29_kind 4 = .ok (.ireturn, 1) := by decide +kernel
abbrev cX29_index : ByteArray := prog_28_method_10_code
def yX29_index : MethodName := ⟨RX29, "index", "()I"⟩
theorem dX29_index_0 : decode cX29_index 0 = .ok (.aload_n 0, 1) := by decide +kernel
theorem dX29_index_1 : decode cX29_index 1 = .ok (.getfield 26, 3) := by decide +kernel
theorem dX29_index_4 : decode cX29_index 4 = .ok (.ireturn, 1) := by decide +kernel
abbrev cX29_name : ByteArray := prog_28_method_6_code
def yX29_name : MethodName := ⟨RX29, "name", "()I"⟩
theorem dX29_name_0 : decode cX29_name 0 = .ok (.aload_n 0, 1) := by decide +kernel
theorem dX29_name_1 : decode cX29_name 1 = .ok (.getfield 13, 3) := by decide +kernel
theorem dX29_name_4 : decode cX29_name 4 = .ok (.ireturn, 1) := by decide +kernel
theorem q115 : (Jvm.Cond.initialized "WeaversgateModel$Point") ∈ lw_all := lw_g (lw_at lw_m1 56 rfl) rfl
theorem q798 : (Jvm.Cond.selects "WeaversgateModel$Point" ({ cls := "java/lang/Object", name := "getClass", desc := "()Ljava/lang/Class;" } : Jvm.MethodName) ({ cls := "java/lang/Object", name := "getClass", desc := "()Ljava/lang/Class;" } : Jvm.MethodName)) ∈ lw_all := lw_g (lw_at lw_m4 19 rfl) rfl
theorem q2059 : (Jvm.Cond.selects "WeaversgateModel$Point" ({ cls := "java/lang/Object", name := "equals", desc := "(Ljava/lang/Object;)Z" } : Jvm.MethodName) ({ cls := "WeaversgateModel$Point", name := "equals", desc := "(Ljava/lang/Object;)Z" } : Jvm.MethodName)) ∈ lw_all := lw_g (lw_at lw_m9 80 rfl) rfl
theorem q2060 : (Jvm.Cond.instanceMethod ({ cls := "WeaversgateModel$Point", name := "equals", desc := "(Ljava/lang/Object;)Z" } : Jvm.MethodName)) ∈ lw_all := lw_g (lw_at lw_m9 81 rfl) rfl
theorem q2061 : (Jvm.Cond.code ({ cls := "WeaversgateModel$Point", name := "equals", desc := "(Ljava/lang/Object;)Z" } : Jvm.MethodName) prog_28_method_4_code (2 : Nat) (Option.some Jvm.ClassFile.FieldType.boolean)) ∈ lw_all := lw_g (lw_at lw_m9 82 rfl) rfl
theorem q2325 : (Jvm.Cond.instanceMethod ({ cls := "WeaversgateModel$Point", name := "held", desc := "()I" } : Jvm.MethodName)) ∈ lw_all := lw_g (lw_at lw_m10 106 rfl) rfl
theorem q2326 : (Jvm.Cond.selects "WeaversgateModel$Point" ({ cls := "WeaversgateModel$Point", name := "held", desc := "()I" } : Jvm.MethodName) ({ cls := "WeaversgateModel$Point", name := "held", desc := "()I" } : Jvm.MethodName)) ∈ lw_all := lw_g (lw_at lw_m10 107 rfl) rfl
theorem q2327 : (Jvm.Cond.code ({ cls := "WeaversgateModel$Point", name := "held", desc := "()I" } : Jvm.MethodName) prog_28_method_12_code (1 : Nat) (Option.some Jvm.ClassFile.FieldType.int)) ∈ lw_all := lw_g (lw_at lw_m10 108 rfl) rfl
theorem q2328 : (Jvm.Cond.instantiable "WeaversgateModel$Point" (8 : Nat)) ∈ lw_all := lw_g (lw_at lw_m10 109 rfl) rfl
theorem q2330 : (Jvm.Cond.instanceMethod ({ cls := "WeaversgateModel$Point", name := "<init>", desc := "(CIIIIIII)V" } : Jvm.MethodName)) ∈ lw_all := lw_g (lw_at lw_m10 111 rfl) rfl
theorem q2331 : (Jvm.Cond.code ({ cls := "WeaversgateModel$Point", name := "<init>", desc := "(CIIIIIII)V" } : Jvm.MethodName) prog_28_method_1_code (9 : Nat) (Option.none : Option Jvm.ClassFile.FieldType)) ∈ lw_all := lw_g (lw_at lw_m10 112 rfl) rfl
theorem q2332 : (Jvm.Cond.methodLink "WeaversgateModel$Point" (1 : Nat) ({ cls := "java/lang/Record", name := "<init>", desc := "()V" } : Jvm.MethodName)) ∈ lw_all := lw_g (lw_at lw_m10 113 rfl) rfl
theorem q2333 : (Jvm.Cond.fieldLink "WeaversgateModel$Point" (7 : Nat) "WeaversgateModel$Point" "kind" "C") ∈ lw_all := lw_g (lw_at lw_m10 114 rfl) rfl
theorem q2334 : (Jvm.Cond.fieldLink "WeaversgateModel$Point" (13 : Nat) "WeaversgateModel$Point" "name" "I") ∈ lw_all := lw_g (lw_at lw_m10 115 rfl) rfl
theorem q2335 : (Jvm.Cond.fieldLink "WeaversgateModel$Point" (17 : Nat) "WeaversgateModel$Point" "type" "I") ∈ lw_all := lw_g (lw_at lw_m10 116 rfl) rfl
theorem q2336 : (Jvm.Cond.fieldLink "WeaversgateModel$Point" (20 : Nat) "WeaversgateModel$Point" "placeClass" "I") ∈ lw_all := lw_g (lw_at lw_m10 117 rfl) rfl
theorem q2337 : (Jvm.Cond.fieldLink "WeaversgateModel$Point" (23 : Nat) "WeaversgateModel$Point" "method" "I") ∈ lw_all := lw_g (lw_at lw_m10 118 rfl) rfl
theorem q2338 : (Jvm.Cond.fieldLink "WeaversgateModel$Point" (26 : Nat) "WeaversgateModel$Point" "index" "I") ∈ lw_all := lw_g (lw_at lw_m10 119 rfl) rfl
theorem q2339 : (Jvm.Cond.fieldLink "WeaversgateModel$Point" (29 : Nat) "WeaversgateModel$Point" "value" "I") ∈ lw_all := lw_g (lw_at lw_m10 120 rfl) rfl
theorem q2340 : (Jvm.Cond.fieldLink "WeaversgateModel$Point" (32 : Nat) "WeaversgateModel$Point" "held" "I") ∈ lw_all := lw_g (lw_at lw_m10 121 rfl) rfl
theorem q2341 : (Jvm.Cond.laysFinal "WeaversgateModel$Point" "WeaversgateModel$Point" "kind" "C") ∈ lw_all := lw_g (lw_at lw_m10 122 rfl) rfl
theorem q2342 : (Jvm.Cond.soleField "WeaversgateModel$Point" "kind") ∈ lw_all := lw_g (lw_at lw_m10 123 rfl) rfl
theorem q2343 : (Jvm.Cond.laysFinal "WeaversgateModel$Point" "WeaversgateModel$Point" "name" "I") ∈ lw_all := lw_g (lw_at lw_m10 124 rfl) rfl
theorem q2344 : (Jvm.Cond.soleField "WeaversgateModel$Point" "name") ∈ lw_all := lw_g (lw_at lw_m10 125 rfl) rfl
theorem q2345 : (Jvm.Cond.laysFinal "WeaversgateModel$Point" "WeaversgateModel$Point" "type" "I") ∈ lw_all := lw_g (lw_at lw_m10 126 rfl) rfl
theorem q2346 : (Jvm.Cond.soleField "WeaversgateModel$Point" "type") ∈ lw_all := lw_g (lw_at lw_m10 127 rfl) rfl
theorem q2347 : (Jvm.Cond.laysFinal "WeaversgateModel$Point" "WeaversgateModel$Point" "placeClass" "I") ∈ lw_all := lw_g (lw_at lw_m10 128 rfl) rfl
theorem q2348 : (Jvm.Cond.soleField "WeaversgateModel$Point" "placeClass") ∈ lw_all := lw_g (lw_at lw_m10 129 rfl) rfl
theorem q2349 : (Jvm.Cond.laysFinal "WeaversgateModel$Point" "WeaversgateModel$Point" "method" "I") ∈ lw_all := lw_g (lw_at lw_m10 130 rfl) rfl
theorem q2350 : (Jvm.Cond.soleField "WeaversgateModel$Point" "method") ∈ lw_all := lw_g (lw_at lw_m10 131 rfl) rfl
theorem q2351 : (Jvm.Cond.laysFinal "WeaversgateModel$Point" "WeaversgateModel$Point" "index" "I") ∈ lw_all := lw_g (lw_at lw_m10 132 rfl) rfl
theorem q2352 : (Jvm.Cond.soleField "WeaversgateModel$Point" "index") ∈ lw_all := lw_g (lw_at lw_m10 133 rfl) rfl
theorem q2353 : (Jvm.Cond.laysFinal "WeaversgateModel$Point" "WeaversgateModel$Point" "value" "I") ∈ lw_all := lw_g (lw_at lw_m10 134 rfl) rfl
theorem q2354 : (Jvm.Cond.soleField "WeaversgateModel$Point" "value") ∈ lw_all := lw_g (lw_at lw_m10 135 rfl) rfl
theorem q2355 : (Jvm.Cond.laysFinal "WeaversgateModel$Point" "WeaversgateModel$Point" "held" "I") ∈ lw_all := lw_g (lw_at lw_m10 136 rfl) rfl
theorem q2356 : (Jvm.Cond.soleField "WeaversgateModel$Point" "held") ∈ lw_all := lw_g (lw_at lw_m10 137 rfl) rfl
theorem q2357 : (Jvm.Cond.superclass "WeaversgateModel$Point" "java/lang/Record") ∈ lw_all := lw_g (lw_at lw_m10 138 rfl) rfl
theorem q2370 : (Jvm.Cond.instanceMethod ({ cls := "WeaversgateModel$Point", name := "placeClass", desc := "()I" } : Jvm.MethodName)) ∈ lw_all := lw_g (lw_at lw_m10 151 rfl) rfl
theorem q2371 : (Jvm.Cond.selects "WeaversgateModel$Point" ({ cls := "WeaversgateModel$Point", name := "placeClass", desc := "()I" } : Jvm.MethodName) ({ cls := "WeaversgateModel$Point", name := "placeClass", desc := "()I" } : Jvm.MethodName)) ∈ lw_all := lw_g (lw_at lw_m10 152 rfl) rfl
theorem q2372 : (Jvm.Cond.code ({ cls := "WeaversgateModel$Point", name := "placeClass", desc := "()I" } : Jvm.MethodName) prog_28_method_8_code (1 : Nat) (Option.some Jvm.ClassFile.FieldType.int)) ∈ lw_all := lw_g (lw_at lw_m10 153 rfl) rfl
theorem q2378 : (Jvm.Cond.instanceMethod ({ cls := "WeaversgateModel$Point", name := "method", desc := "()I" } : Jvm.MethodName)) ∈ lw_all := lw_g (lw_at lw_m10 159 rfl) rfl
theorem q2379 : (Jvm.Cond.selects "WeaversgateModel$Point" ({ cls := "WeaversgateModel$Point", name := "method", desc := "()I" } : Jvm.MethodName) ({ cls := "WeaversgateModel$Point", name := "method", desc := "()I" } : Jvm.MethodName)) ∈ lw_all := lw_g (lw_at lw_m10 160 rfl) rfl
theorem q2380 : (Jvm.Cond.code ({ cls := "WeaversgateModel$Point", name := "method", desc := "()I" } : Jvm.MethodName) prog_28_method_9_code (1 : Nat) (Option.some Jvm.ClassFile.FieldType.int)) ∈ lw_all := lw_g (lw_at lw_m10 161 rfl) rfl
theorem q2385 : (Jvm.Cond.instanceMethod ({ cls := "WeaversgateModel$Point", name := "kind", desc := "()C" } : Jvm.MethodName)) ∈ lw_all := lw_g (lw_at lw_m10 166 rfl) rfl
theorem q2386 : (Jvm.Cond.selects "WeaversgateModel$Point" ({ cls := "WeaversgateModel$Point", name := "kind", desc := "()C" } : Jvm.MethodName) ({ cls := "WeaversgateModel$Point", name := "kind", desc := "()C" } : Jvm.MethodName)) ∈ lw_all := lw_g (lw_at lw_m10 167 rfl) rfl
theorem q2387 : (Jvm.Cond.code ({ cls := "WeaversgateModel$Point", name := "kind", desc := "()C" } : Jvm.MethodName) prog_28_method_5_code (1 : Nat) (Option.some Jvm.ClassFile.FieldType.char)) ∈ lw_all := lw_g (lw_at lw_m10 168 rfl) rfl
theorem q2393 : (Jvm.Cond.instanceMethod ({ cls := "WeaversgateModel$Point", name := "index", desc := "()I" } : Jvm.MethodName)) ∈ lw_all := lw_g (lw_at lw_m10 174 rfl) rfl
theorem q2394 : (Jvm.Cond.selects "WeaversgateModel$Point" ({ cls := "WeaversgateModel$Point", name := "index", desc := "()I" } : Jvm.MethodName) ({ cls := "WeaversgateModel$Point", name := "index", desc := "()I" } : Jvm.MethodName)) ∈ lw_all := lw_g (lw_at lw_m10 175 rfl) rfl
theorem q2395 : (Jvm.Cond.code ({ cls := "WeaversgateModel$Point", name := "index", desc := "()I" } : Jvm.MethodName) prog_28_method_10_code (1 : Nat) (Option.some Jvm.ClassFile.FieldType.int)) ∈ lw_all := lw_g (lw_at lw_m10 176 rfl) rfl
theorem q2407 : (Jvm.Cond.instanceMethod ({ cls := "WeaversgateModel$Point", name := "name", desc := "()I" } : Jvm.MethodName)) ∈ lw_all := lw_g (lw_at lw_m10 188 rfl) rfl
theorem q2408 : (Jvm.Cond.selects "WeaversgateModel$Point" ({ cls := "WeaversgateModel$Point", name := "name", desc := "()I" } : Jvm.MethodName) ({ cls := "WeaversgateModel$Point", name := "name", desc := "()I" } : Jvm.MethodName)) ∈ lw_all := lw_g (lw_at lw_m10 189 rfl) rfl
theorem q2409 : (Jvm.Cond.code ({ cls := "WeaversgateModel$Point", name := "name", desc := "()I" } : Jvm.MethodName) prog_28_method_6_code (1 : Nat) (Option.some Jvm.ClassFile.FieldType.int)) ∈ lw_all := lw_g (lw_at lw_m10 190 rfl) rfl
theorem q2638 : (Jvm.Cond.castable "WeaversgateModel$Point" "java/lang/Object") ∈ lw_tbl := lw_at lw_m11 179 rfl
theorem in_X29 : ∀ w ∈ wsX290, w ∈ lw_all := lw_in wsX290 [2341, 2343, 2345, 2347, 2349, 2351, 2353, 2355] (by decide +kernel) (by decide +kernel)

/-! WeaversgateModel$Raised -/
set_option maxRecDepth 100000
def RX30 : String := "WeaversgateModel$Raised"
def TX30 : u_T := fun k => match k with
  | 0 => ("java/lang/Throwable", "cause", "Ljava/lang/Throwable;", false)
  | 1 => ("java/lang/Throwable", "stackTrace", "[Ljava/lang/StackTraceElement;", false)
  | 2 => ("java/lang/Throwable", "suppressedExceptions", "Ljava/util/List;", false)
  | 3 => ("java/lang/Throwable", "detailMessage", "Ljava/lang/String;", false)
  | 4 => ("java/lang/Throwable", "backtrace", "Ljava/lang/Object;", false)
  | 5 => ("java/lang/Throwable", "depth", "I", false)
  | _ => ("WeaversgateModel$Raised", "number", "I", true)
def tyX30 : Nat → FieldType := fun k => match k with
  | 0 => .object "java/lang/Throwable"
  | 1 => .array (.object "java/lang/StackTraceElement")
  | 2 => .object "java/util/List"
  | 3 => .object "java/lang/String"
  | 4 => .object "java/lang/Object"
  | 5 => .int
  | _ => .int
abbrev wsX300 : List Cond := u_ws RX30 TX30 7
theorem nmX30 : ∀ a, a < 7 → ∀ b, b < 7 → a ≠ b → (TX30 a).2.1 ≠ (TX30 b).2.1 := by decide +kernel
theorem tyX30_ok : ∀ k, k < 7 → parseFieldDescriptor (TX30 k).2.2.1 = some (tyX30 k) := by decide +kernel
abbrev cX30_init : ByteArray := prog_29_method_1_code
def yX30_init : MethodName := ⟨RX30, "<init>", "(I)V"⟩
def dkwX30_init_0 : List UInt8 := [42, 183, 0, 1, 42, 27, 181, 0, 7, 177]
abbrev dktX30_init_0 : List UInt8 := dkwX30_init_0 ++ []
theorem dksX30_init_0 : cX30_init.data.toList.drop 0 = dktX30_init_0 := by decide +kernel
theorem dX30_init_0 : decode cX30_init 0 = .ok (.aload_n 0, 1) := dk_42 (dk_at dksX30_init_0 0 rfl rfl)
theorem dX30_init_1 : decode cX30_init 1 = .ok (.invokespecial 1, 3) := dk_183 0 1 (dk_at dksX30_init_0 1 rfl rfl)
theorem dX30_init_4 : decode cX30_init 4 = .ok (.aload_n 0, 1) := dk_42 (dk_at dksX30_init_0 4 rfl rfl)
theorem dX30_init_5 : decode cX30_init 5 = .ok (.iload_n 1, 1) := dk_27 (dk_at dksX30_init_0 5 rfl rfl)
theorem dX30_init_6 : decode cX30_init 6 = .ok (.putfield 7, 3) := dk_181 0 7 (dk_at dksX30_init_0 6 rfl rfl)
theorem dX30_init_9 : decode cX30_init 9 = .ok (.return_, 1) := dk_177 (dk_at dksX30_init_0 9 rfl rfl)
theorem q116 : (Jvm.Cond.initialized "WeaversgateModel$Raised") ∈ lw_all := lw_g (lw_at lw_m1 57 rfl) rfl
theorem q416 : (Jvm.Cond.selects "WeaversgateModel$Raised" ({ cls := "java/lang/Throwable", name := "fillInStackTrace", desc := "()Ljava/lang/Throwable;" } : Jvm.MethodName) ({ cls := "java/lang/Throwable", name := "fillInStackTrace", desc := "()Ljava/lang/Throwable;" } : Jvm.MethodName)) ∈ lw_all := lw_g (lw_at lw_m2 117 rfl) rfl
theorem q799 : (Jvm.Cond.selects "WeaversgateModel$Raised" ({ cls := "java/lang/Object", name := "getClass", desc := "()Ljava/lang/Class;" } : Jvm.MethodName) ({ cls := "java/lang/Object", name := "getClass", desc := "()Ljava/lang/Class;" } : Jvm.MethodName)) ∈ lw_all := lw_g (lw_at lw_m4 20 rfl) rfl
theorem q2062 : (Jvm.Cond.selects "WeaversgateModel$Raised" ({ cls := "java/lang/Object", name := "equals", desc := "(Ljava/lang/Object;)Z" } : Jvm.MethodName) ({ cls := "java/lang/Object", name := "equals", desc := "(Ljava/lang/Object;)Z" } : Jvm.MethodName)) ∈ lw_all := lw_g (lw_at lw_m9 83 rfl) rfl
theorem q2411 : (Jvm.Cond.instantiable "WeaversgateModel$Raised" (7 : Nat)) ∈ lw_all := lw_g (lw_at lw_m10 192 rfl) rfl
theorem q2412 : (Jvm.Cond.castable "WeaversgateModel$Raised" "WeaversgateModel$Raised") ∈ lw_tbl := lw_at lw_m10 193 rfl
theorem q2413 : (Jvm.Cond.selects "WeaversgateModel$Raised" ({ cls := "java/lang/Throwable", name := "fillInStackTrace", desc := "(I)Ljava/lang/Throwable;" } : Jvm.MethodName) ({ cls := "java/lang/Throwable", name := "fillInStackTrace", desc := "(I)Ljava/lang/Throwable;" } : Jvm.MethodName)) ∈ lw_all := lw_g (lw_at lw_m10 194 rfl) rfl
theorem q2414 : (Jvm.Cond.lays "WeaversgateModel$Raised" "java/lang/Throwable" "cause" "Ljava/lang/Throwable;") ∈ lw_all := lw_g (lw_at lw_m10 195 rfl) rfl
theorem q2415 : (Jvm.Cond.lays "WeaversgateModel$Raised" "java/lang/Throwable" "stackTrace" "[Ljava/lang/StackTraceElement;") ∈ lw_all := lw_g (lw_at lw_m10 196 rfl) rfl
theorem q2416 : (Jvm.Cond.lays "WeaversgateModel$Raised" "java/lang/Throwable" "suppressedExceptions" "Ljava/util/List;") ∈ lw_all := lw_g (lw_at lw_m10 197 rfl) rfl
theorem q2417 : (Jvm.Cond.lays "WeaversgateModel$Raised" "java/lang/Throwable" "detailMessage" "Ljava/lang/String;") ∈ lw_all := lw_g (lw_at lw_m10 198 rfl) rfl
theorem q2418 : (Jvm.Cond.lays "WeaversgateModel$Raised" "java/lang/Throwable" "backtrace" "Ljava/lang/Object;") ∈ lw_all := lw_g (lw_at lw_m10 199 rfl) rfl
theorem q2420 : (Jvm.Cond.instanceMethod ({ cls := "WeaversgateModel$Raised", name := "<init>", desc := "(I)V" } : Jvm.MethodName)) ∈ lw_all := lw_g (lw_at lw_m10 201 rfl) rfl
theorem q2421 : (Jvm.Cond.code ({ cls := "WeaversgateModel$Raised", name := "<init>", desc := "(I)V" } : Jvm.MethodName) prog_29_method_1_code (2 : Nat) (Option.none : Option Jvm.ClassFile.FieldType)) ∈ lw_all := lw_g (lw_at lw_m10 202 rfl) rfl
theorem q2422 : (Jvm.Cond.methodLink "WeaversgateModel$Raised" (1 : Nat) ({ cls := "java/lang/Exception", name := "<init>", desc := "()V" } : Jvm.MethodName)) ∈ lw_all := lw_g (lw_at lw_m10 203 rfl) rfl
theorem q2423 : (Jvm.Cond.fieldLink "WeaversgateModel$Raised" (7 : Nat) "WeaversgateModel$Raised" "number" "I") ∈ lw_all := lw_g (lw_at lw_m10 204 rfl) rfl
theorem q2425 : (Jvm.Cond.laysFinal "WeaversgateModel$Raised" "WeaversgateModel$Raised" "number" "I") ∈ lw_all := lw_g (lw_at lw_m10 206 rfl) rfl
theorem q2426 : (Jvm.Cond.soleField "WeaversgateModel$Raised" "number") ∈ lw_all := lw_g (lw_at lw_m10 207 rfl) rfl
theorem q2427 : (Jvm.Cond.lays "WeaversgateModel$Raised" "java/lang/Throwable" "depth" "I") ∈ lw_all := lw_g (lw_at lw_m10 208 rfl) rfl
theorem q2428 : (Jvm.Cond.superclass "WeaversgateModel$Raised" "java/lang/Exception") ∈ lw_all := lw_g (lw_at lw_m10 209 rfl) rfl
theorem q2639 : (Jvm.Cond.castable "WeaversgateModel$Raised" "java/lang/Object") ∈ lw_tbl := lw_at lw_m11 180 rfl
theorem in_X30 : ∀ w ∈ wsX300, w ∈ lw_all := lw_in wsX300 [2414, 2415, 2416, 2417, 2418, 2427, 2425] (by decide +kernel) (by decide +kernel)

/-! WeaversgateModel$Act -/
set_option maxRecDepth 100000
def RX31 : String := "WeaversgateModel$Act"
def TX31 : u_T := fun k => match k with
  | 0 => ("WeaversgateModel$Act", "kind", "C", true)
  | 1 => ("WeaversgateModel$Act", "number", "I", true)
  | _ => ("WeaversgateModel$Act", "advice", "I", true)
def tyX31 : Nat → FieldType := fun k => match k with
  | 0 => .char
  | 1 => .int
  | _ => .int
abbrev wsX310 : List Cond := u_ws RX31 TX31 3
theorem nmX31 : ∀ a, a < 3 → ∀ b, b < 3 → a ≠ b → (TX31 a).2.1 ≠ (TX31 b).2.1 := by decide +kernel
theorem tyX31_ok : ∀ k, k < 3 → parseFieldDescriptor (TX31 k).2.2.1 = some (tyX31 k) := by decide +kernel
abbrev cX31_equals : ByteArray := prog_25_method_4_code
def yX31_equals : MethodName := ⟨RX31, "equals", "(Ljava/lang/Object;)Z"⟩
def dkwX31_equals_0 : List UInt8 := [42, 43, 186, 0, 28, 0, 0, 172]
abbrev dktX31_equals_0 : List UInt8 := dkwX31_equals_0 ++ []
theorem dksX31_equals_0 : cX31_equals.data.toList.drop 0 = dktX31_equals_0 := by decide +kernel
theorem dX31_equals_0 : decode cX31_equals 0 = .ok (.aload_n 0, 1) := dk_42 (dk_at dksX31_equals_0 0 rfl rfl)
theorem dX31_equals_1 : decode cX31_equals 1 = .ok (.aload_n 1, 1) := dk_43 (dk_at dksX31_equals_0 1 rfl rfl)
theorem dX31_equals_2 : decode cX31_equals 2 = .ok (.invokedynamic 28, 5) := by decide +kernel
theorem dX31_equals_7 : decode cX31_equals 7 = .ok (.ireturn, 1) := dk_172 (dk_at dksX31_equals_0 7 rfl rfl)
abbrev cX31_init : ByteArray := prog_25_method_1_code
def yX31_init : MethodName := ⟨RX31, "<init>", "(CII)V"⟩
def dkwX31_init_0 : List UInt8 := [42, 183, 0, 1, 42, 27, 181, 0, 7, 42, 28, 181, 0, 13, 42, 29, 181, 0, 17, 177]
abbrev dktX31_init_0 : List UInt8 := dkwX31_init_0 ++ []
theorem dksX31_init_0 : cX31_init.data.toList.drop 0 = dktX31_init_0 := by decide +kernel
theorem dX31_init_0 : decode cX31_init 0 = .ok (.aload_n 0, 1) := dk_42 (dk_at dksX31_init_0 0 rfl rfl)
theorem dX31_init_1 : decode cX31_init 1 = .ok (.invokespecial 1, 3) := dk_183 0 1 (dk_at dksX31_init_0 1 rfl rfl)
theorem dX31_init_4 : decode cX31_init 4 = .ok (.aload_n 0, 1) := dk_42 (dk_at dksX31_init_0 4 rfl rfl)
theorem dX31_init_5 : decode cX31_init 5 = .ok (.iload_n 1, 1) := dk_27 (dk_at dksX31_init_0 5 rfl rfl)
theorem dX31_init_6 : decode cX31_init 6 = .ok (.putfield 7, 3) := dk_181 0 7 (dk_at dksX31_init_0 6 rfl rfl)
theorem dX31_init_9 : decode cX31_init 9 = .ok (.aload_n 0, 1) := dk_42 (dk_at dksX31_init_0 9 rfl rfl)
theorem dX31_init_10 : decode cX31_init 10 = .ok (.iload_n 2, 1) := dk_28 (dk_at dksX31_init_0 10 rfl rfl)
theorem dX31_init_11 : decode cX31_init 11 = .ok (.putfield 13, 3) := dk_181 0 13 (dk_at dksX31_init_0 11 rfl rfl)
theorem dX31_init_14 : decode cX31_init 14 = .ok (.aload_n 0, 1) := dk_42 (dk_at dksX31_init_0 14 rfl rfl)
theorem dX31_init_15 : decode cX31_init 15 = .ok (.iload_n 3, 1) := dk_29 (dk_at dksX31_init_0 15 rfl rfl)
theorem dX31_init_16 : decode cX31_init 16 = .ok (.putfield 17, 3) := dk_181 0 17 (dk_at dksX31_init_0 16 rfl rfl)
theorem dX31_init_19 : decode cX31_init 19 = .ok (.return_, 1) := dk_177 (dk_at dksX31_init_0 19 rfl rfl)
abbrev cX31_kind : ByteArray := prog_25_method_5_code
def yX31_kind : MethodName := ⟨RX31, "kind", "()C"⟩
theorem dX31_kind_0 : decode cX31_kind 0 = .ok (.aload_n 0, 1) := by decide +kernel
theorem dX31_kind_1 : decode cX31_kind 1 = .ok (.getfield 7, 3) := by decide +kernel
theorem dX31_kind_4 : decode cX31_kind 4 = .ok (.ireturn, 1) := by decide +kernel
abbrev cX31_number : ByteArray := prog_25_method_6_code
def yX31_number : MethodName := ⟨RX31, "number", "()I"⟩
theorem dX31_number_0 : decode cX31_number 0 = .ok (.aload_n 0, 1) := by decide +kernel
theorem dX31_number_1 : decode cX31_number 1 = .ok (.getfield 13, 3) := by decide +kernel
theorem dX31_number_4 : decode cX31_number 4 = .ok (.ireturn, 1) := by decide +kernel
abbrev cX31_advice : ByteArray := prog_25_method_7_code
def yX31_advice : MethodName := ⟨RX31, "advice", "()I"⟩
theorem dX31_advice_0 : decode cX31_advice 0 = .ok (.aload_n 0, 1) := by decide +kernel
theorem dX31_advice_1 : decode cX31_advice 1 = .ok (.getfield 17, 3) := by decide +kernel
theorem dX31_advice_4 : decode cX31_advice 4 = .ok (.ireturn, 1) := by decide +kernel
theorem q117 : (Jvm.Cond.initialized "WeaversgateModel$Act") ∈ lw_all := lw_g (lw_at lw_m1 58 rfl) rfl
theorem q795 : (Jvm.Cond.selects "WeaversgateModel$Act" ({ cls := "java/lang/Object", name := "getClass", desc := "()Ljava/lang/Class;" } : Jvm.MethodName) ({ cls := "java/lang/Object", name := "getClass", desc := "()Ljava/lang/Class;" } : Jvm.MethodName)) ∈ lw_all := lw_g (lw_at lw_m4 16 rfl) rfl
theorem q2054 : (Jvm.Cond.selects "WeaversgateModel$Act" ({ cls := "java/lang/Object", name := "equals", desc := "(Ljava/lang/Object;)Z" } : Jvm.MethodName) ({ cls := "WeaversgateModel$Act", name := "equals", desc := "(Ljava/lang/Object;)Z" } : Jvm.MethodName)) ∈ lw_all := lw_g (lw_at lw_m9 75 rfl) rfl
theorem q2055 : (Jvm.Cond.instanceMethod ({ cls := "WeaversgateModel$Act", name := "equals", desc := "(Ljava/lang/Object;)Z" } : Jvm.MethodName)) ∈ lw_all := lw_g (lw_at lw_m9 76 rfl) rfl
theorem q2056 : (Jvm.Cond.code ({ cls := "WeaversgateModel$Act", name := "equals", desc := "(Ljava/lang/Object;)Z" } : Jvm.MethodName) prog_25_method_4_code (2 : Nat) (Option.some Jvm.ClassFile.FieldType.boolean)) ∈ lw_all := lw_g (lw_at lw_m9 77 rfl) rfl
theorem q2452 : (Jvm.Cond.instantiable "WeaversgateModel$Act" (3 : Nat)) ∈ lw_all := lw_g (lw_at lw_m10 233 rfl) rfl
theorem q2454 : (Jvm.Cond.instanceMethod ({ cls := "WeaversgateModel$Act", name := "<init>", desc := "(CII)V" } : Jvm.MethodName)) ∈ lw_all := lw_g (lw_at lw_m10 235 rfl) rfl
theorem q2455 : (Jvm.Cond.code ({ cls := "WeaversgateModel$Act", name := "<init>", desc := "(CII)V" } : Jvm.MethodName) prog_25_method_1_code (4 : Nat) (Option.none : Option Jvm.ClassFile.FieldType)) ∈ lw_all := lw_g (lw_at lw_m10 236 rfl) rfl
theorem q2456 : (Jvm.Cond.methodLink "WeaversgateModel$Act" (1 : Nat) ({ cls := "java/lang/Record", name := "<init>", desc := "()V" } : Jvm.MethodName)) ∈ lw_all := lw_g (lw_at lw_m10 237 rfl) rfl
theorem q2457 : (Jvm.Cond.fieldLink "WeaversgateModel$Act" (7 : Nat) "WeaversgateModel$Act" "kind" "C") ∈ lw_all := lw_g (lw_at lw_m10 238 rfl) rfl
theorem q2458 : (Jvm.Cond.fieldLink "WeaversgateModel$Act" (13 : Nat) "WeaversgateModel$Act" "number" "I") ∈ lw_all := lw_g (lw_at lw_m10 239 rfl) rfl
theorem q2459 : (Jvm.Cond.fieldLink "WeaversgateModel$Act" (17 : Nat) "WeaversgateModel$Act" "advice" "I") ∈ lw_all := lw_g (lw_at lw_m11 0 rfl) rfl
theorem q2460 : (Jvm.Cond.laysFinal "WeaversgateModel$Act" "WeaversgateModel$Act" "kind" "C") ∈ lw_all := lw_g (lw_at lw_m11 1 rfl) rfl
theorem q2461 : (Jvm.Cond.soleField "WeaversgateModel$Act" "kind") ∈ lw_all := lw_g (lw_at lw_m11 2 rfl) rfl
theorem q2462 : (Jvm.Cond.laysFinal "WeaversgateModel$Act" "WeaversgateModel$Act" "number" "I") ∈ lw_all := lw_g (lw_at lw_m11 3 rfl) rfl
theorem q2463 : (Jvm.Cond.soleField "WeaversgateModel$Act" "number") ∈ lw_all := lw_g (lw_at lw_m11 4 rfl) rfl
theorem q2464 : (Jvm.Cond.laysFinal "WeaversgateModel$Act" "WeaversgateModel$Act" "advice" "I") ∈ lw_all := lw_g (lw_at lw_m11 5 rfl) rfl
theorem q2465 : (Jvm.Cond.soleField "WeaversgateModel$Act" "advice") ∈ lw_all := lw_g (lw_at lw_m11 6 rfl) rfl
theorem q2466 : (Jvm.Cond.superclass "WeaversgateModel$Act" "java/lang/Record") ∈ lw_all := lw_g (lw_at lw_m11 7 rfl) rfl
theorem q2506 : (Jvm.Cond.instanceMethod ({ cls := "WeaversgateModel$Act", name := "kind", desc := "()C" } : Jvm.MethodName)) ∈ lw_all := lw_g (lw_at lw_m11 47 rfl) rfl
theorem q2507 : (Jvm.Cond.selects "WeaversgateModel$Act" ({ cls := "WeaversgateModel$Act", name := "kind", desc := "()C" } : Jvm.MethodName) ({ cls := "WeaversgateModel$Act", name := "kind", desc := "()C" } : Jvm.MethodName)) ∈ lw_all := lw_g (lw_at lw_m11 48 rfl) rfl
theorem q2508 : (Jvm.Cond.code ({ cls := "WeaversgateModel$Act", name := "kind", desc := "()C" } : Jvm.MethodName) prog_25_method_5_code (1 : Nat) (Option.some Jvm.ClassFile.FieldType.char)) ∈ lw_all := lw_g (lw_at lw_m11 49 rfl) rfl
theorem q2514 : (Jvm.Cond.instanceMethod ({ cls := "WeaversgateModel$Act", name := "number", desc := "()I" } : Jvm.MethodName)) ∈ lw_all := lw_g (lw_at lw_m11 55 rfl) rfl
theorem q2515 : (Jvm.Cond.selects "WeaversgateModel$Act" ({ cls := "WeaversgateModel$Act", name := "number", desc := "()I" } : Jvm.MethodName) ({ cls := "WeaversgateModel$Act", name := "number", desc := "()I" } : Jvm.MethodName)) ∈ lw_all := lw_g (lw_at lw_m11 56 rfl) rfl
theorem q2516 : (Jvm.Cond.code ({ cls := "WeaversgateModel$Act", name := "number", desc := "()I" } : Jvm.MethodName) prog_25_method_6_code (1 : Nat) (Option.some Jvm.ClassFile.FieldType.int)) ∈ lw_all := lw_g (lw_at lw_m11 57 rfl) rfl
theorem q2522 : (Jvm.Cond.instanceMethod ({ cls := "WeaversgateModel$Act", name := "advice", desc := "()I" } : Jvm.MethodName)) ∈ lw_all := lw_g (lw_at lw_m11 63 rfl) rfl
theorem q2523 : (Jvm.Cond.selects "WeaversgateModel$Act" ({ cls := "WeaversgateModel$Act", name := "advice", desc := "()I" } : Jvm.MethodName) ({ cls := "WeaversgateModel$Act", name := "advice", desc := "()I" } : Jvm.MethodName)) ∈ lw_all := lw_g (lw_at lw_m11 64 rfl) rfl
theorem q2524 : (Jvm.Cond.code ({ cls := "WeaversgateModel$Act", name := "advice", desc := "()I" } : Jvm.MethodName) prog_25_method_7_code (1 : Nat) (Option.some Jvm.ClassFile.FieldType.int)) ∈ lw_all := lw_g (lw_at lw_m11 65 rfl) rfl
theorem q2640 : (Jvm.Cond.castable "WeaversgateModel$Act" "java/lang/Object") ∈ lw_tbl := lw_at lw_m11 181 rfl
theorem in_X31 : ∀ w ∈ wsX310, w ∈ lw_all := lw_in wsX310 [2460, 2462, 2464] (by decide +kernel) (by decide +kernel)
