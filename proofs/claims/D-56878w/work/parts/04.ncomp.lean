/-! Weaversgate -/
set_option maxRecDepth 100000
def RX1 : String := "Weaversgate"
def TX1 : u_T := fun k => match k with
  | 0 => ("Weaversgate", "types", "Ljava/util/ArrayList;", true)
  | 1 => ("Weaversgate", "patterns", "Ljava/util/ArrayList;", true)
  | 2 => ("Weaversgate", "advices", "Ljava/util/ArrayList;", true)
  | 3 => ("Weaversgate", "ahead", "[[Z", true)
  | 4 => ("Weaversgate", "last", "LWeaversgate$Run;", true)
  | 5 => ("Weaversgate", "one", "LWeaversgate$Run;", true)
  | _ => ("Weaversgate", "two", "LWeaversgate$Run;", true)
def tyX1 : Nat → FieldType := fun k => match k with
  | 0 => .object "java/util/ArrayList"
  | 1 => .object "java/util/ArrayList"
  | 2 => .object "java/util/ArrayList"
  | 3 => .array (.array .boolean)
  | 4 => .object "Weaversgate$Run"
  | 5 => .object "Weaversgate$Run"
  | _ => .object "Weaversgate$Run"
abbrev wsX10 : List Cond := u_ws RX1 TX1 7
theorem nmX1 : ∀ a, a < 7 → ∀ b, b < 7 → a ≠ b → (TX1 a).2.1 ≠ (TX1 b).2.1 := by decide +kernel
theorem tyX1_ok : ∀ k, k < 7 → parseFieldDescriptor (TX1 k).2.2.1 = some (tyX1 k) := by decide +kernel
abbrev cX1_init : ByteArray := prog_1_method_3_code
def yX1_init : MethodName := ⟨RX1, "<init>", "()V"⟩
def dkwX1_init_3 : List UInt8 := [42, 187, 0, 37, 89, 42, 183, 0, 39, 181, 0, 49, 177]
abbrev dktX1_init_3 : List UInt8 := dkwX1_init_3 ++ []
def dkwX1_init_2 : List UInt8 := [42, 187, 0, 37, 89, 42, 183, 0, 39, 181, 0, 42, 42, 187, 0, 37, 89, 42, 183, 0, 39, 181, 0, 46]
abbrev dktX1_init_2 : List UInt8 := dkwX1_init_2 ++ dktX1_init_3
def dkwX1_init_1 : List UInt8 := [181, 0, 26, 42, 187, 0, 17, 89, 183, 0, 19, 181, 0, 29, 42, 7, 7, 197, 0, 32, 2, 181, 0, 34]
abbrev dktX1_init_1 : List UInt8 := dkwX1_init_1 ++ dktX1_init_2
def dkwX1_init_0 : List UInt8 := [42, 183, 0, 11, 42, 187, 0, 17, 89, 183, 0, 19, 181, 0, 20, 42, 187, 0, 17, 89, 183, 0, 19]
abbrev dktX1_init_0 : List UInt8 := dkwX1_init_0 ++ dktX1_init_1
theorem dksX1_init_0 : cX1_init.data.toList.drop 0 = dktX1_init_0 := by decide +kernel
theorem dksX1_init_1 : cX1_init.data.toList.drop 23 = dktX1_init_1 := dk_seg dksX1_init_0 23 rfl rfl
theorem dksX1_init_2 : cX1_init.data.toList.drop 47 = dktX1_init_2 := dk_seg dksX1_init_1 24 rfl rfl
theorem dksX1_init_3 : cX1_init.data.toList.drop 71 = dktX1_init_3 := dk_seg dksX1_init_2 24 rfl rfl
theorem dX1_init_0 : decode cX1_init 0 = .ok (.aload_n 0, 1) := dk_42 (dk_at dksX1_init_0 0 rfl rfl)
theorem dX1_init_1 : decode cX1_init 1 = .ok (.invokespecial 11, 3) := dk_183 0 11 (dk_at dksX1_init_0 1 rfl rfl)
theorem dX1_init_4 : decode cX1_init 4 = .ok (.aload_n 0, 1) := dk_42 (dk_at dksX1_init_0 4 rfl rfl)
theorem dX1_init_5 : decode cX1_init 5 = .ok (.new 17, 3) := dk_187 0 17 (dk_at dksX1_init_0 5 rfl rfl)
theorem dX1_init_8 : decode cX1_init 8 = .ok (.dup, 1) := dk_89 (dk_at dksX1_init_0 8 rfl rfl)
theorem dX1_init_9 : decode cX1_init 9 = .ok (.invokespecial 19, 3) := dk_183 0 19 (dk_at dksX1_init_0 9 rfl rfl)
theorem dX1_init_12 : decode cX1_init 12 = .ok (.putfield 20, 3) := dk_181 0 20 (dk_at dksX1_init_0 12 rfl rfl)
theorem dX1_init_15 : decode cX1_init 15 = .ok (.aload_n 0, 1) := dk_42 (dk_at dksX1_init_0 15 rfl rfl)
theorem dX1_init_16 : decode cX1_init 16 = .ok (.new 17, 3) := dk_187 0 17 (dk_at dksX1_init_0 16 rfl rfl)
theorem dX1_init_19 : decode cX1_init 19 = .ok (.dup, 1) := dk_89 (dk_at dksX1_init_0 19 rfl rfl)
theorem dX1_init_20 : decode cX1_init 20 = .ok (.invokespecial 19, 3) := dk_183 0 19 (dk_at dksX1_init_0 20 rfl rfl)
theorem dX1_init_23 : decode cX1_init 23 = .ok (.putfield 26, 3) := dk_181 0 26 (dk_at dksX1_init_1 0 rfl rfl)
theorem dX1_init_26 : decode cX1_init 26 = .ok (.aload_n 0, 1) := dk_42 (dk_at dksX1_init_1 3 rfl rfl)
theorem dX1_init_27 : decode cX1_init 27 = .ok (.new 17, 3) := dk_187 0 17 (dk_at dksX1_init_1 4 rfl rfl)
theorem dX1_init_30 : decode cX1_init 30 = .ok (.dup, 1) := dk_89 (dk_at dksX1_init_1 7 rfl rfl)
theorem dX1_init_31 : decode cX1_init 31 = .ok (.invokespecial 19, 3) := dk_183 0 19 (dk_at dksX1_init_1 8 rfl rfl)
theorem dX1_init_34 : decode cX1_init 34 = .ok (.putfield 29, 3) := dk_181 0 29 (dk_at dksX1_init_1 11 rfl rfl)
theorem dX1_init_37 : decode cX1_init 37 = .ok (.aload_n 0, 1) := dk_42 (dk_at dksX1_init_1 14 rfl rfl)
theorem dX1_init_38 : decode cX1_init 38 = .ok (.iconst 4, 1) := dk_7 (dk_at dksX1_init_1 15 rfl rfl)
theorem dX1_init_39 : decode cX1_init 39 = .ok (.iconst 4, 1) := dk_7 (dk_at dksX1_init_1 16 rfl rfl)
theorem dX1_init_40 : decode cX1_init 40 = .ok (.multianewarray 32 2, 4) := by decide +kernel
theorem dX1_init_44 : decode cX1_init 44 = .ok (.putfield 34, 3) := dk_181 0 34 (dk_at dksX1_init_1 21 rfl rfl)
theorem dX1_init_47 : decode cX1_init 47 = .ok (.aload_n 0, 1) := dk_42 (dk_at dksX1_init_2 0 rfl rfl)
theorem dX1_init_48 : decode cX1_init 48 = .ok (.new 37, 3) := dk_187 0 37 (dk_at dksX1_init_2 1 rfl rfl)
theorem dX1_init_51 : decode cX1_init 51 = .ok (.dup, 1) := dk_89 (dk_at dksX1_init_2 4 rfl rfl)
theorem dX1_init_52 : decode cX1_init 52 = .ok (.aload_n 0, 1) := dk_42 (dk_at dksX1_init_2 5 rfl rfl)
theorem dX1_init_53 : decode cX1_init 53 = .ok (.invokespecial 39, 3) := dk_183 0 39 (dk_at dksX1_init_2 6 rfl rfl)
theorem dX1_init_56 : decode cX1_init 56 = .ok (.putfield 42, 3) := dk_181 0 42 (dk_at dksX1_init_2 9 rfl rfl)
theorem dX1_init_59 : decode cX1_init 59 = .ok (.aload_n 0, 1) := dk_42 (dk_at dksX1_init_2 12 rfl rfl)
theorem dX1_init_60 : decode cX1_init 60 = .ok (.new 37, 3) := dk_187 0 37 (dk_at dksX1_init_2 13 rfl rfl)
theorem dX1_init_63 : decode cX1_init 63 = .ok (.dup, 1) := dk_89 (dk_at dksX1_init_2 16 rfl rfl)
theorem dX1_init_64 : decode cX1_init 64 = .ok (.aload_n 0, 1) := dk_42 (dk_at dksX1_init_2 17 rfl rfl)
theorem dX1_init_65 : decode cX1_init 65 = .ok (.invokespecial 39, 3) := dk_183 0 39 (dk_at dksX1_init_2 18 rfl rfl)
theorem dX1_init_68 : decode cX1_init 68 = .ok (.putfield 46, 3) := dk_181 0 46 (dk_at dksX1_init_2 21 rfl rfl)
theorem dX1_init_71 : decode cX1_init 71 = .ok (.aload_n 0, 1) := dk_42 (dk_at dksX1_init_3 0 rfl rfl)
theorem dX1_init_72 : decode cX1_init 72 = .ok (.new 37, 3) := dk_187 0 37 (dk_at dksX1_init_3 1 rfl rfl)
theorem dX1_init_75 : decode cX1_init 75 = .ok (.dup, 1) := dk_89 (dk_at dksX1_init_3 4 rfl rfl)
theorem dX1_init_76 : decode cX1_init 76 = .ok (.aload_n 0, 1) := dk_42 (dk_at dksX1_init_3 5 rfl rfl)
theorem dX1_init_77 : decode cX1_init 77 = .ok (.invokespecial 39, 3) := dk_183 0 39 (dk_at dksX1_init_3 6 rfl rfl)
theorem dX1_init_80 : decode cX1_init 80 = .ok (.putfield 49, 3) := dk_181 0 49 (dk_at dksX1_init_3 9 rfl rfl)
theorem dX1_init_83 : decode cX1_init 83 = .ok (.return_, 1) := dk_177 (dk_at dksX1_init_3 12 rfl rfl)
abbrev cX1_isRing : ByteArray := prog_1_method_33_code
def yX1_isRing : MethodName := ⟨RX1, "isRing", "()Z"⟩
theorem dX1_isRing_0 : decode cX1_isRing 0 = .ok (.aload_n 0, 1) := by decide +kernel
theorem dX1_isRing_1 : decode cX1_isRing 1 = .ok (.invokevirtual 252, 3) := by decide +kernel
theorem dX1_isRing_4 : decode cX1_isRing 4 = .ok (.ireturn, 1) := by decide +kernel
abbrev cX1_hasRing : ByteArray := prog_1_method_19_code
def yX1_hasRing : MethodName := ⟨RX1, "hasRing", "()Z"⟩
def dkwX1_hasRing_0 : List UInt8 := [42, 6, 182, 0, 165, 2, 160, 0, 7, 4, 167, 0, 4, 3, 172]
abbrev dktX1_hasRing_0 : List UInt8 := dkwX1_hasRing_0 ++ []
theorem dksX1_hasRing_0 : cX1_hasRing.data.toList.drop 0 = dktX1_hasRing_0 := by decide +kernel
theorem dX1_hasRing_0 : decode cX1_hasRing 0 = .ok (.aload_n 0, 1) := dk_42 (dk_at dksX1_hasRing_0 0 rfl rfl)
theorem dX1_hasRing_1 : decode cX1_hasRing 1 = .ok (.iconst 3, 1) := dk_6 (dk_at dksX1_hasRing_0 1 rfl rfl)
theorem dX1_hasRing_2 : decode cX1_hasRing 2 = .ok (.invokevirtual 165, 3) := dk_182 0 165 (dk_at dksX1_hasRing_0 2 rfl rfl)
theorem dX1_hasRing_5 : decode cX1_hasRing 5 = .ok (.iconst (-1), 1) := dk_2 (dk_at dksX1_hasRing_0 5 rfl rfl)
theorem dX1_hasRing_6 : decode cX1_hasRing 6 = .ok (.if_icmp .ne 7, 3) := dk_160 0 7 (dk_at dksX1_hasRing_0 6 rfl rfl)
theorem dX1_hasRing_9 : decode cX1_hasRing 9 = .ok (.iconst 1, 1) := dk_4 (dk_at dksX1_hasRing_0 9 rfl rfl)
theorem dX1_hasRing_10 : decode cX1_hasRing 10 = .ok (.goto 4, 3) := dk_167 0 4 (dk_at dksX1_hasRing_0 10 rfl rfl)
theorem dX1_hasRing_13 : decode cX1_hasRing 13 = .ok (.iconst 0, 1) := dk_3 (dk_at dksX1_hasRing_0 13 rfl rfl)
theorem dX1_hasRing_14 : decode cX1_hasRing 14 = .ok (.ireturn, 1) := dk_172 (dk_at dksX1_hasRing_0 14 rfl rfl)
abbrev cX1_aspectOf : ByteArray := prog_1_method_18_code
def yX1_aspectOf : MethodName := ⟨RX1, "aspectOf", "(I)I"⟩
def dkwX1_aspectOf_5 : List UInt8 := [132, 4, 1, 167, 255, 149, 29, 172]
abbrev dktX1_aspectOf_5 : List UInt8 := dkwX1_aspectOf_5 ++ []
def dkwX1_aspectOf_4 : List UInt8 := [167, 0, 4, 29, 62, 132, 5, 255, 167, 255, 177, 29, 2, 160, 0, 5, 2, 172, 44, 29, 4, 84]
abbrev dktX1_aspectOf_4 : List UInt8 := dkwX1_aspectOf_4 ++ dktX1_aspectOf_5
def dkwX1_aspectOf_3 : List UInt8 := [154, 0, 7, 4, 167, 0, 4, 3, 126, 54, 6, 132, 7, 1, 167, 255, 217, 21, 6, 153, 0, 8, 21, 5]
abbrev dktX1_aspectOf_3 : List UInt8 := dkwX1_aspectOf_3 ++ dktX1_aspectOf_4
def dkwX1_aspectOf_2 : List UInt8 := [162, 0, 39, 21, 6, 44, 21, 7, 51, 154, 0, 16, 42, 180, 0, 34, 21, 7, 50, 21, 5, 51]
abbrev dktX1_aspectOf_2 : List UInt8 := dkwX1_aspectOf_2 ++ dktX1_aspectOf_3
def dkwX1_aspectOf_1 : List UInt8 := [155, 0, 80, 44, 21, 5, 51, 154, 0, 7, 4, 167, 0, 4, 3, 54, 6, 3, 54, 7, 21, 7, 7]
abbrev dktX1_aspectOf_1 : List UInt8 := dkwX1_aspectOf_1 ++ dktX1_aspectOf_2
def dkwX1_aspectOf_0 : List UInt8 := [7, 188, 4, 77, 2, 62, 3, 54, 4, 21, 4, 27, 163, 0, 107, 2, 62, 6, 54, 5, 21, 5]
abbrev dktX1_aspectOf_0 : List UInt8 := dkwX1_aspectOf_0 ++ dktX1_aspectOf_1
theorem dksX1_aspectOf_0 : cX1_aspectOf.data.toList.drop 0 = dktX1_aspectOf_0 := by decide +kernel
theorem dksX1_aspectOf_1 : cX1_aspectOf.data.toList.drop 22 = dktX1_aspectOf_1 := dk_seg dksX1_aspectOf_0 22 rfl rfl
theorem dksX1_aspectOf_2 : cX1_aspectOf.data.toList.drop 45 = dktX1_aspectOf_2 := dk_seg dksX1_aspectOf_1 23 rfl rfl
theorem dksX1_aspectOf_3 : cX1_aspectOf.data.toList.drop 67 = dktX1_aspectOf_3 := dk_seg dksX1_aspectOf_2 22 rfl rfl
theorem dksX1_aspectOf_4 : cX1_aspectOf.data.toList.drop 91 = dktX1_aspectOf_4 := dk_seg dksX1_aspectOf_3 24 rfl rfl
theorem dksX1_aspectOf_5 : cX1_aspectOf.data.toList.drop 113 = dktX1_aspectOf_5 := dk_seg dksX1_aspectOf_4 22 rfl rfl
theorem dX1_aspectOf_0 : decode cX1_aspectOf 0 = .ok (.iconst 4, 1) := dk_7 (dk_at dksX1_aspectOf_0 0 rfl rfl)
theorem dX1_aspectOf_1 : decode cX1_aspectOf 1 = .ok (.newarray .boolean, 2) := dk_188_4 (dk_at dksX1_aspectOf_0 1 rfl rfl)
theorem dX1_aspectOf_3 : decode cX1_aspectOf 3 = .ok (.astore_n 2, 1) := dk_77 (dk_at dksX1_aspectOf_0 3 rfl rfl)
theorem dX1_aspectOf_4 : decode cX1_aspectOf 4 = .ok (.iconst (-1), 1) := dk_2 (dk_at dksX1_aspectOf_0 4 rfl rfl)
theorem dX1_aspectOf_5 : decode cX1_aspectOf 5 = .ok (.istore_n 3, 1) := dk_62 (dk_at dksX1_aspectOf_0 5 rfl rfl)
theorem dX1_aspectOf_6 : decode cX1_aspectOf 6 = .ok (.iconst 0, 1) := dk_3 (dk_at dksX1_aspectOf_0 6 rfl rfl)
theorem dX1_aspectOf_7 : decode cX1_aspectOf 7 = .ok (.istore 4, 2) := dk_54 4 (dk_at dksX1_aspectOf_0 7 rfl rfl)
theorem dX1_aspectOf_9 : decode cX1_aspectOf 9 = .ok (.iload 4, 2) := dk_21 4 (dk_at dksX1_aspectOf_0 9 rfl rfl)
theorem dX1_aspectOf_11 : decode cX1_aspectOf 11 = .ok (.iload_n 1, 1) := dk_27 (dk_at dksX1_aspectOf_0 11 rfl rfl)
theorem dX1_aspectOf_12 : decode cX1_aspectOf 12 = .ok (.if_icmp .gt 107, 3) := dk_163 0 107 (dk_at dksX1_aspectOf_0 12 rfl rfl)
theorem dX1_aspectOf_15 : decode cX1_aspectOf 15 = .ok (.iconst (-1), 1) := dk_2 (dk_at dksX1_aspectOf_0 15 rfl rfl)
theorem dX1_aspectOf_16 : decode cX1_aspectOf 16 = .ok (.istore_n 3, 1) := dk_62 (dk_at dksX1_aspectOf_0 16 rfl rfl)
theorem dX1_aspectOf_17 : decode cX1_aspectOf 17 = .ok (.iconst 3, 1) := dk_6 (dk_at dksX1_aspectOf_0 17 rfl rfl)
theorem dX1_aspectOf_18 : decode cX1_aspectOf 18 = .ok (.istore 5, 2) := dk_54 5 (dk_at dksX1_aspectOf_0 18 rfl rfl)
theorem dX1_aspectOf_20 : decode cX1_aspectOf 20 = .ok (.iload 5, 2) := dk_21 5 (dk_at dksX1_aspectOf_0 20 rfl rfl)
theorem dX1_aspectOf_22 : decode cX1_aspectOf 22 = .ok (.ifCond .lt 80, 3) := dk_155 0 80 (dk_at dksX1_aspectOf_1 0 rfl rfl)
theorem dX1_aspectOf_25 : decode cX1_aspectOf 25 = .ok (.aload_n 2, 1) := dk_44 (dk_at dksX1_aspectOf_1 3 rfl rfl)
theorem dX1_aspectOf_26 : decode cX1_aspectOf 26 = .ok (.iload 5, 2) := dk_21 5 (dk_at dksX1_aspectOf_1 4 rfl rfl)
theorem dX1_aspectOf_28 : decode cX1_aspectOf 28 = .ok (.baload, 1) := dk_51 (dk_at dksX1_aspectOf_1 6 rfl rfl)
theorem dX1_aspectOf_29 : decode cX1_aspectOf 29 = .ok (.ifCond .ne 7, 3) := dk_154 0 7 (dk_at dksX1_aspectOf_1 7 rfl rfl)
theorem dX1_aspectOf_32 : decode cX1_aspectOf 32 = .ok (.iconst 1, 1) := dk_4 (dk_at dksX1_aspectOf_1 10 rfl rfl)
theorem dX1_aspectOf_33 : decode cX1_aspectOf 33 = .ok (.goto 4, 3) := dk_167 0 4 (dk_at dksX1_aspectOf_1 11 rfl rfl)
theorem dX1_aspectOf_36 : decode cX1_aspectOf 36 = .ok (.iconst 0, 1) := dk_3 (dk_at dksX1_aspectOf_1 14 rfl rfl)
theorem dX1_aspectOf_37 : decode cX1_aspectOf 37 = .ok (.istore 6, 2) := dk_54 6 (dk_at dksX1_aspectOf_1 15 rfl rfl)
theorem dX1_aspectOf_39 : decode cX1_aspectOf 39 = .ok (.iconst 0, 1) := dk_3 (dk_at dksX1_aspectOf_1 17 rfl rfl)
theorem dX1_aspectOf_40 : decode cX1_aspectOf 40 = .ok (.istore 7, 2) := dk_54 7 (dk_at dksX1_aspectOf_1 18 rfl rfl)
theorem dX1_aspectOf_42 : decode cX1_aspectOf 42 = .ok (.iload 7, 2) := dk_21 7 (dk_at dksX1_aspectOf_1 20 rfl rfl)
theorem dX1_aspectOf_44 : decode cX1_aspectOf 44 = .ok (.iconst 4, 1) := dk_7 (dk_at dksX1_aspectOf_1 22 rfl rfl)
theorem dX1_aspectOf_45 : decode cX1_aspectOf 45 = .ok (.if_icmp .ge 39, 3) := dk_162 0 39 (dk_at dksX1_aspectOf_2 0 rfl rfl)
theorem dX1_aspectOf_48 : decode cX1_aspectOf 48 = .ok (.iload 6, 2) := dk_21 6 (dk_at dksX1_aspectOf_2 3 rfl rfl)
theorem dX1_aspectOf_50 : decode cX1_aspectOf 50 = .ok (.aload_n 2, 1) := dk_44 (dk_at dksX1_aspectOf_2 5 rfl rfl)
theorem dX1_aspectOf_51 : decode cX1_aspectOf 51 = .ok (.iload 7, 2) := dk_21 7 (dk_at dksX1_aspectOf_2 6 rfl rfl)
theorem dX1_aspectOf_53 : decode cX1_aspectOf 53 = .ok (.baload, 1) := dk_51 (dk_at dksX1_aspectOf_2 8 rfl rfl)
theorem dX1_aspectOf_54 : decode cX1_aspectOf 54 = .ok (.ifCond .ne 16, 3) := dk_154 0 16 (dk_at dksX1_aspectOf_2 9 rfl rfl)
theorem dX1_aspectOf_57 : decode cX1_aspectOf 57 = .ok (.aload_n 0, 1) := dk_42 (dk_at dksX1_aspectOf_2 12 rfl rfl)
theorem dX1_aspectOf_58 : decode cX1_aspectOf 58 = .ok (.getfield 34, 3) := dk_180 0 34 (dk_at dksX1_aspectOf_2 13 rfl rfl)
theorem dX1_aspectOf_61 : decode cX1_aspectOf 61 = .ok (.iload 7, 2) := dk_21 7 (dk_at dksX1_aspectOf_2 16 rfl rfl)
theorem dX1_aspectOf_63 : decode cX1_aspectOf 63 = .ok (.aaload, 1) := dk_50 (dk_at dksX1_aspectOf_2 18 rfl rfl)
theorem dX1_aspectOf_64 : decode cX1_aspectOf 64 = .ok (.iload 5, 2) := dk_21 5 (dk_at dksX1_aspectOf_2 19 rfl rfl)
theorem dX1_aspectOf_66 : decode cX1_aspectOf 66 = .ok (.baload, 1) := dk_51 (dk_at dksX1_aspectOf_2 21 rfl rfl)
theorem dX1_aspectOf_67 : decode cX1_aspectOf 67 = .ok (.ifCond .ne 7, 3) := dk_154 0 7 (dk_at dksX1_aspectOf_3 0 rfl rfl)
theorem dX1_aspectOf_70 : decode cX1_aspectOf 70 = .ok (.iconst 1, 1) := dk_4 (dk_at dksX1_aspectOf_3 3 rfl rfl)
theorem dX1_aspectOf_71 : decode cX1_aspectOf 71 = .ok (.goto 4, 3) := dk_167 0 4 (dk_at dksX1_aspectOf_3 4 rfl rfl)
theorem dX1_aspectOf_74 : decode cX1_aspectOf 74 = .ok (.iconst 0, 1) := dk_3 (dk_at dksX1_aspectOf_3 7 rfl rfl)
theorem dX1_aspectOf_75 : decode cX1_aspectOf 75 = .ok (.iand, 1) := dk_126 (dk_at dksX1_aspectOf_3 8 rfl rfl)
theorem dX1_aspectOf_76 : decode cX1_aspectOf 76 = .ok (.istore 6, 2) := dk_54 6 (dk_at dksX1_aspectOf_3 9 rfl rfl)
theorem dX1_aspectOf_78 : decode cX1_aspectOf 78 = .ok (.iinc 7 1, 3) := dk_132 7 1 (dk_at dksX1_aspectOf_3 11 rfl rfl)
theorem dX1_aspectOf_81 : decode cX1_aspectOf 81 = .ok (.goto (-39), 3) := dk_167 255 217 (dk_at dksX1_aspectOf_3 14 rfl rfl)
theorem dX1_aspectOf_84 : decode cX1_aspectOf 84 = .ok (.iload 6, 2) := dk_21 6 (dk_at dksX1_aspectOf_3 17 rfl rfl)
theorem dX1_aspectOf_86 : decode cX1_aspectOf 86 = .ok (.ifCond .eq 8, 3) := dk_153 0 8 (dk_at dksX1_aspectOf_3 19 rfl rfl)
theorem dX1_aspectOf_89 : decode cX1_aspectOf 89 = .ok (.iload 5, 2) := dk_21 5 (dk_at dksX1_aspectOf_3 22 rfl rfl)
theorem dX1_aspectOf_91 : decode cX1_aspectOf 91 = .ok (.goto 4, 3) := dk_167 0 4 (dk_at dksX1_aspectOf_4 0 rfl rfl)
theorem dX1_aspectOf_94 : decode cX1_aspectOf 94 = .ok (.iload_n 3, 1) := dk_29 (dk_at dksX1_aspectOf_4 3 rfl rfl)
theorem dX1_aspectOf_95 : decode cX1_aspectOf 95 = .ok (.istore_n 3, 1) := dk_62 (dk_at dksX1_aspectOf_4 4 rfl rfl)
theorem dX1_aspectOf_96 : decode cX1_aspectOf 96 = .ok (.iinc 5 (-1), 3) := dk_132 5 255 (dk_at dksX1_aspectOf_4 5 rfl rfl)
theorem dX1_aspectOf_99 : decode cX1_aspectOf 99 = .ok (.goto (-79), 3) := dk_167 255 177 (dk_at dksX1_aspectOf_4 8 rfl rfl)
theorem dX1_aspectOf_102 : decode cX1_aspectOf 102 = .ok (.iload_n 3, 1) := dk_29 (dk_at dksX1_aspectOf_4 11 rfl rfl)
theorem dX1_aspectOf_103 : decode cX1_aspectOf 103 = .ok (.iconst (-1), 1) := dk_2 (dk_at dksX1_aspectOf_4 12 rfl rfl)
theorem dX1_aspectOf_104 : decode cX1_aspectOf 104 = .ok (.if_icmp .ne 5, 3) := dk_160 0 5 (dk_at dksX1_aspectOf_4 13 rfl rfl)
theorem dX1_aspectOf_107 : decode cX1_aspectOf 107 = .ok (.iconst (-1), 1) := dk_2 (dk_at dksX1_aspectOf_4 16 rfl rfl)
theorem dX1_aspectOf_108 : decode cX1_aspectOf 108 = .ok (.ireturn, 1) := dk_172 (dk_at dksX1_aspectOf_4 17 rfl rfl)
theorem dX1_aspectOf_109 : decode cX1_aspectOf 109 = .ok (.aload_n 2, 1) := dk_44 (dk_at dksX1_aspectOf_4 18 rfl rfl)
theorem dX1_aspectOf_110 : decode cX1_aspectOf 110 = .ok (.iload_n 3, 1) := dk_29 (dk_at dksX1_aspectOf_4 19 rfl rfl)
theorem dX1_aspectOf_111 : decode cX1_aspectOf 111 = .ok (.iconst 1, 1) := dk_4 (dk_at dksX1_aspectOf_4 20 rfl rfl)
theorem dX1_aspectOf_112 : decode cX1_aspectOf 112 = .ok (.bastore, 1) := dk_84 (dk_at dksX1_aspectOf_4 21 rfl rfl)
theorem dX1_aspectOf_113 : decode cX1_aspectOf 113 = .ok (.iinc 4 1, 3) := dk_132 4 1 (dk_at dksX1_aspectOf_5 0 rfl rfl)
theorem dX1_aspectOf_116 : decode cX1_aspectOf 116 = .ok (.goto (-107), 3) := dk_167 255 149 (dk_at dksX1_aspectOf_5 3 rfl rfl)
theorem dX1_aspectOf_119 : decode cX1_aspectOf 119 = .ok (.iload_n 3, 1) := dk_29 (dk_at dksX1_aspectOf_5 6 rfl rfl)
theorem dX1_aspectOf_120 : decode cX1_aspectOf 120 = .ok (.ireturn, 1) := dk_172 (dk_at dksX1_aspectOf_5 7 rfl rfl)
abbrev cX1_residues : ByteArray := prog_1_method_37_code
def yX1_residues : MethodName := ⟨RX1, "residues", "()I"⟩
def dkwX1_residues_0 : List UInt8 := [42, 16, 109, 182, 1, 0, 172]
abbrev dktX1_residues_0 : List UInt8 := dkwX1_residues_0 ++ []
theorem dksX1_residues_0 : cX1_residues.data.toList.drop 0 = dktX1_residues_0 := by decide +kernel
theorem dX1_residues_0 : decode cX1_residues 0 = .ok (.aload_n 0, 1) := dk_42 (dk_at dksX1_residues_0 0 rfl rfl)
theorem dX1_residues_1 : decode cX1_residues 1 = .ok (.bipush 109, 2) := dk_16 109 (dk_at dksX1_residues_0 1 rfl rfl)
theorem dX1_residues_3 : decode cX1_residues 3 = .ok (.invokevirtual 256, 3) := dk_182 1 0 (dk_at dksX1_residues_0 3 rfl rfl)
theorem dX1_residues_6 : decode cX1_residues 6 = .ok (.ireturn, 1) := dk_172 (dk_at dksX1_residues_0 6 rfl rfl)
abbrev cX1_countPairs : ByteArray := prog_1_method_16_code
def yX1_countPairs : MethodName := ⟨RX1, "countPairs", "(C)I"⟩
def dkwX1_countPairs_4 : List UInt8 := [167, 255, 168, 28, 172]
abbrev dktX1_countPairs_4 : List UInt8 := dkwX1_countPairs_4 ++ []
def dkwX1_countPairs_3 : List UInt8 := [182, 0, 144, 27, 182, 0, 147, 96, 61, 132, 5, 1, 167, 255, 204, 132, 4, 1, 167, 255, 188, 132, 3, 1]
abbrev dktX1_countPairs_3 : List UInt8 := dkwX1_countPairs_3 ++ dktX1_countPairs_4
def dkwX1_countPairs_2 : List UInt8 := [182, 0, 141, 162, 0, 36, 28, 42, 42, 42, 180, 0, 20, 29, 182, 0, 75, 192, 0, 79, 21, 4, 21, 5]
abbrev dktX1_countPairs_2 : List UInt8 := dkwX1_countPairs_2 ++ dktX1_countPairs_3
def dkwX1_countPairs_1 : List UInt8 := [162, 0, 67, 3, 54, 5, 21, 5, 42, 42, 180, 0, 20, 29, 182, 0, 75, 192, 0, 79, 21, 4]
abbrev dktX1_countPairs_1 : List UInt8 := dkwX1_countPairs_1 ++ dktX1_countPairs_2
def dkwX1_countPairs_0 : List UInt8 := [3, 61, 3, 62, 29, 42, 180, 0, 20, 182, 0, 64, 162, 0, 83, 3, 54, 4, 21, 4, 16, 6]
abbrev dktX1_countPairs_0 : List UInt8 := dkwX1_countPairs_0 ++ dktX1_countPairs_1
theorem dksX1_countPairs_0 : cX1_countPairs.data.toList.drop 0 = dktX1_countPairs_0 := by decide +kernel
theorem dksX1_countPairs_1 : cX1_countPairs.data.toList.drop 22 = dktX1_countPairs_1 := dk_seg dksX1_countPairs_0 22 rfl rfl
theorem dksX1_countPairs_2 : cX1_countPairs.data.toList.drop 44 = dktX1_countPairs_2 := dk_seg dksX1_countPairs_1 22 rfl rfl
theorem dksX1_countPairs_3 : cX1_countPairs.data.toList.drop 68 = dktX1_countPairs_3 := dk_seg dksX1_countPairs_2 24 rfl rfl
theorem dksX1_countPairs_4 : cX1_countPairs.data.toList.drop 92 = dktX1_countPairs_4 := dk_seg dksX1_countPairs_3 24 rfl rfl
theorem dX1_countPairs_0 : decode cX1_countPairs 0 = .ok (.iconst 0, 1) := dk_3 (dk_at dksX1_countPairs_0 0 rfl rfl)
theorem dX1_countPairs_1 : decode cX1_countPairs 1 = .ok (.istore_n 2, 1) := dk_61 (dk_at dksX1_countPairs_0 1 rfl rfl)
theorem dX1_countPairs_2 : decode cX1_countPairs 2 = .ok (.iconst 0, 1) := dk_3 (dk_at dksX1_countPairs_0 2 rfl rfl)
theorem dX1_countPairs_3 : decode cX1_countPairs 3 = .ok (.istore_n 3, 1) := dk_62 (dk_at dksX1_countPairs_0 3 rfl rfl)
theorem dX1_countPairs_4 : decode cX1_countPairs 4 = .ok (.iload_n 3, 1) := dk_29 (dk_at dksX1_countPairs_0 4 rfl rfl)
theorem dX1_countPairs_5 : decode cX1_countPairs 5 = .ok (.aload_n 0, 1) := dk_42 (dk_at dksX1_countPairs_0 5 rfl rfl)
theorem dX1_countPairs_6 : decode cX1_countPairs 6 = .ok (.getfield 20, 3) := dk_180 0 20 (dk_at dksX1_countPairs_0 6 rfl rfl)
theorem dX1_countPairs_9 : decode cX1_countPairs 9 = .ok (.invokevirtual 64, 3) := dk_182 0 64 (dk_at dksX1_countPairs_0 9 rfl rfl)
theorem dX1_countPairs_12 : decode cX1_countPairs 12 = .ok (.if_icmp .ge 83, 3) := dk_162 0 83 (dk_at dksX1_countPairs_0 12 rfl rfl)
theorem dX1_countPairs_15 : decode cX1_countPairs 15 = .ok (.iconst 0, 1) := dk_3 (dk_at dksX1_countPairs_0 15 rfl rfl)
theorem dX1_countPairs_16 : decode cX1_countPairs 16 = .ok (.istore 4, 2) := dk_54 4 (dk_at dksX1_countPairs_0 16 rfl rfl)
theorem dX1_countPairs_18 : decode cX1_countPairs 18 = .ok (.iload 4, 2) := dk_21 4 (dk_at dksX1_countPairs_0 18 rfl rfl)
theorem dX1_countPairs_20 : decode cX1_countPairs 20 = .ok (.bipush 6, 2) := dk_16 6 (dk_at dksX1_countPairs_0 20 rfl rfl)
theorem dX1_countPairs_22 : decode cX1_countPairs 22 = .ok (.if_icmp .ge 67, 3) := dk_162 0 67 (dk_at dksX1_countPairs_1 0 rfl rfl)
theorem dX1_countPairs_25 : decode cX1_countPairs 25 = .ok (.iconst 0, 1) := dk_3 (dk_at dksX1_countPairs_1 3 rfl rfl)
theorem dX1_countPairs_26 : decode cX1_countPairs 26 = .ok (.istore 5, 2) := dk_54 5 (dk_at dksX1_countPairs_1 4 rfl rfl)
theorem dX1_countPairs_28 : decode cX1_countPairs 28 = .ok (.iload 5, 2) := dk_21 5 (dk_at dksX1_countPairs_1 6 rfl rfl)
theorem dX1_countPairs_30 : decode cX1_countPairs 30 = .ok (.aload_n 0, 1) := dk_42 (dk_at dksX1_countPairs_1 8 rfl rfl)
theorem dX1_countPairs_31 : decode cX1_countPairs 31 = .ok (.aload_n 0, 1) := dk_42 (dk_at dksX1_countPairs_1 9 rfl rfl)
theorem dX1_countPairs_32 : decode cX1_countPairs 32 = .ok (.getfield 20, 3) := dk_180 0 20 (dk_at dksX1_countPairs_1 10 rfl rfl)
theorem dX1_countPairs_35 : decode cX1_countPairs 35 = .ok (.iload_n 3, 1) := dk_29 (dk_at dksX1_countPairs_1 13 rfl rfl)
theorem dX1_countPairs_36 : decode cX1_countPairs 36 = .ok (.invokevirtual 75, 3) := dk_182 0 75 (dk_at dksX1_countPairs_1 14 rfl rfl)
theorem dX1_countPairs_39 : decode cX1_countPairs 39 = .ok (.checkcast 79, 3) := dk_192 0 79 (dk_at dksX1_countPairs_1 17 rfl rfl)
theorem dX1_countPairs_42 : decode cX1_countPairs 42 = .ok (.iload 4, 2) := dk_21 4 (dk_at dksX1_countPairs_1 20 rfl rfl)
theorem dX1_countPairs_44 : decode cX1_countPairs 44 = .ok (.invokevirtual 141, 3) := dk_182 0 141 (dk_at dksX1_countPairs_2 0 rfl rfl)
theorem dX1_countPairs_47 : decode cX1_countPairs 47 = .ok (.if_icmp .ge 36, 3) := dk_162 0 36 (dk_at dksX1_countPairs_2 3 rfl rfl)
theorem dX1_countPairs_50 : decode cX1_countPairs 50 = .ok (.iload_n 2, 1) := dk_28 (dk_at dksX1_countPairs_2 6 rfl rfl)
theorem dX1_countPairs_51 : decode cX1_countPairs 51 = .ok (.aload_n 0, 1) := dk_42 (dk_at dksX1_countPairs_2 7 rfl rfl)
theorem dX1_countPairs_52 : decode cX1_countPairs 52 = .ok (.aload_n 0, 1) := dk_42 (dk_at dksX1_countPairs_2 8 rfl rfl)
theorem dX1_countPairs_53 : decode cX1_countPairs 53 = .ok (.aload_n 0, 1) := dk_42 (dk_at dksX1_countPairs_2 9 rfl rfl)
theorem dX1_countPairs_54 : decode cX1_countPairs 54 = .ok (.getfield 20, 3) := dk_180 0 20 (dk_at dksX1_countPairs_2 10 rfl rfl)
theorem dX1_countPairs_57 : decode cX1_countPairs 57 = .ok (.iload_n 3, 1) := dk_29 (dk_at dksX1_countPairs_2 13 rfl rfl)
theorem dX1_countPairs_58 : decode cX1_countPairs 58 = .ok (.invokevirtual 75, 3) := dk_182 0 75 (dk_at dksX1_countPairs_2 14 rfl rfl)
theorem dX1_countPairs_61 : decode cX1_countPairs 61 = .ok (.checkcast 79, 3) := dk_192 0 79 (dk_at dksX1_countPairs_2 17 rfl rfl)
theorem dX1_countPairs_64 : decode cX1_countPairs 64 = .ok (.iload 4, 2) := dk_21 4 (dk_at dksX1_countPairs_2 20 rfl rfl)
theorem dX1_countPairs_66 : decode cX1_countPairs 66 = .ok (.iload 5, 2) := dk_21 5 (dk_at dksX1_countPairs_2 22 rfl rfl)
theorem dX1_countPairs_68 : decode cX1_countPairs 68 = .ok (.invokevirtual 144, 3) := dk_182 0 144 (dk_at dksX1_countPairs_3 0 rfl rfl)
theorem dX1_countPairs_71 : decode cX1_countPairs 71 = .ok (.iload_n 1, 1) := dk_27 (dk_at dksX1_countPairs_3 3 rfl rfl)
theorem dX1_countPairs_72 : decode cX1_countPairs 72 = .ok (.invokevirtual 147, 3) := dk_182 0 147 (dk_at dksX1_countPairs_3 4 rfl rfl)
theorem dX1_countPairs_75 : decode cX1_countPairs 75 = .ok (.iadd, 1) := dk_96 (dk_at dksX1_countPairs_3 7 rfl rfl)
theorem dX1_countPairs_76 : decode cX1_countPairs 76 = .ok (.istore_n 2, 1) := dk_61 (dk_at dksX1_countPairs_3 8 rfl rfl)
theorem dX1_countPairs_77 : decode cX1_countPairs 77 = .ok (.iinc 5 1, 3) := dk_132 5 1 (dk_at dksX1_countPairs_3 9 rfl rfl)
theorem dX1_countPairs_80 : decode cX1_countPairs 80 = .ok (.goto (-52), 3) := dk_167 255 204 (dk_at dksX1_countPairs_3 12 rfl rfl)
theorem dX1_countPairs_83 : decode cX1_countPairs 83 = .ok (.iinc 4 1, 3) := dk_132 4 1 (dk_at dksX1_countPairs_3 15 rfl rfl)
theorem dX1_countPairs_86 : decode cX1_countPairs 86 = .ok (.goto (-68), 3) := dk_167 255 188 (dk_at dksX1_countPairs_3 18 rfl rfl)
theorem dX1_countPairs_89 : decode cX1_countPairs 89 = .ok (.iinc 3 1, 3) := dk_132 3 1 (dk_at dksX1_countPairs_3 21 rfl rfl)
theorem dX1_countPairs_92 : decode cX1_countPairs 92 = .ok (.goto (-88), 3) := dk_167 255 168 (dk_at dksX1_countPairs_4 0 rfl rfl)
theorem dX1_countPairs_95 : decode cX1_countPairs 95 = .ok (.iload_n 2, 1) := dk_28 (dk_at dksX1_countPairs_4 3 rfl rfl)
theorem dX1_countPairs_96 : decode cX1_countPairs 96 = .ok (.ireturn, 1) := dk_172 (dk_at dksX1_countPairs_4 4 rfl rfl)
abbrev cX1_placesOf : ByteArray := prog_1_method_11_code
def yX1_placesOf : MethodName := ⟨RX1, "placesOf", "(LWeaversgate$Type;I)I"⟩
def dkwX1_placesOf_2 : List UInt8 := [182, 0, 75, 192, 0, 96, 182, 0, 98, 96, 62, 132, 5, 1, 167, 255, 227, 29, 172]
abbrev dktX1_placesOf_2 : List UInt8 := dkwX1_placesOf_2 ++ []
def dkwX1_placesOf_1 : List UInt8 := [192, 0, 17, 58, 4, 3, 54, 5, 21, 5, 25, 4, 182, 0, 64, 162, 0, 25, 29, 25, 4, 21, 5]
abbrev dktX1_placesOf_1 : List UInt8 := dkwX1_placesOf_1 ++ dktX1_placesOf_2
def dkwX1_placesOf_0 : List UInt8 := [43, 28, 182, 0, 89, 153, 0, 7, 4, 167, 0, 4, 3, 62, 43, 180, 0, 93, 28, 182, 0, 75]
abbrev dktX1_placesOf_0 : List UInt8 := dkwX1_placesOf_0 ++ dktX1_placesOf_1
theorem dksX1_placesOf_0 : cX1_placesOf.data.toList.drop 0 = dktX1_placesOf_0 := by decide +kernel
theorem dksX1_placesOf_1 : cX1_placesOf.data.toList.drop 22 = dktX1_placesOf_1 := dk_seg dksX1_placesOf_0 22 rfl rfl
theorem dksX1_placesOf_2 : cX1_placesOf.data.toList.drop 45 = dktX1_placesOf_2 := dk_seg dksX1_placesOf_1 23 rfl rfl
theorem dX1_placesOf_0 : decode cX1_placesOf 0 = .ok (.aload_n 1, 1) := dk_43 (dk_at dksX1_placesOf_0 0 rfl rfl)
theorem dX1_placesOf_1 : decode cX1_placesOf 1 = .ok (.iload_n 2, 1) := dk_28 (dk_at dksX1_placesOf_0 1 rfl rfl)
theorem dX1_placesOf_2 : decode cX1_placesOf 2 = .ok (.invokevirtual 89, 3) := dk_182 0 89 (dk_at dksX1_placesOf_0 2 rfl rfl)
theorem dX1_placesOf_5 : decode cX1_placesOf 5 = .ok (.ifCond .eq 7, 3) := dk_153 0 7 (dk_at dksX1_placesOf_0 5 rfl rfl)
theorem dX1_placesOf_8 : decode cX1_placesOf 8 = .ok (.iconst 1, 1) := dk_4 (dk_at dksX1_placesOf_0 8 rfl rfl)
theorem dX1_placesOf_9 : decode cX1_placesOf 9 = .ok (.goto 4, 3) := dk_167 0 4 (dk_at dksX1_placesOf_0 9 rfl rfl)
theorem dX1_placesOf_12 : decode cX1_placesOf 12 = .ok (.iconst 0, 1) := dk_3 (dk_at dksX1_placesOf_0 12 rfl rfl)
theorem dX1_placesOf_13 : decode cX1_placesOf 13 = .ok (.istore_n 3, 1) := dk_62 (dk_at dksX1_placesOf_0 13 rfl rfl)
theorem dX1_placesOf_14 : decode cX1_placesOf 14 = .ok (.aload_n 1, 1) := dk_43 (dk_at dksX1_placesOf_0 14 rfl rfl)
theorem dX1_placesOf_15 : decode cX1_placesOf 15 = .ok (.getfield 93, 3) := dk_180 0 93 (dk_at dksX1_placesOf_0 15 rfl rfl)
theorem dX1_placesOf_18 : decode cX1_placesOf 18 = .ok (.iload_n 2, 1) := dk_28 (dk_at dksX1_placesOf_0 18 rfl rfl)
theorem dX1_placesOf_19 : decode cX1_placesOf 19 = .ok (.invokevirtual 75, 3) := dk_182 0 75 (dk_at dksX1_placesOf_0 19 rfl rfl)
theorem dX1_placesOf_22 : decode cX1_placesOf 22 = .ok (.checkcast 17, 3) := dk_192 0 17 (dk_at dksX1_placesOf_1 0 rfl rfl)
theorem dX1_placesOf_25 : decode cX1_placesOf 25 = .ok (.astore 4, 2) := dk_58 4 (dk_at dksX1_placesOf_1 3 rfl rfl)
theorem dX1_placesOf_27 : decode cX1_placesOf 27 = .ok (.iconst 0, 1) := dk_3 (dk_at dksX1_placesOf_1 5 rfl rfl)
theorem dX1_placesOf_28 : decode cX1_placesOf 28 = .ok (.istore 5, 2) := dk_54 5 (dk_at dksX1_placesOf_1 6 rfl rfl)
theorem dX1_placesOf_30 : decode cX1_placesOf 30 = .ok (.iload 5, 2) := dk_21 5 (dk_at dksX1_placesOf_1 8 rfl rfl)
theorem dX1_placesOf_32 : decode cX1_placesOf 32 = .ok (.aload 4, 2) := dk_25 4 (dk_at dksX1_placesOf_1 10 rfl rfl)
theorem dX1_placesOf_34 : decode cX1_placesOf 34 = .ok (.invokevirtual 64, 3) := dk_182 0 64 (dk_at dksX1_placesOf_1 12 rfl rfl)
theorem dX1_placesOf_37 : decode cX1_placesOf 37 = .ok (.if_icmp .ge 25, 3) := dk_162 0 25 (dk_at dksX1_placesOf_1 15 rfl rfl)
theorem dX1_placesOf_40 : decode cX1_placesOf 40 = .ok (.iload_n 3, 1) := dk_29 (dk_at dksX1_placesOf_1 18 rfl rfl)
theorem dX1_placesOf_41 : decode cX1_placesOf 41 = .ok (.aload 4, 2) := dk_25 4 (dk_at dksX1_placesOf_1 19 rfl rfl)
theorem dX1_placesOf_43 : decode cX1_placesOf 43 = .ok (.iload 5, 2) := dk_21 5 (dk_at dksX1_placesOf_1 21 rfl rfl)
theorem dX1_placesOf_45 : decode cX1_placesOf 45 = .ok (.invokevirtual 75, 3) := dk_182 0 75 (dk_at dksX1_placesOf_2 0 rfl rfl)
theorem dX1_placesOf_48 : decode cX1_placesOf 48 = .ok (.checkcast 96, 3) := dk_192 0 96 (dk_at dksX1_placesOf_2 3 rfl rfl)
theorem dX1_placesOf_51 : decode cX1_placesOf 51 = .ok (.invokevirtual 98, 3) := dk_182 0 98 (dk_at dksX1_placesOf_2 6 rfl rfl)
theorem dX1_placesOf_54 : decode cX1_placesOf 54 = .ok (.iadd, 1) := dk_96 (dk_at dksX1_placesOf_2 9 rfl rfl)
theorem dX1_placesOf_55 : decode cX1_placesOf 55 = .ok (.istore_n 3, 1) := dk_62 (dk_at dksX1_placesOf_2 10 rfl rfl)
theorem dX1_placesOf_56 : decode cX1_placesOf 56 = .ok (.iinc 5 1, 3) := dk_132 5 1 (dk_at dksX1_placesOf_2 11 rfl rfl)
theorem dX1_placesOf_59 : decode cX1_placesOf 59 = .ok (.goto (-29), 3) := dk_167 255 227 (dk_at dksX1_placesOf_2 14 rfl rfl)
theorem dX1_placesOf_62 : decode cX1_placesOf 62 = .ok (.iload_n 3, 1) := dk_29 (dk_at dksX1_placesOf_2 17 rfl rfl)
theorem dX1_placesOf_63 : decode cX1_placesOf 63 = .ok (.ireturn, 1) := dk_172 (dk_at dksX1_placesOf_2 18 rfl rfl)
abbrev cX1_placeOf : ByteArray := prog_1_method_13_code
def yX1_placeOf : MethodName := ⟨RX1, "placeOf", "(LWeaversgate$Type;II)LWeaversgate$Place;"⟩
def dkwX1_placeOf_2 : List UInt8 := [192, 0, 115, 176]
abbrev dktX1_placeOf_2 : List UInt8 := dkwX1_placeOf_2 ++ []
def dkwX1_placeOf_1 : List UInt8 := [42, 43, 28, 25, 4, 182, 0, 64, 182, 0, 107, 182, 0, 111, 87, 167, 255, 230, 25, 4, 29, 182, 0, 75]
abbrev dktX1_placeOf_1 : List UInt8 := dkwX1_placeOf_1 ++ dktX1_placeOf_2
def dkwX1_placeOf_0 : List UInt8 := [43, 180, 0, 105, 28, 182, 0, 75, 192, 0, 17, 58, 4, 25, 4, 182, 0, 64, 29, 163, 0, 23, 25, 4]
abbrev dktX1_placeOf_0 : List UInt8 := dkwX1_placeOf_0 ++ dktX1_placeOf_1
theorem dksX1_placeOf_0 : cX1_placeOf.data.toList.drop 0 = dktX1_placeOf_0 := by decide +kernel
theorem dksX1_placeOf_1 : cX1_placeOf.data.toList.drop 24 = dktX1_placeOf_1 := dk_seg dksX1_placeOf_0 24 rfl rfl
theorem dksX1_placeOf_2 : cX1_placeOf.data.toList.drop 48 = dktX1_placeOf_2 := dk_seg dksX1_placeOf_1 24 rfl rfl
theorem dX1_placeOf_0 : decode cX1_placeOf 0 = .ok (.aload_n 1, 1) := dk_43 (dk_at dksX1_placeOf_0 0 rfl rfl)
theorem dX1_placeOf_1 : decode cX1_placeOf 1 = .ok (.getfield 105, 3) := dk_180 0 105 (dk_at dksX1_placeOf_0 1 rfl rfl)
theorem dX1_placeOf_4 : decode cX1_placeOf 4 = .ok (.iload_n 2, 1) := dk_28 (dk_at dksX1_placeOf_0 4 rfl rfl)
theorem dX1_placeOf_5 : decode cX1_placeOf 5 = .ok (.invokevirtual 75, 3) := dk_182 0 75 (dk_at dksX1_placeOf_0 5 rfl rfl)
theorem dX1_placeOf_8 : decode cX1_placeOf 8 = .ok (.checkcast 17, 3) := dk_192 0 17 (dk_at dksX1_placeOf_0 8 rfl rfl)
theorem dX1_placeOf_11 : decode cX1_placeOf 11 = .ok (.astore 4, 2) := dk_58 4 (dk_at dksX1_placeOf_0 11 rfl rfl)
theorem dX1_placeOf_13 : decode cX1_placeOf 13 = .ok (.aload 4, 2) := dk_25 4 (dk_at dksX1_placeOf_0 13 rfl rfl)
theorem dX1_placeOf_15 : decode cX1_placeOf 15 = .ok (.invokevirtual 64, 3) := dk_182 0 64 (dk_at dksX1_placeOf_0 15 rfl rfl)
theorem dX1_placeOf_18 : decode cX1_placeOf 18 = .ok (.iload_n 3, 1) := dk_29 (dk_at dksX1_placeOf_0 18 rfl rfl)
theorem dX1_placeOf_19 : decode cX1_placeOf 19 = .ok (.if_icmp .gt 23, 3) := dk_163 0 23 (dk_at dksX1_placeOf_0 19 rfl rfl)
theorem dX1_placeOf_22 : decode cX1_placeOf 22 = .ok (.aload 4, 2) := dk_25 4 (dk_at dksX1_placeOf_0 22 rfl rfl)
theorem dX1_placeOf_24 : decode cX1_placeOf 24 = .ok (.aload_n 0, 1) := dk_42 (dk_at dksX1_placeOf_1 0 rfl rfl)
theorem dX1_placeOf_25 : decode cX1_placeOf 25 = .ok (.aload_n 1, 1) := dk_43 (dk_at dksX1_placeOf_1 1 rfl rfl)
theorem dX1_placeOf_26 : decode cX1_placeOf 26 = .ok (.iload_n 2, 1) := dk_28 (dk_at dksX1_placeOf_1 2 rfl rfl)
theorem dX1_placeOf_27 : decode cX1_placeOf 27 = .ok (.aload 4, 2) := dk_25 4 (dk_at dksX1_placeOf_1 3 rfl rfl)
theorem dX1_placeOf_29 : decode cX1_placeOf 29 = .ok (.invokevirtual 64, 3) := dk_182 0 64 (dk_at dksX1_placeOf_1 5 rfl rfl)
theorem dX1_placeOf_32 : decode cX1_placeOf 32 = .ok (.invokevirtual 107, 3) := dk_182 0 107 (dk_at dksX1_placeOf_1 8 rfl rfl)
theorem dX1_placeOf_35 : decode cX1_placeOf 35 = .ok (.invokevirtual 111, 3) := dk_182 0 111 (dk_at dksX1_placeOf_1 11 rfl rfl)
theorem dX1_placeOf_38 : decode cX1_placeOf 38 = .ok (.pop, 1) := dk_87 (dk_at dksX1_placeOf_1 14 rfl rfl)
theorem dX1_placeOf_39 : decode cX1_placeOf 39 = .ok (.goto (-26), 3) := dk_167 255 230 (dk_at dksX1_placeOf_1 15 rfl rfl)
theorem dX1_placeOf_42 : decode cX1_placeOf 42 = .ok (.aload 4, 2) := dk_25 4 (dk_at dksX1_placeOf_1 18 rfl rfl)
theorem dX1_placeOf_44 : decode cX1_placeOf 44 = .ok (.iload_n 3, 1) := dk_29 (dk_at dksX1_placeOf_1 20 rfl rfl)
theorem dX1_placeOf_45 : decode cX1_placeOf 45 = .ok (.invokevirtual 75, 3) := dk_182 0 75 (dk_at dksX1_placeOf_1 21 rfl rfl)
theorem dX1_placeOf_48 : decode cX1_placeOf 48 = .ok (.checkcast 115, 3) := dk_192 0 115 (dk_at dksX1_placeOf_2 0 rfl rfl)
theorem dX1_placeOf_51 : decode cX1_placeOf 51 = .ok (.areturn, 1) := dk_176 (dk_at dksX1_placeOf_2 3 rfl rfl)
abbrev cX1_madePlace : ByteArray := prog_1_method_15_code
def yX1_madePlace : MethodName := ⟨RX1, "madePlace", "(LWeaversgate$Type;II)LWeaversgate$Place;"⟩
def dkwX1_madePlace_8 : List UInt8 := [167, 0, 5, 21, 4, 183, 0, 128, 176]
abbrev dktX1_madePlace_8 : List UInt8 := dkwX1_madePlace_8 ++ []
def dkwX1_madePlace_7 : List UInt8 := [167, 0, 8, 25, 8, 180, 0, 138, 43, 180, 0, 124, 21, 9, 153, 0, 13, 4, 25, 8, 180, 0, 138, 120]
abbrev dktX1_madePlace_7 : List UInt8 := dkwX1_madePlace_7 ++ dktX1_madePlace_8
def dkwX1_madePlace_6 : List UInt8 := [54, 10, 187, 0, 115, 89, 21, 10, 21, 9, 153, 0, 17, 21, 7, 4, 160, 0, 11, 25, 8, 180, 0, 135]
abbrev dktX1_madePlace_6 : List UInt8 := dkwX1_madePlace_6 ++ dktX1_madePlace_7
def dkwX1_madePlace_5 : List UInt8 := [3, 54, 9, 21, 9, 153, 0, 14, 21, 7, 4, 160, 0, 8, 16, 99, 167, 0, 8, 25, 8, 180, 0, 131]
abbrev dktX1_madePlace_5 : List UInt8 := dkwX1_madePlace_5 ++ dktX1_madePlace_6
def dkwX1_madePlace_4 : List UInt8 := [21, 6, 182, 0, 75, 192, 0, 96, 58, 8, 25, 8, 180, 0, 131, 16, 109, 160, 0, 7, 4, 167, 0, 4]
abbrev dktX1_madePlace_4 : List UInt8 := dkwX1_madePlace_4 ++ dktX1_madePlace_5
def dkwX1_madePlace_3 : List UInt8 := [25, 5, 21, 6, 182, 0, 75, 192, 0, 96, 182, 0, 98, 100, 54, 7, 132, 6, 1, 167, 255, 217, 25, 5]
abbrev dktX1_madePlace_3 : List UInt8 := dkwX1_madePlace_3 ++ dktX1_madePlace_4
def dkwX1_madePlace_2 : List UInt8 := [100, 54, 7, 21, 7, 25, 5, 21, 6, 182, 0, 75, 192, 0, 96, 182, 0, 98, 161, 0, 27, 21, 7]
abbrev dktX1_madePlace_2 : List UInt8 := dkwX1_madePlace_2 ++ dktX1_madePlace_3
def dkwX1_madePlace_1 : List UInt8 := [21, 4, 183, 0, 128, 176, 43, 180, 0, 93, 28, 182, 0, 75, 192, 0, 17, 58, 5, 3, 54, 6, 29, 4]
abbrev dktX1_madePlace_1 : List UInt8 := dkwX1_madePlace_1 ++ dktX1_madePlace_2
def dkwX1_madePlace_0 : List UInt8 := [42, 43, 28, 182, 0, 120, 54, 4, 29, 154, 0, 20, 187, 0, 115, 89, 16, 101, 28, 43, 180, 0, 124]
abbrev dktX1_madePlace_0 : List UInt8 := dkwX1_madePlace_0 ++ dktX1_madePlace_1
theorem dksX1_madePlace_0 : cX1_madePlace.data.toList.drop 0 = dktX1_madePlace_0 := by decide +kernel
theorem dksX1_madePlace_1 : cX1_madePlace.data.toList.drop 23 = dktX1_madePlace_1 := dk_seg dksX1_madePlace_0 23 rfl rfl
theorem dksX1_madePlace_2 : cX1_madePlace.data.toList.drop 47 = dktX1_madePlace_2 := dk_seg dksX1_madePlace_1 24 rfl rfl
theorem dksX1_madePlace_3 : cX1_madePlace.data.toList.drop 70 = dktX1_madePlace_3 := dk_seg dksX1_madePlace_2 23 rfl rfl
theorem dksX1_madePlace_4 : cX1_madePlace.data.toList.drop 94 = dktX1_madePlace_4 := dk_seg dksX1_madePlace_3 24 rfl rfl
theorem dksX1_madePlace_5 : cX1_madePlace.data.toList.drop 118 = dktX1_madePlace_5 := dk_seg dksX1_madePlace_4 24 rfl rfl
theorem dksX1_madePlace_6 : cX1_madePlace.data.toList.drop 142 = dktX1_madePlace_6 := dk_seg dksX1_madePlace_5 24 rfl rfl
theorem dksX1_madePlace_7 : cX1_madePlace.data.toList.drop 166 = dktX1_madePlace_7 := dk_seg dksX1_madePlace_6 24 rfl rfl
theorem dksX1_madePlace_8 : cX1_madePlace.data.toList.drop 190 = dktX1_madePlace_8 := dk_seg dksX1_madePlace_7 24 rfl rfl
theorem dX1_madePlace_0 : decode cX1_madePlace 0 = .ok (.aload_n 0, 1) := dk_42 (dk_at dksX1_madePlace_0 0 rfl rfl)
theorem dX1_madePlace_1 : decode cX1_madePlace 1 = .ok (.aload_n 1, 1) := dk_43 (dk_at dksX1_madePlace_0 1 rfl rfl)
theorem dX1_madePlace_2 : decode cX1_madePlace 2 = .ok (.iload_n 2, 1) := dk_28 (dk_at dksX1_madePlace_0 2 rfl rfl)
theorem dX1_madePlace_3 : decode cX1_madePlace 3 = .ok (.invokevirtual 120, 3) := dk_182 0 120 (dk_at dksX1_madePlace_0 3 rfl rfl)
theorem dX1_madePlace_6 : decode cX1_madePlace 6 = .ok (.istore 4, 2) := dk_54 4 (dk_at dksX1_madePlace_0 6 rfl rfl)
theorem dX1_madePlace_8 : decode cX1_madePlace 8 = .ok (.iload_n 3, 1) := dk_29 (dk_at dksX1_madePlace_0 8 rfl rfl)
theorem dX1_madePlace_9 : decode cX1_madePlace 9 = .ok (.ifCond .ne 20, 3) := dk_154 0 20 (dk_at dksX1_madePlace_0 9 rfl rfl)
theorem dX1_madePlace_12 : decode cX1_madePlace 12 = .ok (.new 115, 3) := dk_187 0 115 (dk_at dksX1_madePlace_0 12 rfl rfl)
theorem dX1_madePlace_15 : decode cX1_madePlace 15 = .ok (.dup, 1) := dk_89 (dk_at dksX1_madePlace_0 15 rfl rfl)
theorem dX1_madePlace_16 : decode cX1_madePlace 16 = .ok (.bipush 101, 2) := dk_16 101 (dk_at dksX1_madePlace_0 16 rfl rfl)
theorem dX1_madePlace_18 : decode cX1_madePlace 18 = .ok (.iload_n 2, 1) := dk_28 (dk_at dksX1_madePlace_0 18 rfl rfl)
theorem dX1_madePlace_19 : decode cX1_madePlace 19 = .ok (.aload_n 1, 1) := dk_43 (dk_at dksX1_madePlace_0 19 rfl rfl)
theorem dX1_madePlace_20 : decode cX1_madePlace 20 = .ok (.getfield 124, 3) := dk_180 0 124 (dk_at dksX1_madePlace_0 20 rfl rfl)
theorem dX1_madePlace_23 : decode cX1_madePlace 23 = .ok (.iload 4, 2) := dk_21 4 (dk_at dksX1_madePlace_1 0 rfl rfl)
theorem dX1_madePlace_25 : decode cX1_madePlace 25 = .ok (.invokespecial 128, 3) := dk_183 0 128 (dk_at dksX1_madePlace_1 2 rfl rfl)
theorem dX1_madePlace_28 : decode cX1_madePlace 28 = .ok (.areturn, 1) := dk_176 (dk_at dksX1_madePlace_1 5 rfl rfl)
theorem dX1_madePlace_29 : decode cX1_madePlace 29 = .ok (.aload_n 1, 1) := dk_43 (dk_at dksX1_madePlace_1 6 rfl rfl)
theorem dX1_madePlace_30 : decode cX1_madePlace 30 = .ok (.getfield 93, 3) := dk_180 0 93 (dk_at dksX1_madePlace_1 7 rfl rfl)
theorem dX1_madePlace_33 : decode cX1_madePlace 33 = .ok (.iload_n 2, 1) := dk_28 (dk_at dksX1_madePlace_1 10 rfl rfl)
theorem dX1_madePlace_34 : decode cX1_madePlace 34 = .ok (.invokevirtual 75, 3) := dk_182 0 75 (dk_at dksX1_madePlace_1 11 rfl rfl)
theorem dX1_madePlace_37 : decode cX1_madePlace 37 = .ok (.checkcast 17, 3) := dk_192 0 17 (dk_at dksX1_madePlace_1 14 rfl rfl)
theorem dX1_madePlace_40 : decode cX1_madePlace 40 = .ok (.astore 5, 2) := dk_58 5 (dk_at dksX1_madePlace_1 17 rfl rfl)
theorem dX1_madePlace_42 : decode cX1_madePlace 42 = .ok (.iconst 0, 1) := dk_3 (dk_at dksX1_madePlace_1 19 rfl rfl)
theorem dX1_madePlace_43 : decode cX1_madePlace 43 = .ok (.istore 6, 2) := dk_54 6 (dk_at dksX1_madePlace_1 20 rfl rfl)
theorem dX1_madePlace_45 : decode cX1_madePlace 45 = .ok (.iload_n 3, 1) := dk_29 (dk_at dksX1_madePlace_1 22 rfl rfl)
theorem dX1_madePlace_46 : decode cX1_madePlace 46 = .ok (.iconst 1, 1) := dk_4 (dk_at dksX1_madePlace_1 23 rfl rfl)
theorem dX1_madePlace_47 : decode cX1_madePlace 47 = .ok (.isub, 1) := dk_100 (dk_at dksX1_madePlace_2 0 rfl rfl)
theorem dX1_madePlace_48 : decode cX1_madePlace 48 = .ok (.istore 7, 2) := dk_54 7 (dk_at dksX1_madePlace_2 1 rfl rfl)
theorem dX1_madePlace_50 : decode cX1_madePlace 50 = .ok (.iload 7, 2) := dk_21 7 (dk_at dksX1_madePlace_2 3 rfl rfl)
theorem dX1_madePlace_52 : decode cX1_madePlace 52 = .ok (.aload 5, 2) := dk_25 5 (dk_at dksX1_madePlace_2 5 rfl rfl)
theorem dX1_madePlace_54 : decode cX1_madePlace 54 = .ok (.iload 6, 2) := dk_21 6 (dk_at dksX1_madePlace_2 7 rfl rfl)
theorem dX1_madePlace_56 : decode cX1_madePlace 56 = .ok (.invokevirtual 75, 3) := dk_182 0 75 (dk_at dksX1_madePlace_2 9 rfl rfl)
theorem dX1_madePlace_59 : decode cX1_madePlace 59 = .ok (.checkcast 96, 3) := dk_192 0 96 (dk_at dksX1_madePlace_2 12 rfl rfl)
theorem dX1_madePlace_62 : decode cX1_madePlace 62 = .ok (.invokevirtual 98, 3) := dk_182 0 98 (dk_at dksX1_madePlace_2 15 rfl rfl)
theorem dX1_madePlace_65 : decode cX1_madePlace 65 = .ok (.if_icmp .lt 27, 3) := dk_161 0 27 (dk_at dksX1_madePlace_2 18 rfl rfl)
theorem dX1_madePlace_68 : decode cX1_madePlace 68 = .ok (.iload 7, 2) := dk_21 7 (dk_at dksX1_madePlace_2 21 rfl rfl)
theorem dX1_madePlace_70 : decode cX1_madePlace 70 = .ok (.aload 5, 2) := dk_25 5 (dk_at dksX1_madePlace_3 0 rfl rfl)
theorem dX1_madePlace_72 : decode cX1_madePlace 72 = .ok (.iload 6, 2) := dk_21 6 (dk_at dksX1_madePlace_3 2 rfl rfl)
theorem dX1_madePlace_74 : decode cX1_madePlace 74 = .ok (.invokevirtual 75, 3) := dk_182 0 75 (dk_at dksX1_madePlace_3 4 rfl rfl)
theorem dX1_madePlace_77 : decode cX1_madePlace 77 = .ok (.checkcast 96, 3) := dk_192 0 96 (dk_at dksX1_madePlace_3 7 rfl rfl)
theorem dX1_madePlace_80 : decode cX1_madePlace 80 = .ok (.invokevirtual 98, 3) := dk_182 0 98 (dk_at dksX1_madePlace_3 10 rfl rfl)
theorem dX1_madePlace_83 : decode cX1_madePlace 83 = .ok (.isub, 1) := dk_100 (dk_at dksX1_madePlace_3 13 rfl rfl)
theorem dX1_madePlace_84 : decode cX1_madePlace 84 = .ok (.istore 7, 2) := dk_54 7 (dk_at dksX1_madePlace_3 14 rfl rfl)
theorem dX1_madePlace_86 : decode cX1_madePlace 86 = .ok (.iinc 6 1, 3) := dk_132 6 1 (dk_at dksX1_madePlace_3 16 rfl rfl)
theorem dX1_madePlace_89 : decode cX1_madePlace 89 = .ok (.goto (-39), 3) := dk_167 255 217 (dk_at dksX1_madePlace_3 19 rfl rfl)
theorem dX1_madePlace_92 : decode cX1_madePlace 92 = .ok (.aload 5, 2) := dk_25 5 (dk_at dksX1_madePlace_3 22 rfl rfl)
theorem dX1_madePlace_94 : decode cX1_madePlace 94 = .ok (.iload 6, 2) := dk_21 6 (dk_at dksX1_madePlace_4 0 rfl rfl)
theorem dX1_madePlace_96 : decode cX1_madePlace 96 = .ok (.invokevirtual 75, 3) := dk_182 0 75 (dk_at dksX1_madePlace_4 2 rfl rfl)
theorem dX1_madePlace_99 : decode cX1_madePlace 99 = .ok (.checkcast 96, 3) := dk_192 0 96 (dk_at dksX1_madePlace_4 5 rfl rfl)
theorem dX1_madePlace_102 : decode cX1_madePlace 102 = .ok (.astore 8, 2) := dk_58 8 (dk_at dksX1_madePlace_4 8 rfl rfl)
theorem dX1_madePlace_104 : decode cX1_madePlace 104 = .ok (.aload 8, 2) := dk_25 8 (dk_at dksX1_madePlace_4 10 rfl rfl)
theorem dX1_madePlace_106 : decode cX1_madePlace 106 = .ok (.getfield 131, 3) := dk_180 0 131 (dk_at dksX1_madePlace_4 12 rfl rfl)
theorem dX1_madePlace_109 : decode cX1_madePlace 109 = .ok (.bipush 109, 2) := dk_16 109 (dk_at dksX1_madePlace_4 15 rfl rfl)
theorem dX1_madePlace_111 : decode cX1_madePlace 111 = .ok (.if_icmp .ne 7, 3) := dk_160 0 7 (dk_at dksX1_madePlace_4 17 rfl rfl)
theorem dX1_madePlace_114 : decode cX1_madePlace 114 = .ok (.iconst 1, 1) := dk_4 (dk_at dksX1_madePlace_4 20 rfl rfl)
theorem dX1_madePlace_115 : decode cX1_madePlace 115 = .ok (.goto 4, 3) := dk_167 0 4 (dk_at dksX1_madePlace_4 21 rfl rfl)
theorem dX1_madePlace_118 : decode cX1_madePlace 118 = .ok (.iconst 0, 1) := dk_3 (dk_at dksX1_madePlace_5 0 rfl rfl)
theorem dX1_madePlace_119 : decode cX1_madePlace 119 = .ok (.istore 9, 2) := dk_54 9 (dk_at dksX1_madePlace_5 1 rfl rfl)
theorem dX1_madePlace_121 : decode cX1_madePlace 121 = .ok (.iload 9, 2) := dk_21 9 (dk_at dksX1_madePlace_5 3 rfl rfl)
theorem dX1_madePlace_123 : decode cX1_madePlace 123 = .ok (.ifCond .eq 14, 3) := dk_153 0 14 (dk_at dksX1_madePlace_5 5 rfl rfl)
theorem dX1_madePlace_126 : decode cX1_madePlace 126 = .ok (.iload 7, 2) := dk_21 7 (dk_at dksX1_madePlace_5 8 rfl rfl)
theorem dX1_madePlace_128 : decode cX1_madePlace 128 = .ok (.iconst 1, 1) := dk_4 (dk_at dksX1_madePlace_5 10 rfl rfl)
theorem dX1_madePlace_129 : decode cX1_madePlace 129 = .ok (.if_icmp .ne 8, 3) := dk_160 0 8 (dk_at dksX1_madePlace_5 11 rfl rfl)
theorem dX1_madePlace_132 : decode cX1_madePlace 132 = .ok (.bipush 99, 2) := dk_16 99 (dk_at dksX1_madePlace_5 14 rfl rfl)
theorem dX1_madePlace_134 : decode cX1_madePlace 134 = .ok (.goto 8, 3) := dk_167 0 8 (dk_at dksX1_madePlace_5 16 rfl rfl)
theorem dX1_madePlace_137 : decode cX1_madePlace 137 = .ok (.aload 8, 2) := dk_25 8 (dk_at dksX1_madePlace_5 19 rfl rfl)
theorem dX1_madePlace_139 : decode cX1_madePlace 139 = .ok (.getfield 131, 3) := dk_180 0 131 (dk_at dksX1_madePlace_5 21 rfl rfl)
theorem dX1_madePlace_142 : decode cX1_madePlace 142 = .ok (.istore 10, 2) := dk_54 10 (dk_at dksX1_madePlace_6 0 rfl rfl)
theorem dX1_madePlace_144 : decode cX1_madePlace 144 = .ok (.new 115, 3) := dk_187 0 115 (dk_at dksX1_madePlace_6 2 rfl rfl)
theorem dX1_madePlace_147 : decode cX1_madePlace 147 = .ok (.dup, 1) := dk_89 (dk_at dksX1_madePlace_6 5 rfl rfl)
theorem dX1_madePlace_148 : decode cX1_madePlace 148 = .ok (.iload 10, 2) := dk_21 10 (dk_at dksX1_madePlace_6 6 rfl rfl)
theorem dX1_madePlace_150 : decode cX1_madePlace 150 = .ok (.iload 9, 2) := dk_21 9 (dk_at dksX1_madePlace_6 8 rfl rfl)
theorem dX1_madePlace_152 : decode cX1_madePlace 152 = .ok (.ifCond .eq 17, 3) := dk_153 0 17 (dk_at dksX1_madePlace_6 10 rfl rfl)
theorem dX1_madePlace_155 : decode cX1_madePlace 155 = .ok (.iload 7, 2) := dk_21 7 (dk_at dksX1_madePlace_6 13 rfl rfl)
theorem dX1_madePlace_157 : decode cX1_madePlace 157 = .ok (.iconst 1, 1) := dk_4 (dk_at dksX1_madePlace_6 15 rfl rfl)
theorem dX1_madePlace_158 : decode cX1_madePlace 158 = .ok (.if_icmp .ne 11, 3) := dk_160 0 11 (dk_at dksX1_madePlace_6 16 rfl rfl)
theorem dX1_madePlace_161 : decode cX1_madePlace 161 = .ok (.aload 8, 2) := dk_25 8 (dk_at dksX1_madePlace_6 19 rfl rfl)
theorem dX1_madePlace_163 : decode cX1_madePlace 163 = .ok (.getfield 135, 3) := dk_180 0 135 (dk_at dksX1_madePlace_6 21 rfl rfl)
theorem dX1_madePlace_166 : decode cX1_madePlace 166 = .ok (.goto 8, 3) := dk_167 0 8 (dk_at dksX1_madePlace_7 0 rfl rfl)
theorem dX1_madePlace_169 : decode cX1_madePlace 169 = .ok (.aload 8, 2) := dk_25 8 (dk_at dksX1_madePlace_7 3 rfl rfl)
theorem dX1_madePlace_171 : decode cX1_madePlace 171 = .ok (.getfield 138, 3) := dk_180 0 138 (dk_at dksX1_madePlace_7 5 rfl rfl)
theorem dX1_madePlace_174 : decode cX1_madePlace 174 = .ok (.aload_n 1, 1) := dk_43 (dk_at dksX1_madePlace_7 8 rfl rfl)
theorem dX1_madePlace_175 : decode cX1_madePlace 175 = .ok (.getfield 124, 3) := dk_180 0 124 (dk_at dksX1_madePlace_7 9 rfl rfl)
theorem dX1_madePlace_178 : decode cX1_madePlace 178 = .ok (.iload 9, 2) := dk_21 9 (dk_at dksX1_madePlace_7 12 rfl rfl)
theorem dX1_madePlace_180 : decode cX1_madePlace 180 = .ok (.ifCond .eq 13, 3) := dk_153 0 13 (dk_at dksX1_madePlace_7 14 rfl rfl)
theorem dX1_madePlace_183 : decode cX1_madePlace 183 = .ok (.iconst 1, 1) := dk_4 (dk_at dksX1_madePlace_7 17 rfl rfl)
theorem dX1_madePlace_184 : decode cX1_madePlace 184 = .ok (.aload 8, 2) := dk_25 8 (dk_at dksX1_madePlace_7 18 rfl rfl)
theorem dX1_madePlace_186 : decode cX1_madePlace 186 = .ok (.getfield 138, 3) := dk_180 0 138 (dk_at dksX1_madePlace_7 20 rfl rfl)
theorem dX1_madePlace_189 : decode cX1_madePlace 189 = .ok (.ishl, 1) := dk_120 (dk_at dksX1_madePlace_7 23 rfl rfl)
theorem dX1_madePlace_190 : decode cX1_madePlace 190 = .ok (.goto 5, 3) := dk_167 0 5 (dk_at dksX1_madePlace_8 0 rfl rfl)
theorem dX1_madePlace_193 : decode cX1_madePlace 193 = .ok (.iload 4, 2) := dk_21 4 (dk_at dksX1_madePlace_8 3 rfl rfl)
theorem dX1_madePlace_195 : decode cX1_madePlace 195 = .ok (.invokespecial 128, 3) := dk_183 0 128 (dk_at dksX1_madePlace_8 5 rfl rfl)
theorem dX1_madePlace_198 : decode cX1_madePlace 198 = .ok (.areturn, 1) := dk_176 (dk_at dksX1_madePlace_8 8 rfl rfl)
abbrev cX1_possibleIn : ByteArray := prog_1_method_12_code
def yX1_possibleIn : MethodName := ⟨RX1, "possibleIn", "(LWeaversgate$Type;I)I"⟩
def dkwX1_possibleIn_2 : List UInt8 := [132, 4, 1, 167, 255, 210, 29, 172]
abbrev dktX1_possibleIn_2 : List UInt8 := dkwX1_possibleIn_2 ++ []
def dkwX1_possibleIn_1 : List UInt8 := [182, 0, 75, 192, 0, 79, 28, 182, 0, 101, 43, 166, 0, 10, 4, 21, 4, 120, 167, 0, 4, 3, 128, 62]
abbrev dktX1_possibleIn_1 : List UInt8 := dkwX1_possibleIn_1 ++ dktX1_possibleIn_2
def dkwX1_possibleIn_0 : List UInt8 := [3, 62, 3, 54, 4, 21, 4, 42, 180, 0, 20, 182, 0, 64, 162, 0, 40, 29, 42, 180, 0, 20, 21, 4]
abbrev dktX1_possibleIn_0 : List UInt8 := dkwX1_possibleIn_0 ++ dktX1_possibleIn_1
theorem dksX1_possibleIn_0 : cX1_possibleIn.data.toList.drop 0 = dktX1_possibleIn_0 := by decide +kernel
theorem dksX1_possibleIn_1 : cX1_possibleIn.data.toList.drop 24 = dktX1_possibleIn_1 := dk_seg dksX1_possibleIn_0 24 rfl rfl
theorem dksX1_possibleIn_2 : cX1_possibleIn.data.toList.drop 48 = dktX1_possibleIn_2 := dk_seg dksX1_possibleIn_1 24 rfl rfl
theorem dX1_possibleIn_0 : decode cX1_possibleIn 0 = .ok (.iconst 0, 1) := dk_3 (dk_at dksX1_possibleIn_0 0 rfl rfl)
theorem dX1_possibleIn_1 : decode cX1_possibleIn 1 = .ok (.istore_n 3, 1) := dk_62 (dk_at dksX1_possibleIn_0 1 rfl rfl)
theorem dX1_possibleIn_2 : decode cX1_possibleIn 2 = .ok (.iconst 0, 1) := dk_3 (dk_at dksX1_possibleIn_0 2 rfl rfl)
theorem dX1_possibleIn_3 : decode cX1_possibleIn 3 = .ok (.istore 4, 2) := dk_54 4 (dk_at dksX1_possibleIn_0 3 rfl rfl)
theorem dX1_possibleIn_5 : decode cX1_possibleIn 5 = .ok (.iload 4, 2) := dk_21 4 (dk_at dksX1_possibleIn_0 5 rfl rfl)
theorem dX1_possibleIn_7 : decode cX1_possibleIn 7 = .ok (.aload_n 0, 1) := dk_42 (dk_at dksX1_possibleIn_0 7 rfl rfl)
theorem dX1_possibleIn_8 : decode cX1_possibleIn 8 = .ok (.getfield 20, 3) := dk_180 0 20 (dk_at dksX1_possibleIn_0 8 rfl rfl)
theorem dX1_possibleIn_11 : decode cX1_possibleIn 11 = .ok (.invokevirtual 64, 3) := dk_182 0 64 (dk_at dksX1_possibleIn_0 11 rfl rfl)
theorem dX1_possibleIn_14 : decode cX1_possibleIn 14 = .ok (.if_icmp .ge 40, 3) := dk_162 0 40 (dk_at dksX1_possibleIn_0 14 rfl rfl)
theorem dX1_possibleIn_17 : decode cX1_possibleIn 17 = .ok (.iload_n 3, 1) := dk_29 (dk_at dksX1_possibleIn_0 17 rfl rfl)
theorem dX1_possibleIn_18 : decode cX1_possibleIn 18 = .ok (.aload_n 0, 1) := dk_42 (dk_at dksX1_possibleIn_0 18 rfl rfl)
theorem dX1_possibleIn_19 : decode cX1_possibleIn 19 = .ok (.getfield 20, 3) := dk_180 0 20 (dk_at dksX1_possibleIn_0 19 rfl rfl)
theorem dX1_possibleIn_22 : decode cX1_possibleIn 22 = .ok (.iload 4, 2) := dk_21 4 (dk_at dksX1_possibleIn_0 22 rfl rfl)
theorem dX1_possibleIn_24 : decode cX1_possibleIn 24 = .ok (.invokevirtual 75, 3) := dk_182 0 75 (dk_at dksX1_possibleIn_1 0 rfl rfl)
theorem dX1_possibleIn_27 : decode cX1_possibleIn 27 = .ok (.checkcast 79, 3) := dk_192 0 79 (dk_at dksX1_possibleIn_1 3 rfl rfl)
theorem dX1_possibleIn_30 : decode cX1_possibleIn 30 = .ok (.iload_n 2, 1) := dk_28 (dk_at dksX1_possibleIn_1 6 rfl rfl)
theorem dX1_possibleIn_31 : decode cX1_possibleIn 31 = .ok (.invokevirtual 101, 3) := dk_182 0 101 (dk_at dksX1_possibleIn_1 7 rfl rfl)
theorem dX1_possibleIn_34 : decode cX1_possibleIn 34 = .ok (.aload_n 1, 1) := dk_43 (dk_at dksX1_possibleIn_1 10 rfl rfl)
theorem dX1_possibleIn_35 : decode cX1_possibleIn 35 = .ok (.if_acmp .ne 10, 3) := dk_166 0 10 (dk_at dksX1_possibleIn_1 11 rfl rfl)
theorem dX1_possibleIn_38 : decode cX1_possibleIn 38 = .ok (.iconst 1, 1) := dk_4 (dk_at dksX1_possibleIn_1 14 rfl rfl)
theorem dX1_possibleIn_39 : decode cX1_possibleIn 39 = .ok (.iload 4, 2) := dk_21 4 (dk_at dksX1_possibleIn_1 15 rfl rfl)
theorem dX1_possibleIn_41 : decode cX1_possibleIn 41 = .ok (.ishl, 1) := dk_120 (dk_at dksX1_possibleIn_1 17 rfl rfl)
theorem dX1_possibleIn_42 : decode cX1_possibleIn 42 = .ok (.goto 4, 3) := dk_167 0 4 (dk_at dksX1_possibleIn_1 18 rfl rfl)
theorem dX1_possibleIn_45 : decode cX1_possibleIn 45 = .ok (.iconst 0, 1) := dk_3 (dk_at dksX1_possibleIn_1 21 rfl rfl)
theorem dX1_possibleIn_46 : decode cX1_possibleIn 46 = .ok (.ior, 1) := dk_128 (dk_at dksX1_possibleIn_1 22 rfl rfl)
theorem dX1_possibleIn_47 : decode cX1_possibleIn 47 = .ok (.istore_n 3, 1) := dk_62 (dk_at dksX1_possibleIn_1 23 rfl rfl)
theorem dX1_possibleIn_48 : decode cX1_possibleIn 48 = .ok (.iinc 4 1, 3) := dk_132 4 1 (dk_at dksX1_possibleIn_2 0 rfl rfl)
theorem dX1_possibleIn_51 : decode cX1_possibleIn 51 = .ok (.goto (-46), 3) := dk_167 255 210 (dk_at dksX1_possibleIn_2 3 rfl rfl)
theorem dX1_possibleIn_54 : decode cX1_possibleIn 54 = .ok (.iload_n 3, 1) := dk_29 (dk_at dksX1_possibleIn_2 6 rfl rfl)
theorem dX1_possibleIn_55 : decode cX1_possibleIn 55 = .ok (.ireturn, 1) := dk_172 (dk_at dksX1_possibleIn_2 7 rfl rfl)
abbrev cX1_countAt : ByteArray := prog_1_method_17_code
def yX1_countAt : MethodName := ⟨RX1, "countAt", "(LWeaversgate$Place;C)I"⟩
def dkwX1_countAt_2 : List UInt8 := [185, 0, 159, 2, 0, 28, 160, 0, 7, 4, 167, 0, 4, 3, 96, 62, 132, 4, 1, 167, 255, 196, 29, 172]
abbrev dktX1_countAt_2 : List UInt8 := dkwX1_countAt_2 ++ []
def dkwX1_countAt_1 : List UInt8 := [182, 0, 75, 192, 0, 87, 58, 5, 29, 25, 5, 180, 0, 151, 153, 0, 22, 25, 5, 180, 0, 155, 43]
abbrev dktX1_countAt_1 : List UInt8 := dkwX1_countAt_1 ++ dktX1_countAt_2
def dkwX1_countAt_0 : List UInt8 := [3, 62, 3, 54, 4, 21, 4, 42, 180, 0, 29, 182, 0, 64, 162, 0, 54, 42, 180, 0, 29, 21, 4]
abbrev dktX1_countAt_0 : List UInt8 := dkwX1_countAt_0 ++ dktX1_countAt_1
theorem dksX1_countAt_0 : cX1_countAt.data.toList.drop 0 = dktX1_countAt_0 := by decide +kernel
theorem dksX1_countAt_1 : cX1_countAt.data.toList.drop 23 = dktX1_countAt_1 := dk_seg dksX1_countAt_0 23 rfl rfl
theorem dksX1_countAt_2 : cX1_countAt.data.toList.drop 46 = dktX1_countAt_2 := dk_seg dksX1_countAt_1 23 rfl rfl
theorem dX1_countAt_0 : decode cX1_countAt 0 = .ok (.iconst 0, 1) := dk_3 (dk_at dksX1_countAt_0 0 rfl rfl)
theorem dX1_countAt_1 : decode cX1_countAt 1 = .ok (.istore_n 3, 1) := dk_62 (dk_at dksX1_countAt_0 1 rfl rfl)
theorem dX1_countAt_2 : decode cX1_countAt 2 = .ok (.iconst 0, 1) := dk_3 (dk_at dksX1_countAt_0 2 rfl rfl)
theorem dX1_countAt_3 : decode cX1_countAt 3 = .ok (.istore 4, 2) := dk_54 4 (dk_at dksX1_countAt_0 3 rfl rfl)
theorem dX1_countAt_5 : decode cX1_countAt 5 = .ok (.iload 4, 2) := dk_21 4 (dk_at dksX1_countAt_0 5 rfl rfl)
theorem dX1_countAt_7 : decode cX1_countAt 7 = .ok (.aload_n 0, 1) := dk_42 (dk_at dksX1_countAt_0 7 rfl rfl)
theorem dX1_countAt_8 : decode cX1_countAt 8 = .ok (.getfield 29, 3) := dk_180 0 29 (dk_at dksX1_countAt_0 8 rfl rfl)
theorem dX1_countAt_11 : decode cX1_countAt 11 = .ok (.invokevirtual 64, 3) := dk_182 0 64 (dk_at dksX1_countAt_0 11 rfl rfl)
theorem dX1_countAt_14 : decode cX1_countAt 14 = .ok (.if_icmp .ge 54, 3) := dk_162 0 54 (dk_at dksX1_countAt_0 14 rfl rfl)
theorem dX1_countAt_17 : decode cX1_countAt 17 = .ok (.aload_n 0, 1) := dk_42 (dk_at dksX1_countAt_0 17 rfl rfl)
theorem dX1_countAt_18 : decode cX1_countAt 18 = .ok (.getfield 29, 3) := dk_180 0 29 (dk_at dksX1_countAt_0 18 rfl rfl)
theorem dX1_countAt_21 : decode cX1_countAt 21 = .ok (.iload 4, 2) := dk_21 4 (dk_at dksX1_countAt_0 21 rfl rfl)
theorem dX1_countAt_23 : decode cX1_countAt 23 = .ok (.invokevirtual 75, 3) := dk_182 0 75 (dk_at dksX1_countAt_1 0 rfl rfl)
theorem dX1_countAt_26 : decode cX1_countAt 26 = .ok (.checkcast 87, 3) := dk_192 0 87 (dk_at dksX1_countAt_1 3 rfl rfl)
theorem dX1_countAt_29 : decode cX1_countAt 29 = .ok (.astore 5, 2) := dk_58 5 (dk_at dksX1_countAt_1 6 rfl rfl)
theorem dX1_countAt_31 : decode cX1_countAt 31 = .ok (.iload_n 3, 1) := dk_29 (dk_at dksX1_countAt_1 8 rfl rfl)
theorem dX1_countAt_32 : decode cX1_countAt 32 = .ok (.aload 5, 2) := dk_25 5 (dk_at dksX1_countAt_1 9 rfl rfl)
theorem dX1_countAt_34 : decode cX1_countAt 34 = .ok (.getfield 151, 3) := dk_180 0 151 (dk_at dksX1_countAt_1 11 rfl rfl)
theorem dX1_countAt_37 : decode cX1_countAt 37 = .ok (.ifCond .eq 22, 3) := dk_153 0 22 (dk_at dksX1_countAt_1 14 rfl rfl)
theorem dX1_countAt_40 : decode cX1_countAt 40 = .ok (.aload 5, 2) := dk_25 5 (dk_at dksX1_countAt_1 17 rfl rfl)
theorem dX1_countAt_42 : decode cX1_countAt 42 = .ok (.getfield 155, 3) := dk_180 0 155 (dk_at dksX1_countAt_1 19 rfl rfl)
theorem dX1_countAt_45 : decode cX1_countAt 45 = .ok (.aload_n 1, 1) := dk_43 (dk_at dksX1_countAt_1 22 rfl rfl)
theorem dX1_countAt_46 : decode cX1_countAt 46 = .ok (.invokeinterface 159 2, 5) := by decide +kernel
theorem dX1_countAt_51 : decode cX1_countAt 51 = .ok (.iload_n 2, 1) := dk_28 (dk_at dksX1_countAt_2 5 rfl rfl)
theorem dX1_countAt_52 : decode cX1_countAt 52 = .ok (.if_icmp .ne 7, 3) := dk_160 0 7 (dk_at dksX1_countAt_2 6 rfl rfl)
theorem dX1_countAt_55 : decode cX1_countAt 55 = .ok (.iconst 1, 1) := dk_4 (dk_at dksX1_countAt_2 9 rfl rfl)
theorem dX1_countAt_56 : decode cX1_countAt 56 = .ok (.goto 4, 3) := dk_167 0 4 (dk_at dksX1_countAt_2 10 rfl rfl)
theorem dX1_countAt_59 : decode cX1_countAt 59 = .ok (.iconst 0, 1) := dk_3 (dk_at dksX1_countAt_2 13 rfl rfl)
theorem dX1_countAt_60 : decode cX1_countAt 60 = .ok (.iadd, 1) := dk_96 (dk_at dksX1_countAt_2 14 rfl rfl)
theorem dX1_countAt_61 : decode cX1_countAt 61 = .ok (.istore_n 3, 1) := dk_62 (dk_at dksX1_countAt_2 15 rfl rfl)
theorem dX1_countAt_62 : decode cX1_countAt 62 = .ok (.iinc 4 1, 3) := dk_132 4 1 (dk_at dksX1_countAt_2 16 rfl rfl)
theorem dX1_countAt_65 : decode cX1_countAt 65 = .ok (.goto (-60), 3) := dk_167 255 196 (dk_at dksX1_countAt_2 19 rfl rfl)
theorem dX1_countAt_68 : decode cX1_countAt 68 = .ok (.iload_n 3, 1) := dk_29 (dk_at dksX1_countAt_2 22 rfl rfl)
theorem dX1_countAt_69 : decode cX1_countAt 69 = .ok (.ireturn, 1) := dk_172 (dk_at dksX1_countAt_2 23 rfl rfl)
abbrev cX1_woven : ByteArray := prog_1_method_38_code
def yX1_woven : MethodName := ⟨RX1, "woven", "()I"⟩
def dkwX1_woven_0 : List UInt8 := [42, 16, 121, 182, 1, 0, 172]
abbrev dktX1_woven_0 : List UInt8 := dkwX1_woven_0 ++ []
theorem dksX1_woven_0 : cX1_woven.data.toList.drop 0 = dktX1_woven_0 := by decide +kernel
theorem dX1_woven_0 : decode cX1_woven 0 = .ok (.aload_n 0, 1) := dk_42 (dk_at dksX1_woven_0 0 rfl rfl)
theorem dX1_woven_1 : decode cX1_woven 1 = .ok (.bipush 121, 2) := dk_16 121 (dk_at dksX1_woven_0 1 rfl rfl)
theorem dX1_woven_3 : decode cX1_woven 3 = .ok (.invokevirtual 256, 3) := dk_182 1 0 (dk_at dksX1_woven_0 3 rfl rfl)
theorem dX1_woven_6 : decode cX1_woven 6 = .ok (.ireturn, 1) := dk_172 (dk_at dksX1_woven_0 6 rfl rfl)
abbrev cX1_points : ByteArray := prog_1_method_43_code
def yX1_points : MethodName := ⟨RX1, "points", "()I"⟩
def dkwX1_points_0 : List UInt8 := [42, 180, 0, 42, 180, 1, 18, 172]
abbrev dktX1_points_0 : List UInt8 := dkwX1_points_0 ++ []
theorem dksX1_points_0 : cX1_points.data.toList.drop 0 = dktX1_points_0 := by decide +kernel
theorem dX1_points_0 : decode cX1_points 0 = .ok (.aload_n 0, 1) := dk_42 (dk_at dksX1_points_0 0 rfl rfl)
theorem dX1_points_1 : decode cX1_points 1 = .ok (.getfield 42, 3) := dk_180 0 42 (dk_at dksX1_points_0 1 rfl rfl)
theorem dX1_points_4 : decode cX1_points 4 = .ok (.getfield 274, 3) := dk_180 1 18 (dk_at dksX1_points_0 4 rfl rfl)
theorem dX1_points_7 : decode cX1_points 7 = .ok (.ireturn, 1) := dk_172 (dk_at dksX1_points_0 7 rfl rfl)
abbrev cX1_asked : ByteArray := prog_1_method_44_code
def yX1_asked : MethodName := ⟨RX1, "asked", "()I"⟩
def dkwX1_asked_0 : List UInt8 := [42, 180, 0, 42, 180, 1, 21, 172]
abbrev dktX1_asked_0 : List UInt8 := dkwX1_asked_0 ++ []
theorem dksX1_asked_0 : cX1_asked.data.toList.drop 0 = dktX1_asked_0 := by decide +kernel
theorem dX1_asked_0 : decode cX1_asked 0 = .ok (.aload_n 0, 1) := dk_42 (dk_at dksX1_asked_0 0 rfl rfl)
theorem dX1_asked_1 : decode cX1_asked 1 = .ok (.getfield 42, 3) := dk_180 0 42 (dk_at dksX1_asked_0 1 rfl rfl)
theorem dX1_asked_4 : decode cX1_asked 4 = .ok (.getfield 277, 3) := dk_180 1 21 (dk_at dksX1_asked_0 4 rfl rfl)
theorem dX1_asked_7 : decode cX1_asked 7 = .ok (.ireturn, 1) := dk_172 (dk_at dksX1_asked_0 7 rfl rfl)
abbrev cX1_traceLength : ByteArray := prog_1_method_45_code
def yX1_traceLength : MethodName := ⟨RX1, "traceLength", "()I"⟩
def dkwX1_traceLength_0 : List UInt8 := [42, 180, 0, 42, 180, 1, 24, 182, 1, 28, 172]
abbrev dktX1_traceLength_0 : List UInt8 := dkwX1_traceLength_0 ++ []
theorem dksX1_traceLength_0 : cX1_traceLength.data.toList.drop 0 = dktX1_traceLength_0 := by decide +kernel
theorem dX1_traceLength_0 : decode cX1_traceLength 0 = .ok (.aload_n 0, 1) := dk_42 (dk_at dksX1_traceLength_0 0 rfl rfl)
theorem dX1_traceLength_1 : decode cX1_traceLength 1 = .ok (.getfield 42, 3) := dk_180 0 42 (dk_at dksX1_traceLength_0 1 rfl rfl)
theorem dX1_traceLength_4 : decode cX1_traceLength 4 = .ok (.getfield 280, 3) := dk_180 1 24 (dk_at dksX1_traceLength_0 4 rfl rfl)
theorem dX1_traceLength_7 : decode cX1_traceLength 7 = .ok (.invokevirtual 284, 3) := dk_182 1 28 (dk_at dksX1_traceLength_0 7 rfl rfl)
theorem dX1_traceLength_10 : decode cX1_traceLength 10 = .ok (.ireturn, 1) := dk_172 (dk_at dksX1_traceLength_0 10 rfl rfl)
abbrev cX1_traceSum : ByteArray := prog_1_method_50_code
def yX1_traceSum : MethodName := ⟨RX1, "traceSum", "()J"⟩
def dkwX1_traceSum_2 : List UInt8 := [180, 1, 39, 29, 46, 133, 105, 97, 105, 97, 64, 132, 3, 1, 167, 255, 200, 31, 173]
abbrev dktX1_traceSum_2 : List UInt8 := dkwX1_traceSum_2 ++ []
def dkwX1_traceSum_1 : List UInt8 := [180, 0, 42, 180, 1, 24, 180, 1, 35, 29, 46, 133, 20, 1, 41, 42, 180, 0, 42, 180, 1, 24]
abbrev dktX1_traceSum_1 : List UInt8 := dkwX1_traceSum_1 ++ dktX1_traceSum_2
def dkwX1_traceSum_0 : List UInt8 := [9, 64, 3, 62, 29, 42, 180, 0, 42, 180, 1, 24, 182, 1, 28, 162, 0, 48, 31, 29, 133, 10, 97, 42]
abbrev dktX1_traceSum_0 : List UInt8 := dkwX1_traceSum_0 ++ dktX1_traceSum_1
theorem dksX1_traceSum_0 : cX1_traceSum.data.toList.drop 0 = dktX1_traceSum_0 := by decide +kernel
theorem dksX1_traceSum_1 : cX1_traceSum.data.toList.drop 24 = dktX1_traceSum_1 := dk_seg dksX1_traceSum_0 24 rfl rfl
theorem dksX1_traceSum_2 : cX1_traceSum.data.toList.drop 46 = dktX1_traceSum_2 := dk_seg dksX1_traceSum_1 22 rfl rfl
theorem dX1_traceSum_0 : decode cX1_traceSum 0 = .ok (.lconst 0, 1) := dk_9 (dk_at dksX1_traceSum_0 0 rfl rfl)
theorem dX1_traceSum_1 : decode cX1_traceSum 1 = .ok (.lstore_n 1, 1) := dk_64 (dk_at dksX1_traceSum_0 1 rfl rfl)
theorem dX1_traceSum_2 : decode cX1_traceSum 2 = .ok (.iconst 0, 1) := dk_3 (dk_at dksX1_traceSum_0 2 rfl rfl)
theorem dX1_traceSum_3 : decode cX1_traceSum 3 = .ok (.istore_n 3, 1) := dk_62 (dk_at dksX1_traceSum_0 3 rfl rfl)
theorem dX1_traceSum_4 : decode cX1_traceSum 4 = .ok (.iload_n 3, 1) := dk_29 (dk_at dksX1_traceSum_0 4 rfl rfl)
theorem dX1_traceSum_5 : decode cX1_traceSum 5 = .ok (.aload_n 0, 1) := dk_42 (dk_at dksX1_traceSum_0 5 rfl rfl)
theorem dX1_traceSum_6 : decode cX1_traceSum 6 = .ok (.getfield 42, 3) := dk_180 0 42 (dk_at dksX1_traceSum_0 6 rfl rfl)
theorem dX1_traceSum_9 : decode cX1_traceSum 9 = .ok (.getfield 280, 3) := dk_180 1 24 (dk_at dksX1_traceSum_0 9 rfl rfl)
theorem dX1_traceSum_12 : decode cX1_traceSum 12 = .ok (.invokevirtual 284, 3) := dk_182 1 28 (dk_at dksX1_traceSum_0 12 rfl rfl)
theorem dX1_traceSum_15 : decode cX1_traceSum 15 = .ok (.if_icmp .ge 48, 3) := dk_162 0 48 (dk_at dksX1_traceSum_0 15 rfl rfl)
theorem dX1_traceSum_18 : decode cX1_traceSum 18 = .ok (.lload_n 1, 1) := dk_31 (dk_at dksX1_traceSum_0 18 rfl rfl)
theorem dX1_traceSum_19 : decode cX1_traceSum 19 = .ok (.iload_n 3, 1) := dk_29 (dk_at dksX1_traceSum_0 19 rfl rfl)
theorem dX1_traceSum_20 : decode cX1_traceSum 20 = .ok (.i2l, 1) := dk_133 (dk_at dksX1_traceSum_0 20 rfl rfl)
theorem dX1_traceSum_21 : decode cX1_traceSum 21 = .ok (.lconst 1, 1) := dk_10 (dk_at dksX1_traceSum_0 21 rfl rfl)
theorem dX1_traceSum_22 : decode cX1_traceSum 22 = .ok (.ladd, 1) := dk_97 (dk_at dksX1_traceSum_0 22 rfl rfl)
theorem dX1_traceSum_23 : decode cX1_traceSum 23 = .ok (.aload_n 0, 1) := dk_42 (dk_at dksX1_traceSum_0 23 rfl rfl)
theorem dX1_traceSum_24 : decode cX1_traceSum 24 = .ok (.getfield 42, 3) := dk_180 0 42 (dk_at dksX1_traceSum_1 0 rfl rfl)
theorem dX1_traceSum_27 : decode cX1_traceSum 27 = .ok (.getfield 280, 3) := dk_180 1 24 (dk_at dksX1_traceSum_1 3 rfl rfl)
theorem dX1_traceSum_30 : decode cX1_traceSum 30 = .ok (.getfield 291, 3) := dk_180 1 35 (dk_at dksX1_traceSum_1 6 rfl rfl)
theorem dX1_traceSum_33 : decode cX1_traceSum 33 = .ok (.iload_n 3, 1) := dk_29 (dk_at dksX1_traceSum_1 9 rfl rfl)
theorem dX1_traceSum_34 : decode cX1_traceSum 34 = .ok (.iaload, 1) := dk_46 (dk_at dksX1_traceSum_1 10 rfl rfl)
theorem dX1_traceSum_35 : decode cX1_traceSum 35 = .ok (.i2l, 1) := dk_133 (dk_at dksX1_traceSum_1 11 rfl rfl)
theorem dX1_traceSum_36 : decode cX1_traceSum 36 = .ok (.ldc2_w 297, 3) := dk_20 1 41 (dk_at dksX1_traceSum_1 12 rfl rfl)
theorem dX1_traceSum_39 : decode cX1_traceSum 39 = .ok (.aload_n 0, 1) := dk_42 (dk_at dksX1_traceSum_1 15 rfl rfl)
theorem dX1_traceSum_40 : decode cX1_traceSum 40 = .ok (.getfield 42, 3) := dk_180 0 42 (dk_at dksX1_traceSum_1 16 rfl rfl)
theorem dX1_traceSum_43 : decode cX1_traceSum 43 = .ok (.getfield 280, 3) := dk_180 1 24 (dk_at dksX1_traceSum_1 19 rfl rfl)
theorem dX1_traceSum_46 : decode cX1_traceSum 46 = .ok (.getfield 295, 3) := dk_180 1 39 (dk_at dksX1_traceSum_2 0 rfl rfl)
theorem dX1_traceSum_49 : decode cX1_traceSum 49 = .ok (.iload_n 3, 1) := dk_29 (dk_at dksX1_traceSum_2 3 rfl rfl)
theorem dX1_traceSum_50 : decode cX1_traceSum 50 = .ok (.iaload, 1) := dk_46 (dk_at dksX1_traceSum_2 4 rfl rfl)
theorem dX1_traceSum_51 : decode cX1_traceSum 51 = .ok (.i2l, 1) := dk_133 (dk_at dksX1_traceSum_2 5 rfl rfl)
theorem dX1_traceSum_52 : decode cX1_traceSum 52 = .ok (.lmul, 1) := dk_105 (dk_at dksX1_traceSum_2 6 rfl rfl)
theorem dX1_traceSum_53 : decode cX1_traceSum 53 = .ok (.ladd, 1) := dk_97 (dk_at dksX1_traceSum_2 7 rfl rfl)
theorem dX1_traceSum_54 : decode cX1_traceSum 54 = .ok (.lmul, 1) := dk_105 (dk_at dksX1_traceSum_2 8 rfl rfl)
theorem dX1_traceSum_55 : decode cX1_traceSum 55 = .ok (.ladd, 1) := dk_97 (dk_at dksX1_traceSum_2 9 rfl rfl)
theorem dX1_traceSum_56 : decode cX1_traceSum 56 = .ok (.lstore_n 1, 1) := dk_64 (dk_at dksX1_traceSum_2 10 rfl rfl)
theorem dX1_traceSum_57 : decode cX1_traceSum 57 = .ok (.iinc 3 1, 3) := dk_132 3 1 (dk_at dksX1_traceSum_2 11 rfl rfl)
theorem dX1_traceSum_60 : decode cX1_traceSum 60 = .ok (.goto (-56), 3) := dk_167 255 200 (dk_at dksX1_traceSum_2 14 rfl rfl)
theorem dX1_traceSum_63 : decode cX1_traceSum 63 = .ok (.lload_n 1, 1) := dk_31 (dk_at dksX1_traceSum_2 17 rfl rfl)
theorem dX1_traceSum_64 : decode cX1_traceSum 64 = .ok (.lreturn, 1) := dk_173 (dk_at dksX1_traceSum_2 18 rfl rfl)
abbrev cX1_isSound : ByteArray := prog_1_method_54_code
def yX1_isSound : MethodName := ⟨RX1, "isSound", "()Z"⟩
def dkwX1_isSound_6 : List UInt8 := [180, 1, 24, 182, 1, 50, 153, 0, 7, 4, 167, 0, 4, 3, 172]
abbrev dktX1_isSound_6 : List UInt8 := dkwX1_isSound_6 ++ []
def dkwX1_isSound_5 : List UInt8 := [180, 1, 15, 42, 180, 0, 49, 180, 1, 15, 160, 0, 27, 42, 180, 0, 46, 180, 1, 24, 42, 180, 0, 49]
abbrev dktX1_isSound_5 : List UInt8 := dkwX1_isSound_5 ++ dktX1_isSound_6
def dkwX1_isSound_4 : List UInt8 := [182, 1, 4, 42, 180, 0, 46, 180, 1, 8, 42, 180, 0, 49, 180, 1, 8, 160, 0, 44, 42, 180, 0, 46]
abbrev dktX1_isSound_4 : List UInt8 := dkwX1_isSound_4 ++ dktX1_isSound_5
def dkwX1_isSound_3 : List UInt8 := [3, 3, 4, 182, 1, 4, 42, 180, 0, 49, 42, 180, 0, 20, 27, 182, 0, 75, 192, 0, 79, 3, 3, 3]
abbrev dktX1_isSound_3 : List UInt8 := dkwX1_isSound_3 ++ dktX1_isSound_4
def dkwX1_isSound_2 : List UInt8 := [42, 182, 0, 252, 153, 0, 5, 4, 172, 42, 180, 0, 46, 42, 180, 0, 20, 27, 182, 0, 75, 192, 0, 79]
abbrev dktX1_isSound_2 : List UInt8 := dkwX1_isSound_2 ++ dktX1_isSound_3
def dkwX1_isSound_1 : List UInt8 := [3, 182, 0, 89, 154, 0, 9, 132, 1, 1, 167, 255, 224, 27, 42, 180, 0, 20, 182, 0, 64, 159, 0, 10]
abbrev dktX1_isSound_1 : List UInt8 := dkwX1_isSound_1 ++ dktX1_isSound_2
def dkwX1_isSound_0 : List UInt8 := [3, 60, 27, 42, 180, 0, 20, 182, 0, 64, 162, 0, 27, 42, 180, 0, 20, 27, 182, 0, 75, 192, 0, 79]
abbrev dktX1_isSound_0 : List UInt8 := dkwX1_isSound_0 ++ dktX1_isSound_1
theorem dksX1_isSound_0 : cX1_isSound.data.toList.drop 0 = dktX1_isSound_0 := by decide +kernel
theorem dksX1_isSound_1 : cX1_isSound.data.toList.drop 24 = dktX1_isSound_1 := dk_seg dksX1_isSound_0 24 rfl rfl
theorem dksX1_isSound_2 : cX1_isSound.data.toList.drop 48 = dktX1_isSound_2 := dk_seg dksX1_isSound_1 24 rfl rfl
theorem dksX1_isSound_3 : cX1_isSound.data.toList.drop 72 = dktX1_isSound_3 := dk_seg dksX1_isSound_2 24 rfl rfl
theorem dksX1_isSound_4 : cX1_isSound.data.toList.drop 96 = dktX1_isSound_4 := dk_seg dksX1_isSound_3 24 rfl rfl
theorem dksX1_isSound_5 : cX1_isSound.data.toList.drop 120 = dktX1_isSound_5 := dk_seg dksX1_isSound_4 24 rfl rfl
theorem dksX1_isSound_6 : cX1_isSound.data.toList.drop 144 = dktX1_isSound_6 := dk_seg dksX1_isSound_5 24 rfl rfl
theorem dX1_isSound_0 : decode cX1_isSound 0 = .ok (.iconst 0, 1) := dk_3 (dk_at dksX1_isSound_0 0 rfl rfl)
theorem dX1_isSound_1 : decode cX1_isSound 1 = .ok (.istore_n 1, 1) := dk_60 (dk_at dksX1_isSound_0 1 rfl rfl)
theorem dX1_isSound_2 : decode cX1_isSound 2 = .ok (.iload_n 1, 1) := dk_27 (dk_at dksX1_isSound_0 2 rfl rfl)
theorem dX1_isSound_3 : decode cX1_isSound 3 = .ok (.aload_n 0, 1) := dk_42 (dk_at dksX1_isSound_0 3 rfl rfl)
theorem dX1_isSound_4 : decode cX1_isSound 4 = .ok (.getfield 20, 3) := dk_180 0 20 (dk_at dksX1_isSound_0 4 rfl rfl)
theorem dX1_isSound_7 : decode cX1_isSound 7 = .ok (.invokevirtual 64, 3) := dk_182 0 64 (dk_at dksX1_isSound_0 7 rfl rfl)
theorem dX1_isSound_10 : decode cX1_isSound 10 = .ok (.if_icmp .ge 27, 3) := dk_162 0 27 (dk_at dksX1_isSound_0 10 rfl rfl)
theorem dX1_isSound_13 : decode cX1_isSound 13 = .ok (.aload_n 0, 1) := dk_42 (dk_at dksX1_isSound_0 13 rfl rfl)
theorem dX1_isSound_14 : decode cX1_isSound 14 = .ok (.getfield 20, 3) := dk_180 0 20 (dk_at dksX1_isSound_0 14 rfl rfl)
theorem dX1_isSound_17 : decode cX1_isSound 17 = .ok (.iload_n 1, 1) := dk_27 (dk_at dksX1_isSound_0 17 rfl rfl)
theorem dX1_isSound_18 : decode cX1_isSound 18 = .ok (.invokevirtual 75, 3) := dk_182 0 75 (dk_at dksX1_isSound_0 18 rfl rfl)
theorem dX1_isSound_21 : decode cX1_isSound 21 = .ok (.checkcast 79, 3) := dk_192 0 79 (dk_at dksX1_isSound_0 21 rfl rfl)
theorem dX1_isSound_24 : decode cX1_isSound 24 = .ok (.iconst 0, 1) := dk_3 (dk_at dksX1_isSound_1 0 rfl rfl)
theorem dX1_isSound_25 : decode cX1_isSound 25 = .ok (.invokevirtual 89, 3) := dk_182 0 89 (dk_at dksX1_isSound_1 1 rfl rfl)
theorem dX1_isSound_28 : decode cX1_isSound 28 = .ok (.ifCond .ne 9, 3) := dk_154 0 9 (dk_at dksX1_isSound_1 4 rfl rfl)
theorem dX1_isSound_31 : decode cX1_isSound 31 = .ok (.iinc 1 1, 3) := dk_132 1 1 (dk_at dksX1_isSound_1 7 rfl rfl)
theorem dX1_isSound_34 : decode cX1_isSound 34 = .ok (.goto (-32), 3) := dk_167 255 224 (dk_at dksX1_isSound_1 10 rfl rfl)
theorem dX1_isSound_37 : decode cX1_isSound 37 = .ok (.iload_n 1, 1) := dk_27 (dk_at dksX1_isSound_1 13 rfl rfl)
theorem dX1_isSound_38 : decode cX1_isSound 38 = .ok (.aload_n 0, 1) := dk_42 (dk_at dksX1_isSound_1 14 rfl rfl)
theorem dX1_isSound_39 : decode cX1_isSound 39 = .ok (.getfield 20, 3) := dk_180 0 20 (dk_at dksX1_isSound_1 15 rfl rfl)
theorem dX1_isSound_42 : decode cX1_isSound 42 = .ok (.invokevirtual 64, 3) := dk_182 0 64 (dk_at dksX1_isSound_1 18 rfl rfl)
theorem dX1_isSound_45 : decode cX1_isSound 45 = .ok (.if_icmp .eq 10, 3) := dk_159 0 10 (dk_at dksX1_isSound_1 21 rfl rfl)
theorem dX1_isSound_48 : decode cX1_isSound 48 = .ok (.aload_n 0, 1) := dk_42 (dk_at dksX1_isSound_2 0 rfl rfl)
theorem dX1_isSound_49 : decode cX1_isSound 49 = .ok (.invokevirtual 252, 3) := dk_182 0 252 (dk_at dksX1_isSound_2 1 rfl rfl)
theorem dX1_isSound_52 : decode cX1_isSound 52 = .ok (.ifCond .eq 5, 3) := dk_153 0 5 (dk_at dksX1_isSound_2 4 rfl rfl)
theorem dX1_isSound_55 : decode cX1_isSound 55 = .ok (.iconst 1, 1) := dk_4 (dk_at dksX1_isSound_2 7 rfl rfl)
theorem dX1_isSound_56 : decode cX1_isSound 56 = .ok (.ireturn, 1) := dk_172 (dk_at dksX1_isSound_2 8 rfl rfl)
theorem dX1_isSound_57 : decode cX1_isSound 57 = .ok (.aload_n 0, 1) := dk_42 (dk_at dksX1_isSound_2 9 rfl rfl)
theorem dX1_isSound_58 : decode cX1_isSound 58 = .ok (.getfield 46, 3) := dk_180 0 46 (dk_at dksX1_isSound_2 10 rfl rfl)
theorem dX1_isSound_61 : decode cX1_isSound 61 = .ok (.aload_n 0, 1) := dk_42 (dk_at dksX1_isSound_2 13 rfl rfl)
theorem dX1_isSound_62 : decode cX1_isSound 62 = .ok (.getfield 20, 3) := dk_180 0 20 (dk_at dksX1_isSound_2 14 rfl rfl)
theorem dX1_isSound_65 : decode cX1_isSound 65 = .ok (.iload_n 1, 1) := dk_27 (dk_at dksX1_isSound_2 17 rfl rfl)
theorem dX1_isSound_66 : decode cX1_isSound 66 = .ok (.invokevirtual 75, 3) := dk_182 0 75 (dk_at dksX1_isSound_2 18 rfl rfl)
theorem dX1_isSound_69 : decode cX1_isSound 69 = .ok (.checkcast 79, 3) := dk_192 0 79 (dk_at dksX1_isSound_2 21 rfl rfl)
theorem dX1_isSound_72 : decode cX1_isSound 72 = .ok (.iconst 0, 1) := dk_3 (dk_at dksX1_isSound_3 0 rfl rfl)
theorem dX1_isSound_73 : decode cX1_isSound 73 = .ok (.iconst 0, 1) := dk_3 (dk_at dksX1_isSound_3 1 rfl rfl)
theorem dX1_isSound_74 : decode cX1_isSound 74 = .ok (.iconst 1, 1) := dk_4 (dk_at dksX1_isSound_3 2 rfl rfl)
theorem dX1_isSound_75 : decode cX1_isSound 75 = .ok (.invokevirtual 260, 3) := dk_182 1 4 (dk_at dksX1_isSound_3 3 rfl rfl)
theorem dX1_isSound_78 : decode cX1_isSound 78 = .ok (.aload_n 0, 1) := dk_42 (dk_at dksX1_isSound_3 6 rfl rfl)
theorem dX1_isSound_79 : decode cX1_isSound 79 = .ok (.getfield 49, 3) := dk_180 0 49 (dk_at dksX1_isSound_3 7 rfl rfl)
theorem dX1_isSound_82 : decode cX1_isSound 82 = .ok (.aload_n 0, 1) := dk_42 (dk_at dksX1_isSound_3 10 rfl rfl)
theorem dX1_isSound_83 : decode cX1_isSound 83 = .ok (.getfield 20, 3) := dk_180 0 20 (dk_at dksX1_isSound_3 11 rfl rfl)
theorem dX1_isSound_86 : decode cX1_isSound 86 = .ok (.iload_n 1, 1) := dk_27 (dk_at dksX1_isSound_3 14 rfl rfl)
theorem dX1_isSound_87 : decode cX1_isSound 87 = .ok (.invokevirtual 75, 3) := dk_182 0 75 (dk_at dksX1_isSound_3 15 rfl rfl)
theorem dX1_isSound_90 : decode cX1_isSound 90 = .ok (.checkcast 79, 3) := dk_192 0 79 (dk_at dksX1_isSound_3 18 rfl rfl)
theorem dX1_isSound_93 : decode cX1_isSound 93 = .ok (.iconst 0, 1) := dk_3 (dk_at dksX1_isSound_3 21 rfl rfl)
theorem dX1_isSound_94 : decode cX1_isSound 94 = .ok (.iconst 0, 1) := dk_3 (dk_at dksX1_isSound_3 22 rfl rfl)
theorem dX1_isSound_95 : decode cX1_isSound 95 = .ok (.iconst 0, 1) := dk_3 (dk_at dksX1_isSound_3 23 rfl rfl)
theorem dX1_isSound_96 : decode cX1_isSound 96 = .ok (.invokevirtual 260, 3) := dk_182 1 4 (dk_at dksX1_isSound_4 0 rfl rfl)
theorem dX1_isSound_99 : decode cX1_isSound 99 = .ok (.aload_n 0, 1) := dk_42 (dk_at dksX1_isSound_4 3 rfl rfl)
theorem dX1_isSound_100 : decode cX1_isSound 100 = .ok (.getfield 46, 3) := dk_180 0 46 (dk_at dksX1_isSound_4 4 rfl rfl)
theorem dX1_isSound_103 : decode cX1_isSound 103 = .ok (.getfield 264, 3) := dk_180 1 8 (dk_at dksX1_isSound_4 7 rfl rfl)
theorem dX1_isSound_106 : decode cX1_isSound 106 = .ok (.aload_n 0, 1) := dk_42 (dk_at dksX1_isSound_4 10 rfl rfl)
theorem dX1_isSound_107 : decode cX1_isSound 107 = .ok (.getfield 49, 3) := dk_180 0 49 (dk_at dksX1_isSound_4 11 rfl rfl)
theorem dX1_isSound_110 : decode cX1_isSound 110 = .ok (.getfield 264, 3) := dk_180 1 8 (dk_at dksX1_isSound_4 14 rfl rfl)
theorem dX1_isSound_113 : decode cX1_isSound 113 = .ok (.if_icmp .ne 44, 3) := dk_160 0 44 (dk_at dksX1_isSound_4 17 rfl rfl)
theorem dX1_isSound_116 : decode cX1_isSound 116 = .ok (.aload_n 0, 1) := dk_42 (dk_at dksX1_isSound_4 20 rfl rfl)
theorem dX1_isSound_117 : decode cX1_isSound 117 = .ok (.getfield 46, 3) := dk_180 0 46 (dk_at dksX1_isSound_4 21 rfl rfl)
theorem dX1_isSound_120 : decode cX1_isSound 120 = .ok (.getfield 271, 3) := dk_180 1 15 (dk_at dksX1_isSound_5 0 rfl rfl)
theorem dX1_isSound_123 : decode cX1_isSound 123 = .ok (.aload_n 0, 1) := dk_42 (dk_at dksX1_isSound_5 3 rfl rfl)
theorem dX1_isSound_124 : decode cX1_isSound 124 = .ok (.getfield 49, 3) := dk_180 0 49 (dk_at dksX1_isSound_5 4 rfl rfl)
theorem dX1_isSound_127 : decode cX1_isSound 127 = .ok (.getfield 271, 3) := dk_180 1 15 (dk_at dksX1_isSound_5 7 rfl rfl)
theorem dX1_isSound_130 : decode cX1_isSound 130 = .ok (.if_icmp .ne 27, 3) := dk_160 0 27 (dk_at dksX1_isSound_5 10 rfl rfl)
theorem dX1_isSound_133 : decode cX1_isSound 133 = .ok (.aload_n 0, 1) := dk_42 (dk_at dksX1_isSound_5 13 rfl rfl)
theorem dX1_isSound_134 : decode cX1_isSound 134 = .ok (.getfield 46, 3) := dk_180 0 46 (dk_at dksX1_isSound_5 14 rfl rfl)
theorem dX1_isSound_137 : decode cX1_isSound 137 = .ok (.getfield 280, 3) := dk_180 1 24 (dk_at dksX1_isSound_5 17 rfl rfl)
theorem dX1_isSound_140 : decode cX1_isSound 140 = .ok (.aload_n 0, 1) := dk_42 (dk_at dksX1_isSound_5 20 rfl rfl)
theorem dX1_isSound_141 : decode cX1_isSound 141 = .ok (.getfield 49, 3) := dk_180 0 49 (dk_at dksX1_isSound_5 21 rfl rfl)
theorem dX1_isSound_144 : decode cX1_isSound 144 = .ok (.getfield 280, 3) := dk_180 1 24 (dk_at dksX1_isSound_6 0 rfl rfl)
theorem dX1_isSound_147 : decode cX1_isSound 147 = .ok (.invokevirtual 306, 3) := dk_182 1 50 (dk_at dksX1_isSound_6 3 rfl rfl)
theorem dX1_isSound_150 : decode cX1_isSound 150 = .ok (.ifCond .eq 7, 3) := dk_153 0 7 (dk_at dksX1_isSound_6 6 rfl rfl)
theorem dX1_isSound_153 : decode cX1_isSound 153 = .ok (.iconst 1, 1) := dk_4 (dk_at dksX1_isSound_6 9 rfl rfl)
theorem dX1_isSound_154 : decode cX1_isSound 154 = .ok (.goto 4, 3) := dk_167 0 4 (dk_at dksX1_isSound_6 10 rfl rfl)
theorem dX1_isSound_157 : decode cX1_isSound 157 = .ok (.iconst 0, 1) := dk_3 (dk_at dksX1_isSound_6 13 rfl rfl)
theorem dX1_isSound_158 : decode cX1_isSound 158 = .ok (.ireturn, 1) := dk_172 (dk_at dksX1_isSound_6 14 rfl rfl)
abbrev cX1_addClass : ByteArray := prog_1_method_20_code
def yX1_addClass : MethodName := ⟨RX1, "addClass", "(I)I"⟩
def dkwX1_addClass_3 : List UInt8 := [172]
abbrev dktX1_addClass_3 : List UInt8 := dkwX1_addClass_3 ++ []
def dkwX1_addClass_2 : List UInt8 := [182, 0, 64, 44, 183, 0, 175, 182, 0, 111, 87, 42, 182, 0, 178, 42, 180, 0, 20, 182, 0, 64, 4, 100]
abbrev dktX1_addClass_2 : List UInt8 := dkwX1_addClass_2 ++ dktX1_addClass_3
def dkwX1_addClass_1 : List UInt8 := [162, 0, 7, 4, 167, 0, 4, 3, 184, 0, 172, 42, 180, 0, 20, 187, 0, 79, 89, 42, 180, 0, 20]
abbrev dktX1_addClass_1 : List UInt8 := dkwX1_addClass_1 ++ dktX1_addClass_2
def dkwX1_addClass_0 : List UInt8 := [27, 2, 160, 0, 7, 1, 167, 0, 8, 42, 27, 182, 0, 169, 77, 42, 180, 0, 20, 182, 0, 64, 16, 6]
abbrev dktX1_addClass_0 : List UInt8 := dkwX1_addClass_0 ++ dktX1_addClass_1
theorem dksX1_addClass_0 : cX1_addClass.data.toList.drop 0 = dktX1_addClass_0 := by decide +kernel
theorem dksX1_addClass_1 : cX1_addClass.data.toList.drop 24 = dktX1_addClass_1 := dk_seg dksX1_addClass_0 24 rfl rfl
theorem dksX1_addClass_2 : cX1_addClass.data.toList.drop 47 = dktX1_addClass_2 := dk_seg dksX1_addClass_1 23 rfl rfl
theorem dksX1_addClass_3 : cX1_addClass.data.toList.drop 71 = dktX1_addClass_3 := dk_seg dksX1_addClass_2 24 rfl rfl
theorem dX1_addClass_0 : decode cX1_addClass 0 = .ok (.iload_n 1, 1) := dk_27 (dk_at dksX1_addClass_0 0 rfl rfl)
theorem dX1_addClass_1 : decode cX1_addClass 1 = .ok (.iconst (-1), 1) := dk_2 (dk_at dksX1_addClass_0 1 rfl rfl)
theorem dX1_addClass_2 : decode cX1_addClass 2 = .ok (.if_icmp .ne 7, 3) := dk_160 0 7 (dk_at dksX1_addClass_0 2 rfl rfl)
theorem dX1_addClass_5 : decode cX1_addClass 5 = .ok (.aconst_null, 1) := dk_1 (dk_at dksX1_addClass_0 5 rfl rfl)
theorem dX1_addClass_6 : decode cX1_addClass 6 = .ok (.goto 8, 3) := dk_167 0 8 (dk_at dksX1_addClass_0 6 rfl rfl)
theorem dX1_addClass_9 : decode cX1_addClass 9 = .ok (.aload_n 0, 1) := dk_42 (dk_at dksX1_addClass_0 9 rfl rfl)
theorem dX1_addClass_10 : decode cX1_addClass 10 = .ok (.iload_n 1, 1) := dk_27 (dk_at dksX1_addClass_0 10 rfl rfl)
theorem dX1_addClass_11 : decode cX1_addClass 11 = .ok (.invokevirtual 169, 3) := dk_182 0 169 (dk_at dksX1_addClass_0 11 rfl rfl)
theorem dX1_addClass_14 : decode cX1_addClass 14 = .ok (.astore_n 2, 1) := dk_77 (dk_at dksX1_addClass_0 14 rfl rfl)
theorem dX1_addClass_15 : decode cX1_addClass 15 = .ok (.aload_n 0, 1) := dk_42 (dk_at dksX1_addClass_0 15 rfl rfl)
theorem dX1_addClass_16 : decode cX1_addClass 16 = .ok (.getfield 20, 3) := dk_180 0 20 (dk_at dksX1_addClass_0 16 rfl rfl)
theorem dX1_addClass_19 : decode cX1_addClass 19 = .ok (.invokevirtual 64, 3) := dk_182 0 64 (dk_at dksX1_addClass_0 19 rfl rfl)
theorem dX1_addClass_22 : decode cX1_addClass 22 = .ok (.bipush 6, 2) := dk_16 6 (dk_at dksX1_addClass_0 22 rfl rfl)
theorem dX1_addClass_24 : decode cX1_addClass 24 = .ok (.if_icmp .ge 7, 3) := dk_162 0 7 (dk_at dksX1_addClass_1 0 rfl rfl)
theorem dX1_addClass_27 : decode cX1_addClass 27 = .ok (.iconst 1, 1) := dk_4 (dk_at dksX1_addClass_1 3 rfl rfl)
theorem dX1_addClass_28 : decode cX1_addClass 28 = .ok (.goto 4, 3) := dk_167 0 4 (dk_at dksX1_addClass_1 4 rfl rfl)
theorem dX1_addClass_31 : decode cX1_addClass 31 = .ok (.iconst 0, 1) := dk_3 (dk_at dksX1_addClass_1 7 rfl rfl)
theorem dX1_addClass_32 : decode cX1_addClass 32 = .ok (.invokestatic 172, 3) := dk_184 0 172 (dk_at dksX1_addClass_1 8 rfl rfl)
theorem dX1_addClass_35 : decode cX1_addClass 35 = .ok (.aload_n 0, 1) := dk_42 (dk_at dksX1_addClass_1 11 rfl rfl)
theorem dX1_addClass_36 : decode cX1_addClass 36 = .ok (.getfield 20, 3) := dk_180 0 20 (dk_at dksX1_addClass_1 12 rfl rfl)
theorem dX1_addClass_39 : decode cX1_addClass 39 = .ok (.new 79, 3) := dk_187 0 79 (dk_at dksX1_addClass_1 15 rfl rfl)
theorem dX1_addClass_42 : decode cX1_addClass 42 = .ok (.dup, 1) := dk_89 (dk_at dksX1_addClass_1 18 rfl rfl)
theorem dX1_addClass_43 : decode cX1_addClass 43 = .ok (.aload_n 0, 1) := dk_42 (dk_at dksX1_addClass_1 19 rfl rfl)
theorem dX1_addClass_44 : decode cX1_addClass 44 = .ok (.getfield 20, 3) := dk_180 0 20 (dk_at dksX1_addClass_1 20 rfl rfl)
theorem dX1_addClass_47 : decode cX1_addClass 47 = .ok (.invokevirtual 64, 3) := dk_182 0 64 (dk_at dksX1_addClass_2 0 rfl rfl)
theorem dX1_addClass_50 : decode cX1_addClass 50 = .ok (.aload_n 2, 1) := dk_44 (dk_at dksX1_addClass_2 3 rfl rfl)
theorem dX1_addClass_51 : decode cX1_addClass 51 = .ok (.invokespecial 175, 3) := dk_183 0 175 (dk_at dksX1_addClass_2 4 rfl rfl)
theorem dX1_addClass_54 : decode cX1_addClass 54 = .ok (.invokevirtual 111, 3) := dk_182 0 111 (dk_at dksX1_addClass_2 7 rfl rfl)
theorem dX1_addClass_57 : decode cX1_addClass 57 = .ok (.pop, 1) := dk_87 (dk_at dksX1_addClass_2 10 rfl rfl)
theorem dX1_addClass_58 : decode cX1_addClass 58 = .ok (.aload_n 0, 1) := dk_42 (dk_at dksX1_addClass_2 11 rfl rfl)
theorem dX1_addClass_59 : decode cX1_addClass 59 = .ok (.invokevirtual 178, 3) := dk_182 0 178 (dk_at dksX1_addClass_2 12 rfl rfl)
theorem dX1_addClass_62 : decode cX1_addClass 62 = .ok (.aload_n 0, 1) := dk_42 (dk_at dksX1_addClass_2 15 rfl rfl)
theorem dX1_addClass_63 : decode cX1_addClass 63 = .ok (.getfield 20, 3) := dk_180 0 20 (dk_at dksX1_addClass_2 16 rfl rfl)
theorem dX1_addClass_66 : decode cX1_addClass 66 = .ok (.invokevirtual 64, 3) := dk_182 0 64 (dk_at dksX1_addClass_2 19 rfl rfl)
theorem dX1_addClass_69 : decode cX1_addClass 69 = .ok (.iconst 1, 1) := dk_4 (dk_at dksX1_addClass_2 22 rfl rfl)
theorem dX1_addClass_70 : decode cX1_addClass 70 = .ok (.isub, 1) := dk_100 (dk_at dksX1_addClass_2 23 rfl rfl)
theorem dX1_addClass_71 : decode cX1_addClass 71 = .ok (.ireturn, 1) := dk_172 (dk_at dksX1_addClass_3 0 rfl rfl)
abbrev cX1_type : ByteArray := prog_1_method_8_code
def yX1_type : MethodName := ⟨RX1, "type", "(I)LWeaversgate$Type;"⟩
def dkwX1_type_1 : List UInt8 := [182, 0, 75, 192, 0, 79, 176]
abbrev dktX1_type_1 : List UInt8 := dkwX1_type_1 ++ []
def dkwX1_type_0 : List UInt8 := [27, 3, 42, 180, 0, 20, 182, 0, 64, 4, 100, 184, 0, 67, 184, 0, 71, 42, 180, 0, 20, 27]
abbrev dktX1_type_0 : List UInt8 := dkwX1_type_0 ++ dktX1_type_1
theorem dksX1_type_0 : cX1_type.data.toList.drop 0 = dktX1_type_0 := by decide +kernel
theorem dksX1_type_1 : cX1_type.data.toList.drop 22 = dktX1_type_1 := dk_seg dksX1_type_0 22 rfl rfl
theorem dX1_type_0 : decode cX1_type 0 = .ok (.iload_n 1, 1) := dk_27 (dk_at dksX1_type_0 0 rfl rfl)
theorem dX1_type_1 : decode cX1_type 1 = .ok (.iconst 0, 1) := dk_3 (dk_at dksX1_type_0 1 rfl rfl)
theorem dX1_type_2 : decode cX1_type 2 = .ok (.aload_n 0, 1) := dk_42 (dk_at dksX1_type_0 2 rfl rfl)
theorem dX1_type_3 : decode cX1_type 3 = .ok (.getfield 20, 3) := dk_180 0 20 (dk_at dksX1_type_0 3 rfl rfl)
theorem dX1_type_6 : decode cX1_type 6 = .ok (.invokevirtual 64, 3) := dk_182 0 64 (dk_at dksX1_type_0 6 rfl rfl)
theorem dX1_type_9 : decode cX1_type 9 = .ok (.iconst 1, 1) := dk_4 (dk_at dksX1_type_0 9 rfl rfl)
theorem dX1_type_10 : decode cX1_type 10 = .ok (.isub, 1) := dk_100 (dk_at dksX1_type_0 10 rfl rfl)
theorem dX1_type_11 : decode cX1_type 11 = .ok (.invokestatic 67, 3) := dk_184 0 67 (dk_at dksX1_type_0 11 rfl rfl)
theorem dX1_type_14 : decode cX1_type 14 = .ok (.invokestatic 71, 3) := dk_184 0 71 (dk_at dksX1_type_0 14 rfl rfl)
theorem dX1_type_17 : decode cX1_type 17 = .ok (.aload_n 0, 1) := dk_42 (dk_at dksX1_type_0 17 rfl rfl)
theorem dX1_type_18 : decode cX1_type 18 = .ok (.getfield 20, 3) := dk_180 0 20 (dk_at dksX1_type_0 18 rfl rfl)
theorem dX1_type_21 : decode cX1_type 21 = .ok (.iload_n 1, 1) := dk_27 (dk_at dksX1_type_0 21 rfl rfl)
theorem dX1_type_22 : decode cX1_type 22 = .ok (.invokevirtual 75, 3) := dk_182 0 75 (dk_at dksX1_type_1 0 rfl rfl)
theorem dX1_type_25 : decode cX1_type 25 = .ok (.checkcast 79, 3) := dk_192 0 79 (dk_at dksX1_type_1 3 rfl rfl)
theorem dX1_type_28 : decode cX1_type 28 = .ok (.areturn, 1) := dk_176 (dk_at dksX1_type_1 6 rfl rfl)
abbrev cX1_inRange : ByteArray := prog_1_method_1_code
def yX1_inRange : MethodName := ⟨RX1, "inRange", "(III)Z"⟩
def dkwX1_inRange_0 : List UInt8 := [26, 27, 161, 0, 12, 26, 28, 163, 0, 7, 4, 167, 0, 4, 3, 172]
abbrev dktX1_inRange_0 : List UInt8 := dkwX1_inRange_0 ++ []
theorem dksX1_inRange_0 : cX1_inRange.data.toList.drop 0 = dktX1_inRange_0 := by decide +kernel
theorem dX1_inRange_0 : decode cX1_inRange 0 = .ok (.iload_n 0, 1) := dk_26 (dk_at dksX1_inRange_0 0 rfl rfl)
theorem dX1_inRange_1 : decode cX1_inRange 1 = .ok (.iload_n 1, 1) := dk_27 (dk_at dksX1_inRange_0 1 rfl rfl)
theorem dX1_inRange_2 : decode cX1_inRange 2 = .ok (.if_icmp .lt 12, 3) := dk_161 0 12 (dk_at dksX1_inRange_0 2 rfl rfl)
theorem dX1_inRange_5 : decode cX1_inRange 5 = .ok (.iload_n 0, 1) := dk_26 (dk_at dksX1_inRange_0 5 rfl rfl)
theorem dX1_inRange_6 : decode cX1_inRange 6 = .ok (.iload_n 2, 1) := dk_28 (dk_at dksX1_inRange_0 6 rfl rfl)
theorem dX1_inRange_7 : decode cX1_inRange 7 = .ok (.if_icmp .gt 7, 3) := dk_163 0 7 (dk_at dksX1_inRange_0 7 rfl rfl)
theorem dX1_inRange_10 : decode cX1_inRange 10 = .ok (.iconst 1, 1) := dk_4 (dk_at dksX1_inRange_0 10 rfl rfl)
theorem dX1_inRange_11 : decode cX1_inRange 11 = .ok (.goto 4, 3) := dk_167 0 4 (dk_at dksX1_inRange_0 11 rfl rfl)
theorem dX1_inRange_14 : decode cX1_inRange 14 = .ok (.iconst 0, 1) := dk_3 (dk_at dksX1_inRange_0 14 rfl rfl)
theorem dX1_inRange_15 : decode cX1_inRange 15 = .ok (.ireturn, 1) := dk_172 (dk_at dksX1_inRange_0 15 rfl rfl)
abbrev cX1_checkPlace : ByteArray := prog_1_method_6_code
def yX1_checkPlace : MethodName := ⟨RX1, "checkPlace", "(Z)V"⟩
def dkwX1_checkPlace_0 : List UInt8 := [26, 154, 0, 11, 187, 0, 58, 89, 183, 0, 60, 191, 177]
abbrev dktX1_checkPlace_0 : List UInt8 := dkwX1_checkPlace_0 ++ []
theorem dksX1_checkPlace_0 : cX1_checkPlace.data.toList.drop 0 = dktX1_checkPlace_0 := by decide +kernel
theorem dX1_checkPlace_0 : decode cX1_checkPlace 0 = .ok (.iload_n 0, 1) := dk_26 (dk_at dksX1_checkPlace_0 0 rfl rfl)
theorem dX1_checkPlace_1 : decode cX1_checkPlace 1 = .ok (.ifCond .ne 11, 3) := dk_154 0 11 (dk_at dksX1_checkPlace_0 1 rfl rfl)
theorem dX1_checkPlace_4 : decode cX1_checkPlace 4 = .ok (.new 58, 3) := dk_187 0 58 (dk_at dksX1_checkPlace_0 4 rfl rfl)
theorem dX1_checkPlace_7 : decode cX1_checkPlace 7 = .ok (.dup, 1) := dk_89 (dk_at dksX1_checkPlace_0 7 rfl rfl)
theorem dX1_checkPlace_8 : decode cX1_checkPlace 8 = .ok (.invokespecial 60, 3) := dk_183 0 60 (dk_at dksX1_checkPlace_0 8 rfl rfl)
theorem dX1_checkPlace_11 : decode cX1_checkPlace 11 = .ok (.athrow, 1) := dk_191 (dk_at dksX1_checkPlace_0 11 rfl rfl)
theorem dX1_checkPlace_12 : decode cX1_checkPlace 12 = .ok (.return_, 1) := dk_177 (dk_at dksX1_checkPlace_0 12 rfl rfl)
abbrev cX1_checkState : ByteArray := prog_1_method_5_code
def yX1_checkState : MethodName := ⟨RX1, "checkState", "(Z)V"⟩
def dkwX1_checkState_0 : List UInt8 := [26, 154, 0, 11, 187, 0, 55, 89, 183, 0, 57, 191, 177]
abbrev dktX1_checkState_0 : List UInt8 := dkwX1_checkState_0 ++ []
theorem dksX1_checkState_0 : cX1_checkState.data.toList.drop 0 = dktX1_checkState_0 := by decide +kernel
theorem dX1_checkState_0 : decode cX1_checkState 0 = .ok (.iload_n 0, 1) := dk_26 (dk_at dksX1_checkState_0 0 rfl rfl)
theorem dX1_checkState_1 : decode cX1_checkState 1 = .ok (.ifCond .ne 11, 3) := dk_154 0 11 (dk_at dksX1_checkState_0 1 rfl rfl)
theorem dX1_checkState_4 : decode cX1_checkState 4 = .ok (.new 55, 3) := dk_187 0 55 (dk_at dksX1_checkState_0 4 rfl rfl)
theorem dX1_checkState_7 : decode cX1_checkState 7 = .ok (.dup, 1) := dk_89 (dk_at dksX1_checkState_0 7 rfl rfl)
theorem dX1_checkState_8 : decode cX1_checkState 8 = .ok (.invokespecial 57, 3) := dk_183 0 57 (dk_at dksX1_checkState_0 8 rfl rfl)
theorem dX1_checkState_11 : decode cX1_checkState 11 = .ok (.athrow, 1) := dk_191 (dk_at dksX1_checkState_0 11 rfl rfl)
theorem dX1_checkState_12 : decode cX1_checkState 12 = .ok (.return_, 1) := dk_177 (dk_at dksX1_checkState_0 12 rfl rfl)
abbrev cX1_forgetPlaces : ByteArray := prog_1_method_14_code
def yX1_forgetPlaces : MethodName := ⟨RX1, "forgetPlaces", "()V"⟩
def dkwX1_forgetPlaces_2 : List UInt8 := [132, 2, 1, 167, 255, 223, 132, 1, 1, 167, 255, 204, 177]
abbrev dktX1_forgetPlaces_2 : List UInt8 := dkwX1_forgetPlaces_2 ++ []
def dkwX1_forgetPlaces_1 : List UInt8 := [180, 0, 20, 27, 182, 0, 75, 192, 0, 79, 180, 0, 105, 28, 182, 0, 75, 192, 0, 17, 182, 0, 117]
abbrev dktX1_forgetPlaces_1 : List UInt8 := dkwX1_forgetPlaces_1 ++ dktX1_forgetPlaces_2
def dkwX1_forgetPlaces_0 : List UInt8 := [3, 60, 27, 42, 180, 0, 20, 182, 0, 64, 162, 0, 47, 3, 61, 28, 16, 6, 162, 0, 33, 42]
abbrev dktX1_forgetPlaces_0 : List UInt8 := dkwX1_forgetPlaces_0 ++ dktX1_forgetPlaces_1
theorem dksX1_forgetPlaces_0 : cX1_forgetPlaces.data.toList.drop 0 = dktX1_forgetPlaces_0 := by decide +kernel
theorem dksX1_forgetPlaces_1 : cX1_forgetPlaces.data.toList.drop 22 = dktX1_forgetPlaces_1 := dk_seg dksX1_forgetPlaces_0 22 rfl rfl
theorem dksX1_forgetPlaces_2 : cX1_forgetPlaces.data.toList.drop 45 = dktX1_forgetPlaces_2 := dk_seg dksX1_forgetPlaces_1 23 rfl rfl
theorem dX1_forgetPlaces_0 : decode cX1_forgetPlaces 0 = .ok (.iconst 0, 1) := dk_3 (dk_at dksX1_forgetPlaces_0 0 rfl rfl)
theorem dX1_forgetPlaces_1 : decode cX1_forgetPlaces 1 = .ok (.istore_n 1, 1) := dk_60 (dk_at dksX1_forgetPlaces_0 1 rfl rfl)
theorem dX1_forgetPlaces_2 : decode cX1_forgetPlaces 2 = .ok (.iload_n 1, 1) := dk_27 (dk_at dksX1_forgetPlaces_0 2 rfl rfl)
theorem dX1_forgetPlaces_3 : decode cX1_forgetPlaces 3 = .ok (.aload_n 0, 1) := dk_42 (dk_at dksX1_forgetPlaces_0 3 rfl rfl)
theorem dX1_forgetPlaces_4 : decode cX1_forgetPlaces 4 = .ok (.getfield 20, 3) := dk_180 0 20 (dk_at dksX1_forgetPlaces_0 4 rfl rfl)
theorem dX1_forgetPlaces_7 : decode cX1_forgetPlaces 7 = .ok (.invokevirtual 64, 3) := dk_182 0 64 (dk_at dksX1_forgetPlaces_0 7 rfl rfl)
theorem dX1_forgetPlaces_10 : decode cX1_forgetPlaces 10 = .ok (.if_icmp .ge 47, 3) := dk_162 0 47 (dk_at dksX1_forgetPlaces_0 10 rfl rfl)
theorem dX1_forgetPlaces_13 : decode cX1_forgetPlaces 13 = .ok (.iconst 0, 1) := dk_3 (dk_at dksX1_forgetPlaces_0 13 rfl rfl)
theorem dX1_forgetPlaces_14 : decode cX1_forgetPlaces 14 = .ok (.istore_n 2, 1) := dk_61 (dk_at dksX1_forgetPlaces_0 14 rfl rfl)
theorem dX1_forgetPlaces_15 : decode cX1_forgetPlaces 15 = .ok (.iload_n 2, 1) := dk_28 (dk_at dksX1_forgetPlaces_0 15 rfl rfl)
theorem dX1_forgetPlaces_16 : decode cX1_forgetPlaces 16 = .ok (.bipush 6, 2) := dk_16 6 (dk_at dksX1_forgetPlaces_0 16 rfl rfl)
theorem dX1_forgetPlaces_18 : decode cX1_forgetPlaces 18 = .ok (.if_icmp .ge 33, 3) := dk_162 0 33 (dk_at dksX1_forgetPlaces_0 18 rfl rfl)
theorem dX1_forgetPlaces_21 : decode cX1_forgetPlaces 21 = .ok (.aload_n 0, 1) := dk_42 (dk_at dksX1_forgetPlaces_0 21 rfl rfl)
theorem dX1_forgetPlaces_22 : decode cX1_forgetPlaces 22 = .ok (.getfield 20, 3) := dk_180 0 20 (dk_at dksX1_forgetPlaces_1 0 rfl rfl)
theorem dX1_forgetPlaces_25 : decode cX1_forgetPlaces 25 = .ok (.iload_n 1, 1) := dk_27 (dk_at dksX1_forgetPlaces_1 3 rfl rfl)
theorem dX1_forgetPlaces_26 : decode cX1_forgetPlaces 26 = .ok (.invokevirtual 75, 3) := dk_182 0 75 (dk_at dksX1_forgetPlaces_1 4 rfl rfl)
theorem dX1_forgetPlaces_29 : decode cX1_forgetPlaces 29 = .ok (.checkcast 79, 3) := dk_192 0 79 (dk_at dksX1_forgetPlaces_1 7 rfl rfl)
theorem dX1_forgetPlaces_32 : decode cX1_forgetPlaces 32 = .ok (.getfield 105, 3) := dk_180 0 105 (dk_at dksX1_forgetPlaces_1 10 rfl rfl)
theorem dX1_forgetPlaces_35 : decode cX1_forgetPlaces 35 = .ok (.iload_n 2, 1) := dk_28 (dk_at dksX1_forgetPlaces_1 13 rfl rfl)
theorem dX1_forgetPlaces_36 : decode cX1_forgetPlaces 36 = .ok (.invokevirtual 75, 3) := dk_182 0 75 (dk_at dksX1_forgetPlaces_1 14 rfl rfl)
theorem dX1_forgetPlaces_39 : decode cX1_forgetPlaces 39 = .ok (.checkcast 17, 3) := dk_192 0 17 (dk_at dksX1_forgetPlaces_1 17 rfl rfl)
theorem dX1_forgetPlaces_42 : decode cX1_forgetPlaces 42 = .ok (.invokevirtual 117, 3) := dk_182 0 117 (dk_at dksX1_forgetPlaces_1 20 rfl rfl)
theorem dX1_forgetPlaces_45 : decode cX1_forgetPlaces 45 = .ok (.iinc 2 1, 3) := dk_132 2 1 (dk_at dksX1_forgetPlaces_2 0 rfl rfl)
theorem dX1_forgetPlaces_48 : decode cX1_forgetPlaces 48 = .ok (.goto (-33), 3) := dk_167 255 223 (dk_at dksX1_forgetPlaces_2 3 rfl rfl)
theorem dX1_forgetPlaces_51 : decode cX1_forgetPlaces 51 = .ok (.iinc 1 1, 3) := dk_132 1 1 (dk_at dksX1_forgetPlaces_2 6 rfl rfl)
theorem dX1_forgetPlaces_54 : decode cX1_forgetPlaces 54 = .ok (.goto (-52), 3) := dk_167 255 204 (dk_at dksX1_forgetPlaces_2 9 rfl rfl)
theorem dX1_forgetPlaces_57 : decode cX1_forgetPlaces 57 = .ok (.return_, 1) := dk_177 (dk_at dksX1_forgetPlaces_2 12 rfl rfl)
abbrev cX1_addStep : ByteArray := prog_1_method_22_code
def yX1_addStep : MethodName := ⟨RX1, "addStep", "(IICII)I"⟩
def dkwX1_addStep_3 : List UInt8 := [182, 0, 111, 87, 42, 182, 0, 178, 25, 7, 182, 0, 64, 172]
abbrev dktX1_addStep_3 : List UInt8 := dkwX1_addStep_3 ++ []
def dkwX1_addStep_2 : List UInt8 := [4, 167, 0, 4, 3, 184, 0, 172, 25, 7, 187, 0, 96, 89, 29, 21, 4, 21, 5, 183, 0, 189]
abbrev dktX1_addStep_2 : List UInt8 := dkwX1_addStep_2 ++ dktX1_addStep_3
def dkwX1_addStep_1 : List UInt8 := [25, 6, 180, 0, 93, 28, 182, 0, 75, 192, 0, 17, 58, 7, 25, 7, 182, 0, 64, 16, 8, 162, 0, 7]
abbrev dktX1_addStep_1 : List UInt8 := dkwX1_addStep_1 ++ dktX1_addStep_2
def dkwX1_addStep_0 : List UInt8 := [42, 27, 182, 0, 169, 58, 6, 28, 184, 0, 181, 42, 29, 21, 4, 21, 5, 182, 0, 185, 184, 0, 81]
abbrev dktX1_addStep_0 : List UInt8 := dkwX1_addStep_0 ++ dktX1_addStep_1
theorem dksX1_addStep_0 : cX1_addStep.data.toList.drop 0 = dktX1_addStep_0 := by decide +kernel
theorem dksX1_addStep_1 : cX1_addStep.data.toList.drop 23 = dktX1_addStep_1 := dk_seg dksX1_addStep_0 23 rfl rfl
theorem dksX1_addStep_2 : cX1_addStep.data.toList.drop 47 = dktX1_addStep_2 := dk_seg dksX1_addStep_1 24 rfl rfl
theorem dksX1_addStep_3 : cX1_addStep.data.toList.drop 69 = dktX1_addStep_3 := dk_seg dksX1_addStep_2 22 rfl rfl
theorem dX1_addStep_0 : decode cX1_addStep 0 = .ok (.aload_n 0, 1) := dk_42 (dk_at dksX1_addStep_0 0 rfl rfl)
theorem dX1_addStep_1 : decode cX1_addStep 1 = .ok (.iload_n 1, 1) := dk_27 (dk_at dksX1_addStep_0 1 rfl rfl)
theorem dX1_addStep_2 : decode cX1_addStep 2 = .ok (.invokevirtual 169, 3) := dk_182 0 169 (dk_at dksX1_addStep_0 2 rfl rfl)
theorem dX1_addStep_5 : decode cX1_addStep 5 = .ok (.astore 6, 2) := dk_58 6 (dk_at dksX1_addStep_0 5 rfl rfl)
theorem dX1_addStep_7 : decode cX1_addStep 7 = .ok (.iload_n 2, 1) := dk_28 (dk_at dksX1_addStep_0 7 rfl rfl)
theorem dX1_addStep_8 : decode cX1_addStep 8 = .ok (.invokestatic 181, 3) := dk_184 0 181 (dk_at dksX1_addStep_0 8 rfl rfl)
theorem dX1_addStep_11 : decode cX1_addStep 11 = .ok (.aload_n 0, 1) := dk_42 (dk_at dksX1_addStep_0 11 rfl rfl)
theorem dX1_addStep_12 : decode cX1_addStep 12 = .ok (.iload_n 3, 1) := dk_29 (dk_at dksX1_addStep_0 12 rfl rfl)
theorem dX1_addStep_13 : decode cX1_addStep 13 = .ok (.iload 4, 2) := dk_21 4 (dk_at dksX1_addStep_0 13 rfl rfl)
theorem dX1_addStep_15 : decode cX1_addStep 15 = .ok (.iload 5, 2) := dk_21 5 (dk_at dksX1_addStep_0 15 rfl rfl)
theorem dX1_addStep_17 : decode cX1_addStep 17 = .ok (.invokevirtual 185, 3) := dk_182 0 185 (dk_at dksX1_addStep_0 17 rfl rfl)
theorem dX1_addStep_20 : decode cX1_addStep 20 = .ok (.invokestatic 81, 3) := dk_184 0 81 (dk_at dksX1_addStep_0 20 rfl rfl)
theorem dX1_addStep_23 : decode cX1_addStep 23 = .ok (.aload 6, 2) := dk_25 6 (dk_at dksX1_addStep_1 0 rfl rfl)
theorem dX1_addStep_25 : decode cX1_addStep 25 = .ok (.getfield 93, 3) := dk_180 0 93 (dk_at dksX1_addStep_1 2 rfl rfl)
theorem dX1_addStep_28 : decode cX1_addStep 28 = .ok (.iload_n 2, 1) := dk_28 (dk_at dksX1_addStep_1 5 rfl rfl)
theorem dX1_addStep_29 : decode cX1_addStep 29 = .ok (.invokevirtual 75, 3) := dk_182 0 75 (dk_at dksX1_addStep_1 6 rfl rfl)
theorem dX1_addStep_32 : decode cX1_addStep 32 = .ok (.checkcast 17, 3) := dk_192 0 17 (dk_at dksX1_addStep_1 9 rfl rfl)
theorem dX1_addStep_35 : decode cX1_addStep 35 = .ok (.astore 7, 2) := dk_58 7 (dk_at dksX1_addStep_1 12 rfl rfl)
theorem dX1_addStep_37 : decode cX1_addStep 37 = .ok (.aload 7, 2) := dk_25 7 (dk_at dksX1_addStep_1 14 rfl rfl)
theorem dX1_addStep_39 : decode cX1_addStep 39 = .ok (.invokevirtual 64, 3) := dk_182 0 64 (dk_at dksX1_addStep_1 16 rfl rfl)
theorem dX1_addStep_42 : decode cX1_addStep 42 = .ok (.bipush 8, 2) := dk_16 8 (dk_at dksX1_addStep_1 19 rfl rfl)
theorem dX1_addStep_44 : decode cX1_addStep 44 = .ok (.if_icmp .ge 7, 3) := dk_162 0 7 (dk_at dksX1_addStep_1 21 rfl rfl)
theorem dX1_addStep_47 : decode cX1_addStep 47 = .ok (.iconst 1, 1) := dk_4 (dk_at dksX1_addStep_2 0 rfl rfl)
theorem dX1_addStep_48 : decode cX1_addStep 48 = .ok (.goto 4, 3) := dk_167 0 4 (dk_at dksX1_addStep_2 1 rfl rfl)
theorem dX1_addStep_51 : decode cX1_addStep 51 = .ok (.iconst 0, 1) := dk_3 (dk_at dksX1_addStep_2 4 rfl rfl)
theorem dX1_addStep_52 : decode cX1_addStep 52 = .ok (.invokestatic 172, 3) := dk_184 0 172 (dk_at dksX1_addStep_2 5 rfl rfl)
theorem dX1_addStep_55 : decode cX1_addStep 55 = .ok (.aload 7, 2) := dk_25 7 (dk_at dksX1_addStep_2 8 rfl rfl)
theorem dX1_addStep_57 : decode cX1_addStep 57 = .ok (.new 96, 3) := dk_187 0 96 (dk_at dksX1_addStep_2 10 rfl rfl)
theorem dX1_addStep_60 : decode cX1_addStep 60 = .ok (.dup, 1) := dk_89 (dk_at dksX1_addStep_2 13 rfl rfl)
theorem dX1_addStep_61 : decode cX1_addStep 61 = .ok (.iload_n 3, 1) := dk_29 (dk_at dksX1_addStep_2 14 rfl rfl)
theorem dX1_addStep_62 : decode cX1_addStep 62 = .ok (.iload 4, 2) := dk_21 4 (dk_at dksX1_addStep_2 15 rfl rfl)
theorem dX1_addStep_64 : decode cX1_addStep 64 = .ok (.iload 5, 2) := dk_21 5 (dk_at dksX1_addStep_2 17 rfl rfl)
theorem dX1_addStep_66 : decode cX1_addStep 66 = .ok (.invokespecial 189, 3) := dk_183 0 189 (dk_at dksX1_addStep_2 19 rfl rfl)
theorem dX1_addStep_69 : decode cX1_addStep 69 = .ok (.invokevirtual 111, 3) := dk_182 0 111 (dk_at dksX1_addStep_3 0 rfl rfl)
theorem dX1_addStep_72 : decode cX1_addStep 72 = .ok (.pop, 1) := dk_87 (dk_at dksX1_addStep_3 3 rfl rfl)
theorem dX1_addStep_73 : decode cX1_addStep 73 = .ok (.aload_n 0, 1) := dk_42 (dk_at dksX1_addStep_3 4 rfl rfl)
theorem dX1_addStep_74 : decode cX1_addStep 74 = .ok (.invokevirtual 178, 3) := dk_182 0 178 (dk_at dksX1_addStep_3 5 rfl rfl)
theorem dX1_addStep_77 : decode cX1_addStep 77 = .ok (.aload 7, 2) := dk_25 7 (dk_at dksX1_addStep_3 8 rfl rfl)
theorem dX1_addStep_79 : decode cX1_addStep 79 = .ok (.invokevirtual 64, 3) := dk_182 0 64 (dk_at dksX1_addStep_3 10 rfl rfl)
theorem dX1_addStep_82 : decode cX1_addStep 82 = .ok (.ireturn, 1) := dk_172 (dk_at dksX1_addStep_3 13 rfl rfl)
abbrev cX1_checkMethod : ByteArray := prog_1_method_9_code
def yX1_checkMethod : MethodName := ⟨RX1, "checkMethod", "(I)V"⟩
def dkwX1_checkMethod_0 : List UInt8 := [26, 3, 8, 184, 0, 67, 184, 0, 81, 177]
abbrev dktX1_checkMethod_0 : List UInt8 := dkwX1_checkMethod_0 ++ []
theorem dksX1_checkMethod_0 : cX1_checkMethod.data.toList.drop 0 = dktX1_checkMethod_0 := by decide +kernel
theorem dX1_checkMethod_0 : decode cX1_checkMethod 0 = .ok (.iload_n 0, 1) := dk_26 (dk_at dksX1_checkMethod_0 0 rfl rfl)
theorem dX1_checkMethod_1 : decode cX1_checkMethod 1 = .ok (.iconst 0, 1) := dk_3 (dk_at dksX1_checkMethod_0 1 rfl rfl)
theorem dX1_checkMethod_2 : decode cX1_checkMethod 2 = .ok (.iconst 5, 1) := dk_8 (dk_at dksX1_checkMethod_0 2 rfl rfl)
theorem dX1_checkMethod_3 : decode cX1_checkMethod 3 = .ok (.invokestatic 67, 3) := dk_184 0 67 (dk_at dksX1_checkMethod_0 3 rfl rfl)
theorem dX1_checkMethod_6 : decode cX1_checkMethod 6 = .ok (.invokestatic 81, 3) := dk_184 0 81 (dk_at dksX1_checkMethod_0 6 rfl rfl)
theorem dX1_checkMethod_9 : decode cX1_checkMethod 9 = .ok (.return_, 1) := dk_177 (dk_at dksX1_checkMethod_0 9 rfl rfl)
abbrev cX1_checkArgument : ByteArray := prog_1_method_4_code
def yX1_checkArgument : MethodName := ⟨RX1, "checkArgument", "(Z)V"⟩
def dkwX1_checkArgument_0 : List UInt8 := [26, 154, 0, 11, 187, 0, 52, 89, 183, 0, 54, 191, 177]
abbrev dktX1_checkArgument_0 : List UInt8 := dkwX1_checkArgument_0 ++ []
theorem dksX1_checkArgument_0 : cX1_checkArgument.data.toList.drop 0 = dktX1_checkArgument_0 := by decide +kernel
theorem dX1_checkArgument_0 : decode cX1_checkArgument 0 = .ok (.iload_n 0, 1) := dk_26 (dk_at dksX1_checkArgument_0 0 rfl rfl)
theorem dX1_checkArgument_1 : decode cX1_checkArgument 1 = .ok (.ifCond .ne 11, 3) := dk_154 0 11 (dk_at dksX1_checkArgument_0 1 rfl rfl)
theorem dX1_checkArgument_4 : decode cX1_checkArgument 4 = .ok (.new 52, 3) := dk_187 0 52 (dk_at dksX1_checkArgument_0 4 rfl rfl)
theorem dX1_checkArgument_7 : decode cX1_checkArgument 7 = .ok (.dup, 1) := dk_89 (dk_at dksX1_checkArgument_0 7 rfl rfl)
theorem dX1_checkArgument_8 : decode cX1_checkArgument 8 = .ok (.invokespecial 54, 3) := dk_183 0 54 (dk_at dksX1_checkArgument_0 8 rfl rfl)
theorem dX1_checkArgument_11 : decode cX1_checkArgument 11 = .ok (.athrow, 1) := dk_191 (dk_at dksX1_checkArgument_0 11 rfl rfl)
theorem dX1_checkArgument_12 : decode cX1_checkArgument 12 = .ok (.return_, 1) := dk_177 (dk_at dksX1_checkArgument_0 12 rfl rfl)
abbrev cX1_isStepRight : ByteArray := prog_1_method_21_code
def yX1_isStepRight : MethodName := ⟨RX1, "isStepRight", "(CII)Z"⟩
def dkwX1_isStepRight_5 : List UInt8 := [153, 0, 18, 29, 16, 157, 16, 99, 184, 0, 67, 153, 0, 7, 4, 167, 0, 8, 3, 167, 0, 4, 3, 172]
abbrev dktX1_isStepRight_5 : List UInt8 := dkwX1_isStepRight_5 ++ []
def dkwX1_isStepRight_4 : List UInt8 := [167, 0, 45, 3, 167, 0, 41, 28, 3, 6, 184, 0, 67, 167, 0, 32, 28, 3, 6, 184, 0, 67]
abbrev dktX1_isStepRight_4 : List UInt8 := dkwX1_isStepRight_4 ++ dktX1_isStepRight_5
def dkwX1_isStepRight_3 : List UInt8 := [180, 0, 20, 182, 0, 64, 4, 100, 184, 0, 67, 153, 0, 16, 29, 3, 8, 184, 0, 67, 153, 0, 7, 4]
abbrev dktX1_isStepRight_3 : List UInt8 := dkwX1_isStepRight_3 ++ dktX1_isStepRight_4
def dkwX1_isStepRight_2 : List UInt8 := [28, 16, 157, 16, 99, 184, 0, 67, 167, 0, 84, 28, 3, 8, 184, 0, 67, 167, 0, 75, 28, 3, 42]
abbrev dktX1_isStepRight_2 : List UInt8 := dkwX1_isStepRight_2 ++ dktX1_isStepRight_3
def dkwX1_isStepRight_1 : List UInt8 := [170, 0, 0, 0, 0, 0, 178, 0, 0, 0, 99, 0, 0, 0, 116, 0, 0, 0, 98, 0, 0, 0, 178, 0, 0, 0, 178, 0, 0, 0, 178, 0, 0, 0, 141, 0, 0, 0, 141, 0, 0, 0, 178, 0, 0, 0, 178, 0, 0, 0, 178, 0, 0, 0, 178, 0, 0, 0, 107, 0, 0, 0, 87, 0, 0, 0, 178, 0, 0, 0, 178, 0, 0, 0, 178, 0, 0, 0, 178, 0, 0, 0, 141, 0, 0, 0, 150]
abbrev dktX1_isStepRight_1 : List UInt8 := dkwX1_isStepRight_1 ++ dktX1_isStepRight_2
def dkwX1_isStepRight_0 : List UInt8 := [27]
abbrev dktX1_isStepRight_0 : List UInt8 := dkwX1_isStepRight_0 ++ dktX1_isStepRight_1
theorem dksX1_isStepRight_0 : cX1_isStepRight.data.toList.drop 0 = dktX1_isStepRight_0 := by decide +kernel
theorem dksX1_isStepRight_1 : cX1_isStepRight.data.toList.drop 1 = dktX1_isStepRight_1 := dk_seg dksX1_isStepRight_0 1 rfl rfl
theorem dksX1_isStepRight_2 : cX1_isStepRight.data.toList.drop 88 = dktX1_isStepRight_2 := dk_seg dksX1_isStepRight_1 87 rfl rfl
theorem dksX1_isStepRight_3 : cX1_isStepRight.data.toList.drop 111 = dktX1_isStepRight_3 := dk_seg dksX1_isStepRight_2 23 rfl rfl
theorem dksX1_isStepRight_4 : cX1_isStepRight.data.toList.drop 135 = dktX1_isStepRight_4 := dk_seg dksX1_isStepRight_3 24 rfl rfl
theorem dksX1_isStepRight_5 : cX1_isStepRight.data.toList.drop 157 = dktX1_isStepRight_5 := dk_seg dksX1_isStepRight_4 22 rfl rfl
theorem dX1_isStepRight_0 : decode cX1_isStepRight 0 = .ok (.iload_n 1, 1) := dk_27 (dk_at dksX1_isStepRight_0 0 rfl rfl)
theorem dX1_isStepRight_1 : decode cX1_isStepRight 1 = .ok (.tableswitch 178 99 116 #[98, 178, 178, 178, 141, 141, 178, 178, 178, 178, 107, 87, 178, 178, 178, 178, 141, 150], 87) := by decide +kernel
theorem dX1_isStepRight_88 : decode cX1_isStepRight 88 = .ok (.iload_n 2, 1) := dk_28 (dk_at dksX1_isStepRight_2 0 rfl rfl)
theorem dX1_isStepRight_89 : decode cX1_isStepRight 89 = .ok (.bipush (-99), 2) := dk_16 157 (dk_at dksX1_isStepRight_2 1 rfl rfl)
theorem dX1_isStepRight_91 : decode cX1_isStepRight 91 = .ok (.bipush 99, 2) := dk_16 99 (dk_at dksX1_isStepRight_2 3 rfl rfl)
theorem dX1_isStepRight_93 : decode cX1_isStepRight 93 = .ok (.invokestatic 67, 3) := dk_184 0 67 (dk_at dksX1_isStepRight_2 5 rfl rfl)
theorem dX1_isStepRight_96 : decode cX1_isStepRight 96 = .ok (.goto 84, 3) := dk_167 0 84 (dk_at dksX1_isStepRight_2 8 rfl rfl)
theorem dX1_isStepRight_99 : decode cX1_isStepRight 99 = .ok (.iload_n 2, 1) := dk_28 (dk_at dksX1_isStepRight_2 11 rfl rfl)
theorem dX1_isStepRight_100 : decode cX1_isStepRight 100 = .ok (.iconst 0, 1) := dk_3 (dk_at dksX1_isStepRight_2 12 rfl rfl)
theorem dX1_isStepRight_101 : decode cX1_isStepRight 101 = .ok (.iconst 5, 1) := dk_8 (dk_at dksX1_isStepRight_2 13 rfl rfl)
theorem dX1_isStepRight_102 : decode cX1_isStepRight 102 = .ok (.invokestatic 67, 3) := dk_184 0 67 (dk_at dksX1_isStepRight_2 14 rfl rfl)
theorem dX1_isStepRight_105 : decode cX1_isStepRight 105 = .ok (.goto 75, 3) := dk_167 0 75 (dk_at dksX1_isStepRight_2 17 rfl rfl)
theorem dX1_isStepRight_108 : decode cX1_isStepRight 108 = .ok (.iload_n 2, 1) := dk_28 (dk_at dksX1_isStepRight_2 20 rfl rfl)
theorem dX1_isStepRight_109 : decode cX1_isStepRight 109 = .ok (.iconst 0, 1) := dk_3 (dk_at dksX1_isStepRight_2 21 rfl rfl)
theorem dX1_isStepRight_110 : decode cX1_isStepRight 110 = .ok (.aload_n 0, 1) := dk_42 (dk_at dksX1_isStepRight_2 22 rfl rfl)
theorem dX1_isStepRight_111 : decode cX1_isStepRight 111 = .ok (.getfield 20, 3) := dk_180 0 20 (dk_at dksX1_isStepRight_3 0 rfl rfl)
theorem dX1_isStepRight_114 : decode cX1_isStepRight 114 = .ok (.invokevirtual 64, 3) := dk_182 0 64 (dk_at dksX1_isStepRight_3 3 rfl rfl)
theorem dX1_isStepRight_117 : decode cX1_isStepRight 117 = .ok (.iconst 1, 1) := dk_4 (dk_at dksX1_isStepRight_3 6 rfl rfl)
theorem dX1_isStepRight_118 : decode cX1_isStepRight 118 = .ok (.isub, 1) := dk_100 (dk_at dksX1_isStepRight_3 7 rfl rfl)
theorem dX1_isStepRight_119 : decode cX1_isStepRight 119 = .ok (.invokestatic 67, 3) := dk_184 0 67 (dk_at dksX1_isStepRight_3 8 rfl rfl)
theorem dX1_isStepRight_122 : decode cX1_isStepRight 122 = .ok (.ifCond .eq 16, 3) := dk_153 0 16 (dk_at dksX1_isStepRight_3 11 rfl rfl)
theorem dX1_isStepRight_125 : decode cX1_isStepRight 125 = .ok (.iload_n 3, 1) := dk_29 (dk_at dksX1_isStepRight_3 14 rfl rfl)
theorem dX1_isStepRight_126 : decode cX1_isStepRight 126 = .ok (.iconst 0, 1) := dk_3 (dk_at dksX1_isStepRight_3 15 rfl rfl)
theorem dX1_isStepRight_127 : decode cX1_isStepRight 127 = .ok (.iconst 5, 1) := dk_8 (dk_at dksX1_isStepRight_3 16 rfl rfl)
theorem dX1_isStepRight_128 : decode cX1_isStepRight 128 = .ok (.invokestatic 67, 3) := dk_184 0 67 (dk_at dksX1_isStepRight_3 17 rfl rfl)
theorem dX1_isStepRight_131 : decode cX1_isStepRight 131 = .ok (.ifCond .eq 7, 3) := dk_153 0 7 (dk_at dksX1_isStepRight_3 20 rfl rfl)
theorem dX1_isStepRight_134 : decode cX1_isStepRight 134 = .ok (.iconst 1, 1) := dk_4 (dk_at dksX1_isStepRight_3 23 rfl rfl)
theorem dX1_isStepRight_135 : decode cX1_isStepRight 135 = .ok (.goto 45, 3) := dk_167 0 45 (dk_at dksX1_isStepRight_4 0 rfl rfl)
theorem dX1_isStepRight_138 : decode cX1_isStepRight 138 = .ok (.iconst 0, 1) := dk_3 (dk_at dksX1_isStepRight_4 3 rfl rfl)
theorem dX1_isStepRight_139 : decode cX1_isStepRight 139 = .ok (.goto 41, 3) := dk_167 0 41 (dk_at dksX1_isStepRight_4 4 rfl rfl)
theorem dX1_isStepRight_142 : decode cX1_isStepRight 142 = .ok (.iload_n 2, 1) := dk_28 (dk_at dksX1_isStepRight_4 7 rfl rfl)
theorem dX1_isStepRight_143 : decode cX1_isStepRight 143 = .ok (.iconst 0, 1) := dk_3 (dk_at dksX1_isStepRight_4 8 rfl rfl)
theorem dX1_isStepRight_144 : decode cX1_isStepRight 144 = .ok (.iconst 3, 1) := dk_6 (dk_at dksX1_isStepRight_4 9 rfl rfl)
theorem dX1_isStepRight_145 : decode cX1_isStepRight 145 = .ok (.invokestatic 67, 3) := dk_184 0 67 (dk_at dksX1_isStepRight_4 10 rfl rfl)
theorem dX1_isStepRight_148 : decode cX1_isStepRight 148 = .ok (.goto 32, 3) := dk_167 0 32 (dk_at dksX1_isStepRight_4 13 rfl rfl)
theorem dX1_isStepRight_151 : decode cX1_isStepRight 151 = .ok (.iload_n 2, 1) := dk_28 (dk_at dksX1_isStepRight_4 16 rfl rfl)
theorem dX1_isStepRight_152 : decode cX1_isStepRight 152 = .ok (.iconst 0, 1) := dk_3 (dk_at dksX1_isStepRight_4 17 rfl rfl)
theorem dX1_isStepRight_153 : decode cX1_isStepRight 153 = .ok (.iconst 3, 1) := dk_6 (dk_at dksX1_isStepRight_4 18 rfl rfl)
theorem dX1_isStepRight_154 : decode cX1_isStepRight 154 = .ok (.invokestatic 67, 3) := dk_184 0 67 (dk_at dksX1_isStepRight_4 19 rfl rfl)
theorem dX1_isStepRight_157 : decode cX1_isStepRight 157 = .ok (.ifCond .eq 18, 3) := dk_153 0 18 (dk_at dksX1_isStepRight_5 0 rfl rfl)
theorem dX1_isStepRight_160 : decode cX1_isStepRight 160 = .ok (.iload_n 3, 1) := dk_29 (dk_at dksX1_isStepRight_5 3 rfl rfl)
theorem dX1_isStepRight_161 : decode cX1_isStepRight 161 = .ok (.bipush (-99), 2) := dk_16 157 (dk_at dksX1_isStepRight_5 4 rfl rfl)
theorem dX1_isStepRight_163 : decode cX1_isStepRight 163 = .ok (.bipush 99, 2) := dk_16 99 (dk_at dksX1_isStepRight_5 6 rfl rfl)
theorem dX1_isStepRight_165 : decode cX1_isStepRight 165 = .ok (.invokestatic 67, 3) := dk_184 0 67 (dk_at dksX1_isStepRight_5 8 rfl rfl)
theorem dX1_isStepRight_168 : decode cX1_isStepRight 168 = .ok (.ifCond .eq 7, 3) := dk_153 0 7 (dk_at dksX1_isStepRight_5 11 rfl rfl)
theorem dX1_isStepRight_171 : decode cX1_isStepRight 171 = .ok (.iconst 1, 1) := dk_4 (dk_at dksX1_isStepRight_5 14 rfl rfl)
theorem dX1_isStepRight_172 : decode cX1_isStepRight 172 = .ok (.goto 8, 3) := dk_167 0 8 (dk_at dksX1_isStepRight_5 15 rfl rfl)
theorem dX1_isStepRight_175 : decode cX1_isStepRight 175 = .ok (.iconst 0, 1) := dk_3 (dk_at dksX1_isStepRight_5 18 rfl rfl)
theorem dX1_isStepRight_176 : decode cX1_isStepRight 176 = .ok (.goto 4, 3) := dk_167 0 4 (dk_at dksX1_isStepRight_5 19 rfl rfl)
theorem dX1_isStepRight_179 : decode cX1_isStepRight 179 = .ok (.iconst 0, 1) := dk_3 (dk_at dksX1_isStepRight_5 22 rfl rfl)
theorem dX1_isStepRight_180 : decode cX1_isStepRight 180 = .ok (.ireturn, 1) := dk_172 (dk_at dksX1_isStepRight_5 23 rfl rfl)
abbrev cX1_dropBody : ByteArray := prog_1_method_23_code
def yX1_dropBody : MethodName := ⟨RX1, "dropBody", "(II)I"⟩
def dkwX1_dropBody_1 : List UInt8 := [54, 4, 45, 180, 0, 93, 28, 182, 0, 75, 192, 0, 17, 182, 0, 117, 42, 182, 0, 178, 21, 4, 172]
abbrev dktX1_dropBody_1 : List UInt8 := dkwX1_dropBody_1 ++ []
def dkwX1_dropBody_0 : List UInt8 := [42, 27, 182, 0, 169, 78, 28, 184, 0, 181, 45, 180, 0, 93, 28, 182, 0, 75, 192, 0, 17, 182, 0, 64]
abbrev dktX1_dropBody_0 : List UInt8 := dkwX1_dropBody_0 ++ dktX1_dropBody_1
theorem dksX1_dropBody_0 : cX1_dropBody.data.toList.drop 0 = dktX1_dropBody_0 := by decide +kernel
theorem dksX1_dropBody_1 : cX1_dropBody.data.toList.drop 24 = dktX1_dropBody_1 := dk_seg dksX1_dropBody_0 24 rfl rfl
theorem dX1_dropBody_0 : decode cX1_dropBody 0 = .ok (.aload_n 0, 1) := dk_42 (dk_at dksX1_dropBody_0 0 rfl rfl)
theorem dX1_dropBody_1 : decode cX1_dropBody 1 = .ok (.iload_n 1, 1) := dk_27 (dk_at dksX1_dropBody_0 1 rfl rfl)
theorem dX1_dropBody_2 : decode cX1_dropBody 2 = .ok (.invokevirtual 169, 3) := dk_182 0 169 (dk_at dksX1_dropBody_0 2 rfl rfl)
theorem dX1_dropBody_5 : decode cX1_dropBody 5 = .ok (.astore_n 3, 1) := dk_78 (dk_at dksX1_dropBody_0 5 rfl rfl)
theorem dX1_dropBody_6 : decode cX1_dropBody 6 = .ok (.iload_n 2, 1) := dk_28 (dk_at dksX1_dropBody_0 6 rfl rfl)
theorem dX1_dropBody_7 : decode cX1_dropBody 7 = .ok (.invokestatic 181, 3) := dk_184 0 181 (dk_at dksX1_dropBody_0 7 rfl rfl)
theorem dX1_dropBody_10 : decode cX1_dropBody 10 = .ok (.aload_n 3, 1) := dk_45 (dk_at dksX1_dropBody_0 10 rfl rfl)
theorem dX1_dropBody_11 : decode cX1_dropBody 11 = .ok (.getfield 93, 3) := dk_180 0 93 (dk_at dksX1_dropBody_0 11 rfl rfl)
theorem dX1_dropBody_14 : decode cX1_dropBody 14 = .ok (.iload_n 2, 1) := dk_28 (dk_at dksX1_dropBody_0 14 rfl rfl)
theorem dX1_dropBody_15 : decode cX1_dropBody 15 = .ok (.invokevirtual 75, 3) := dk_182 0 75 (dk_at dksX1_dropBody_0 15 rfl rfl)
theorem dX1_dropBody_18 : decode cX1_dropBody 18 = .ok (.checkcast 17, 3) := dk_192 0 17 (dk_at dksX1_dropBody_0 18 rfl rfl)
theorem dX1_dropBody_21 : decode cX1_dropBody 21 = .ok (.invokevirtual 64, 3) := dk_182 0 64 (dk_at dksX1_dropBody_0 21 rfl rfl)
theorem dX1_dropBody_24 : decode cX1_dropBody 24 = .ok (.istore 4, 2) := dk_54 4 (dk_at dksX1_dropBody_1 0 rfl rfl)
theorem dX1_dropBody_26 : decode cX1_dropBody 26 = .ok (.aload_n 3, 1) := dk_45 (dk_at dksX1_dropBody_1 2 rfl rfl)
theorem dX1_dropBody_27 : decode cX1_dropBody 27 = .ok (.getfield 93, 3) := dk_180 0 93 (dk_at dksX1_dropBody_1 3 rfl rfl)
theorem dX1_dropBody_30 : decode cX1_dropBody 30 = .ok (.iload_n 2, 1) := dk_28 (dk_at dksX1_dropBody_1 6 rfl rfl)
theorem dX1_dropBody_31 : decode cX1_dropBody 31 = .ok (.invokevirtual 75, 3) := dk_182 0 75 (dk_at dksX1_dropBody_1 7 rfl rfl)
theorem dX1_dropBody_34 : decode cX1_dropBody 34 = .ok (.checkcast 17, 3) := dk_192 0 17 (dk_at dksX1_dropBody_1 10 rfl rfl)
theorem dX1_dropBody_37 : decode cX1_dropBody 37 = .ok (.invokevirtual 117, 3) := dk_182 0 117 (dk_at dksX1_dropBody_1 13 rfl rfl)
theorem dX1_dropBody_40 : decode cX1_dropBody 40 = .ok (.aload_n 0, 1) := dk_42 (dk_at dksX1_dropBody_1 16 rfl rfl)
theorem dX1_dropBody_41 : decode cX1_dropBody 41 = .ok (.invokevirtual 178, 3) := dk_182 0 178 (dk_at dksX1_dropBody_1 17 rfl rfl)
theorem dX1_dropBody_44 : decode cX1_dropBody 44 = .ok (.iload 4, 2) := dk_21 4 (dk_at dksX1_dropBody_1 20 rfl rfl)
theorem dX1_dropBody_46 : decode cX1_dropBody 46 = .ok (.ireturn, 1) := dk_172 (dk_at dksX1_dropBody_1 22 rfl rfl)
abbrev cX1_finds : ByteArray := prog_1_method_24_code
def yX1_finds : MethodName := ⟨RX1, "finds", "(II)I"⟩
def dkwX1_finds_1 : List UInt8 := [167, 0, 8, 25, 4, 180, 0, 124, 172]
abbrev dktX1_finds_1 : List UInt8 := dkwX1_finds_1 ++ []
def dkwX1_finds_0 : List UInt8 := [42, 27, 182, 0, 169, 78, 28, 184, 0, 181, 45, 28, 182, 0, 101, 58, 4, 25, 4, 199, 0, 7, 2]
abbrev dktX1_finds_0 : List UInt8 := dkwX1_finds_0 ++ dktX1_finds_1
theorem dksX1_finds_0 : cX1_finds.data.toList.drop 0 = dktX1_finds_0 := by decide +kernel
theorem dksX1_finds_1 : cX1_finds.data.toList.drop 23 = dktX1_finds_1 := dk_seg dksX1_finds_0 23 rfl rfl
theorem dX1_finds_0 : decode cX1_finds 0 = .ok (.aload_n 0, 1) := dk_42 (dk_at dksX1_finds_0 0 rfl rfl)
theorem dX1_finds_1 : decode cX1_finds 1 = .ok (.iload_n 1, 1) := dk_27 (dk_at dksX1_finds_0 1 rfl rfl)
theorem dX1_finds_2 : decode cX1_finds 2 = .ok (.invokevirtual 169, 3) := dk_182 0 169 (dk_at dksX1_finds_0 2 rfl rfl)
theorem dX1_finds_5 : decode cX1_finds 5 = .ok (.astore_n 3, 1) := dk_78 (dk_at dksX1_finds_0 5 rfl rfl)
theorem dX1_finds_6 : decode cX1_finds 6 = .ok (.iload_n 2, 1) := dk_28 (dk_at dksX1_finds_0 6 rfl rfl)
theorem dX1_finds_7 : decode cX1_finds 7 = .ok (.invokestatic 181, 3) := dk_184 0 181 (dk_at dksX1_finds_0 7 rfl rfl)
theorem dX1_finds_10 : decode cX1_finds 10 = .ok (.aload_n 3, 1) := dk_45 (dk_at dksX1_finds_0 10 rfl rfl)
theorem dX1_finds_11 : decode cX1_finds 11 = .ok (.iload_n 2, 1) := dk_28 (dk_at dksX1_finds_0 11 rfl rfl)
theorem dX1_finds_12 : decode cX1_finds 12 = .ok (.invokevirtual 101, 3) := dk_182 0 101 (dk_at dksX1_finds_0 12 rfl rfl)
theorem dX1_finds_15 : decode cX1_finds 15 = .ok (.astore 4, 2) := dk_58 4 (dk_at dksX1_finds_0 15 rfl rfl)
theorem dX1_finds_17 : decode cX1_finds 17 = .ok (.aload 4, 2) := dk_25 4 (dk_at dksX1_finds_0 17 rfl rfl)
theorem dX1_finds_19 : decode cX1_finds 19 = .ok (.ifnonnull 7, 3) := dk_199 0 7 (dk_at dksX1_finds_0 19 rfl rfl)
theorem dX1_finds_22 : decode cX1_finds 22 = .ok (.iconst (-1), 1) := dk_2 (dk_at dksX1_finds_0 22 rfl rfl)
theorem dX1_finds_23 : decode cX1_finds 23 = .ok (.goto 8, 3) := dk_167 0 8 (dk_at dksX1_finds_1 0 rfl rfl)
theorem dX1_finds_26 : decode cX1_finds 26 = .ok (.aload 4, 2) := dk_25 4 (dk_at dksX1_finds_1 3 rfl rfl)
theorem dX1_finds_28 : decode cX1_finds 28 = .ok (.getfield 124, 3) := dk_180 0 124 (dk_at dksX1_finds_1 5 rfl rfl)
theorem dX1_finds_31 : decode cX1_finds 31 = .ok (.ireturn, 1) := dk_172 (dk_at dksX1_finds_1 8 rfl rfl)
abbrev cX1_addPattern : ByteArray := prog_1_method_28_code
def yX1_addPattern : MethodName := ⟨RX1, "addPattern", "(CII)I"⟩
def dkwX1_addPattern_2 : List UInt8 := [180, 0, 26, 182, 0, 64, 183, 0, 238, 182, 0, 111, 87, 42, 180, 0, 26, 182, 0, 64, 4, 100, 172]
abbrev dktX1_addPattern_2 : List UInt8 := dkwX1_addPattern_2 ++ []
def dkwX1_addPattern_1 : List UInt8 := [16, 24, 162, 0, 7, 4, 167, 0, 4, 3, 184, 0, 172, 42, 180, 0, 26, 187, 0, 236, 89, 25, 4, 42]
abbrev dktX1_addPattern_1 : List UInt8 := dkwX1_addPattern_1 ++ dktX1_addPattern_2
def dkwX1_addPattern_0 : List UInt8 := [27, 28, 184, 0, 228, 184, 0, 81, 42, 27, 28, 29, 182, 0, 232, 58, 4, 42, 180, 0, 26, 182, 0, 64]
abbrev dktX1_addPattern_0 : List UInt8 := dkwX1_addPattern_0 ++ dktX1_addPattern_1
theorem dksX1_addPattern_0 : cX1_addPattern.data.toList.drop 0 = dktX1_addPattern_0 := by decide +kernel
theorem dksX1_addPattern_1 : cX1_addPattern.data.toList.drop 24 = dktX1_addPattern_1 := dk_seg dksX1_addPattern_0 24 rfl rfl
theorem dksX1_addPattern_2 : cX1_addPattern.data.toList.drop 48 = dktX1_addPattern_2 := dk_seg dksX1_addPattern_1 24 rfl rfl
theorem dX1_addPattern_0 : decode cX1_addPattern 0 = .ok (.iload_n 1, 1) := dk_27 (dk_at dksX1_addPattern_0 0 rfl rfl)
theorem dX1_addPattern_1 : decode cX1_addPattern 1 = .ok (.iload_n 2, 1) := dk_28 (dk_at dksX1_addPattern_0 1 rfl rfl)
theorem dX1_addPattern_2 : decode cX1_addPattern 2 = .ok (.invokestatic 228, 3) := dk_184 0 228 (dk_at dksX1_addPattern_0 2 rfl rfl)
theorem dX1_addPattern_5 : decode cX1_addPattern 5 = .ok (.invokestatic 81, 3) := dk_184 0 81 (dk_at dksX1_addPattern_0 5 rfl rfl)
theorem dX1_addPattern_8 : decode cX1_addPattern 8 = .ok (.aload_n 0, 1) := dk_42 (dk_at dksX1_addPattern_0 8 rfl rfl)
theorem dX1_addPattern_9 : decode cX1_addPattern 9 = .ok (.iload_n 1, 1) := dk_27 (dk_at dksX1_addPattern_0 9 rfl rfl)
theorem dX1_addPattern_10 : decode cX1_addPattern 10 = .ok (.iload_n 2, 1) := dk_28 (dk_at dksX1_addPattern_0 10 rfl rfl)
theorem dX1_addPattern_11 : decode cX1_addPattern 11 = .ok (.iload_n 3, 1) := dk_29 (dk_at dksX1_addPattern_0 11 rfl rfl)
theorem dX1_addPattern_12 : decode cX1_addPattern 12 = .ok (.invokevirtual 232, 3) := dk_182 0 232 (dk_at dksX1_addPattern_0 12 rfl rfl)
theorem dX1_addPattern_15 : decode cX1_addPattern 15 = .ok (.astore 4, 2) := dk_58 4 (dk_at dksX1_addPattern_0 15 rfl rfl)
theorem dX1_addPattern_17 : decode cX1_addPattern 17 = .ok (.aload_n 0, 1) := dk_42 (dk_at dksX1_addPattern_0 17 rfl rfl)
theorem dX1_addPattern_18 : decode cX1_addPattern 18 = .ok (.getfield 26, 3) := dk_180 0 26 (dk_at dksX1_addPattern_0 18 rfl rfl)
theorem dX1_addPattern_21 : decode cX1_addPattern 21 = .ok (.invokevirtual 64, 3) := dk_182 0 64 (dk_at dksX1_addPattern_0 21 rfl rfl)
theorem dX1_addPattern_24 : decode cX1_addPattern 24 = .ok (.bipush 24, 2) := dk_16 24 (dk_at dksX1_addPattern_1 0 rfl rfl)
theorem dX1_addPattern_26 : decode cX1_addPattern 26 = .ok (.if_icmp .ge 7, 3) := dk_162 0 7 (dk_at dksX1_addPattern_1 2 rfl rfl)
theorem dX1_addPattern_29 : decode cX1_addPattern 29 = .ok (.iconst 1, 1) := dk_4 (dk_at dksX1_addPattern_1 5 rfl rfl)
theorem dX1_addPattern_30 : decode cX1_addPattern 30 = .ok (.goto 4, 3) := dk_167 0 4 (dk_at dksX1_addPattern_1 6 rfl rfl)
theorem dX1_addPattern_33 : decode cX1_addPattern 33 = .ok (.iconst 0, 1) := dk_3 (dk_at dksX1_addPattern_1 9 rfl rfl)
theorem dX1_addPattern_34 : decode cX1_addPattern 34 = .ok (.invokestatic 172, 3) := dk_184 0 172 (dk_at dksX1_addPattern_1 10 rfl rfl)
theorem dX1_addPattern_37 : decode cX1_addPattern 37 = .ok (.aload_n 0, 1) := dk_42 (dk_at dksX1_addPattern_1 13 rfl rfl)
theorem dX1_addPattern_38 : decode cX1_addPattern 38 = .ok (.getfield 26, 3) := dk_180 0 26 (dk_at dksX1_addPattern_1 14 rfl rfl)
theorem dX1_addPattern_41 : decode cX1_addPattern 41 = .ok (.new 236, 3) := dk_187 0 236 (dk_at dksX1_addPattern_1 17 rfl rfl)
theorem dX1_addPattern_44 : decode cX1_addPattern 44 = .ok (.dup, 1) := dk_89 (dk_at dksX1_addPattern_1 20 rfl rfl)
theorem dX1_addPattern_45 : decode cX1_addPattern 45 = .ok (.aload 4, 2) := dk_25 4 (dk_at dksX1_addPattern_1 21 rfl rfl)
theorem dX1_addPattern_47 : decode cX1_addPattern 47 = .ok (.aload_n 0, 1) := dk_42 (dk_at dksX1_addPattern_1 23 rfl rfl)
theorem dX1_addPattern_48 : decode cX1_addPattern 48 = .ok (.getfield 26, 3) := dk_180 0 26 (dk_at dksX1_addPattern_2 0 rfl rfl)
theorem dX1_addPattern_51 : decode cX1_addPattern 51 = .ok (.invokevirtual 64, 3) := dk_182 0 64 (dk_at dksX1_addPattern_2 3 rfl rfl)
theorem dX1_addPattern_54 : decode cX1_addPattern 54 = .ok (.invokespecial 238, 3) := dk_183 0 238 (dk_at dksX1_addPattern_2 6 rfl rfl)
theorem dX1_addPattern_57 : decode cX1_addPattern 57 = .ok (.invokevirtual 111, 3) := dk_182 0 111 (dk_at dksX1_addPattern_2 9 rfl rfl)
theorem dX1_addPattern_60 : decode cX1_addPattern 60 = .ok (.pop, 1) := dk_87 (dk_at dksX1_addPattern_2 12 rfl rfl)
theorem dX1_addPattern_61 : decode cX1_addPattern 61 = .ok (.aload_n 0, 1) := dk_42 (dk_at dksX1_addPattern_2 13 rfl rfl)
theorem dX1_addPattern_62 : decode cX1_addPattern 62 = .ok (.getfield 26, 3) := dk_180 0 26 (dk_at dksX1_addPattern_2 14 rfl rfl)
theorem dX1_addPattern_65 : decode cX1_addPattern 65 = .ok (.invokevirtual 64, 3) := dk_182 0 64 (dk_at dksX1_addPattern_2 17 rfl rfl)
theorem dX1_addPattern_68 : decode cX1_addPattern 68 = .ok (.iconst 1, 1) := dk_4 (dk_at dksX1_addPattern_2 20 rfl rfl)
theorem dX1_addPattern_69 : decode cX1_addPattern 69 = .ok (.isub, 1) := dk_100 (dk_at dksX1_addPattern_2 21 rfl rfl)
theorem dX1_addPattern_70 : decode cX1_addPattern 70 = .ok (.ireturn, 1) := dk_172 (dk_at dksX1_addPattern_2 22 rfl rfl)
abbrev cX1_isPatternRight : ByteArray := prog_1_method_25_code
def yX1_isPatternRight : MethodName := ⟨RX1, "isPatternRight", "(CI)Z"⟩
def dkwX1_isPatternRight_3 : List UInt8 := [3, 172]
abbrev dktX1_isPatternRight_3 : List UInt8 := dkwX1_isPatternRight_3 ++ []
def dkwX1_isPatternRight_2 : List UInt8 := [27, 3, 8, 184, 0, 67, 167, 0, 19, 27, 16, 157, 16, 99, 184, 0, 67, 167, 0, 8, 4, 167, 0, 4]
abbrev dktX1_isPatternRight_2 : List UInt8 := dkwX1_isPatternRight_2 ++ dktX1_isPatternRight_3
def dkwX1_isPatternRight_1 : List UInt8 := [171, 0, 0, 0, 0, 0, 147, 0, 0, 0, 14, 0, 0, 0, 33, 0, 0, 0, 143, 0, 0, 0, 38, 0, 0, 0, 143, 0, 0, 0, 99, 0, 0, 0, 143, 0, 0, 0, 101, 0, 0, 0, 143, 0, 0, 0, 102, 0, 0, 0, 143, 0, 0, 0, 103, 0, 0, 0, 143, 0, 0, 0, 104, 0, 0, 0, 143, 0, 0, 0, 109, 0, 0, 0, 143, 0, 0, 0, 110, 0, 0, 0, 123, 0, 0, 0, 115, 0, 0, 0, 143, 0, 0, 0, 116, 0, 0, 0, 123, 0, 0, 0, 118, 0, 0, 0, 132, 0, 0, 0, 119, 0, 0, 0, 123, 0, 0, 0, 124, 0, 0, 0, 143]
abbrev dktX1_isPatternRight_1 : List UInt8 := dkwX1_isPatternRight_1 ++ dktX1_isPatternRight_2
def dkwX1_isPatternRight_0 : List UInt8 := [26]
abbrev dktX1_isPatternRight_0 : List UInt8 := dkwX1_isPatternRight_0 ++ dktX1_isPatternRight_1
theorem dksX1_isPatternRight_0 : cX1_isPatternRight.data.toList.drop 0 = dktX1_isPatternRight_0 := by decide +kernel
theorem dksX1_isPatternRight_1 : cX1_isPatternRight.data.toList.drop 1 = dktX1_isPatternRight_1 := dk_seg dksX1_isPatternRight_0 1 rfl rfl
theorem dksX1_isPatternRight_2 : cX1_isPatternRight.data.toList.drop 124 = dktX1_isPatternRight_2 := dk_seg dksX1_isPatternRight_1 123 rfl rfl
theorem dksX1_isPatternRight_3 : cX1_isPatternRight.data.toList.drop 148 = dktX1_isPatternRight_3 := dk_seg dksX1_isPatternRight_2 24 rfl rfl
theorem dX1_isPatternRight_0 : decode cX1_isPatternRight 0 = .ok (.iload_n 0, 1) := dk_26 (dk_at dksX1_isPatternRight_0 0 rfl rfl)
theorem dX1_isPatternRight_1 : decode cX1_isPatternRight 1 = .ok (.lookupswitch 147 #[(33, 143), (38, 143), (99, 143), (101, 143), (102, 143), (103, 143), (104, 143), (109, 143), (110, 123), (115, 143), (116, 123), (118, 132), (119, 123), (124, 143)], 123) := by decide +kernel
theorem dX1_isPatternRight_124 : decode cX1_isPatternRight 124 = .ok (.iload_n 1, 1) := dk_27 (dk_at dksX1_isPatternRight_2 0 rfl rfl)
theorem dX1_isPatternRight_125 : decode cX1_isPatternRight 125 = .ok (.iconst 0, 1) := dk_3 (dk_at dksX1_isPatternRight_2 1 rfl rfl)
theorem dX1_isPatternRight_126 : decode cX1_isPatternRight 126 = .ok (.iconst 5, 1) := dk_8 (dk_at dksX1_isPatternRight_2 2 rfl rfl)
theorem dX1_isPatternRight_127 : decode cX1_isPatternRight 127 = .ok (.invokestatic 67, 3) := dk_184 0 67 (dk_at dksX1_isPatternRight_2 3 rfl rfl)
theorem dX1_isPatternRight_130 : decode cX1_isPatternRight 130 = .ok (.goto 19, 3) := dk_167 0 19 (dk_at dksX1_isPatternRight_2 6 rfl rfl)
theorem dX1_isPatternRight_133 : decode cX1_isPatternRight 133 = .ok (.iload_n 1, 1) := dk_27 (dk_at dksX1_isPatternRight_2 9 rfl rfl)
theorem dX1_isPatternRight_134 : decode cX1_isPatternRight 134 = .ok (.bipush (-99), 2) := dk_16 157 (dk_at dksX1_isPatternRight_2 10 rfl rfl)
theorem dX1_isPatternRight_136 : decode cX1_isPatternRight 136 = .ok (.bipush 99, 2) := dk_16 99 (dk_at dksX1_isPatternRight_2 12 rfl rfl)
theorem dX1_isPatternRight_138 : decode cX1_isPatternRight 138 = .ok (.invokestatic 67, 3) := dk_184 0 67 (dk_at dksX1_isPatternRight_2 14 rfl rfl)
theorem dX1_isPatternRight_141 : decode cX1_isPatternRight 141 = .ok (.goto 8, 3) := dk_167 0 8 (dk_at dksX1_isPatternRight_2 17 rfl rfl)
theorem dX1_isPatternRight_144 : decode cX1_isPatternRight 144 = .ok (.iconst 1, 1) := dk_4 (dk_at dksX1_isPatternRight_2 20 rfl rfl)
theorem dX1_isPatternRight_145 : decode cX1_isPatternRight 145 = .ok (.goto 4, 3) := dk_167 0 4 (dk_at dksX1_isPatternRight_2 21 rfl rfl)
theorem dX1_isPatternRight_148 : decode cX1_isPatternRight 148 = .ok (.iconst 0, 1) := dk_3 (dk_at dksX1_isPatternRight_3 0 rfl rfl)
theorem dX1_isPatternRight_149 : decode cX1_isPatternRight 149 = .ok (.ireturn, 1) := dk_172 (dk_at dksX1_isPatternRight_3 1 rfl rfl)
abbrev cX1_made : ByteArray := prog_1_method_27_code
def yX1_made : MethodName := ⟨RX1, "made", "(CII)LWeaversgate$Pattern;"⟩
def dkwX1_made_6 : List UInt8 := [167, 0, 22, 42, 28, 182, 0, 209, 184, 0, 219, 167, 0, 11, 187, 0, 223, 89, 27, 183, 0, 225, 176]
abbrev dktX1_made_6 : List UInt8 := dkwX1_made_6 ++ []
def dkwX1_made_5 : List UInt8 := [182, 0, 209, 4, 184, 0, 215, 167, 0, 39, 42, 28, 182, 0, 209, 42, 29, 182, 0, 209, 3, 184, 0, 215]
abbrev dktX1_made_5 : List UInt8 := dkwX1_made_5 ++ dktX1_made_6
def dkwX1_made_4 : List UInt8 := [187, 0, 207, 89, 42, 28, 182, 0, 209, 183, 0, 212, 167, 0, 56, 42, 28, 182, 0, 209, 42, 29]
abbrev dktX1_made_4 : List UInt8 := dkwX1_made_4 ++ dktX1_made_5
def dkwX1_made_3 : List UInt8 := [187, 0, 201, 89, 28, 183, 0, 203, 167, 0, 82, 187, 0, 204, 89, 28, 183, 0, 206, 167, 0, 71]
abbrev dktX1_made_3 : List UInt8 := dkwX1_made_3 ++ dktX1_made_4
def dkwX1_made_2 : List UInt8 := [187, 0, 192, 89, 28, 183, 0, 194, 167, 0, 105, 187, 0, 196, 89, 42, 28, 183, 0, 198, 167, 0, 93]
abbrev dktX1_made_2 : List UInt8 := dkwX1_made_2 ++ dktX1_made_3
def dkwX1_made_1 : List UInt8 := [171, 0, 0, 0, 0, 0, 180, 0, 0, 0, 8, 0, 0, 0, 33, 0, 0, 0, 169, 0, 0, 0, 38, 0, 0, 0, 135, 0, 0, 0, 102, 0, 0, 0, 120, 0, 0, 0, 110, 0, 0, 0, 75, 0, 0, 0, 116, 0, 0, 0, 86, 0, 0, 0, 118, 0, 0, 0, 109, 0, 0, 0, 119, 0, 0, 0, 98, 0, 0, 0, 124, 0, 0, 0, 152]
abbrev dktX1_made_1 : List UInt8 := dkwX1_made_1 ++ dktX1_made_2
def dkwX1_made_0 : List UInt8 := [27]
abbrev dktX1_made_0 : List UInt8 := dkwX1_made_0 ++ dktX1_made_1
theorem dksX1_made_0 : cX1_made.data.toList.drop 0 = dktX1_made_0 := by decide +kernel
theorem dksX1_made_1 : cX1_made.data.toList.drop 1 = dktX1_made_1 := dk_seg dksX1_made_0 1 rfl rfl
theorem dksX1_made_2 : cX1_made.data.toList.drop 76 = dktX1_made_2 := dk_seg dksX1_made_1 75 rfl rfl
theorem dksX1_made_3 : cX1_made.data.toList.drop 99 = dktX1_made_3 := dk_seg dksX1_made_2 23 rfl rfl
theorem dksX1_made_4 : cX1_made.data.toList.drop 121 = dktX1_made_4 := dk_seg dksX1_made_3 22 rfl rfl
theorem dksX1_made_5 : cX1_made.data.toList.drop 143 = dktX1_made_5 := dk_seg dksX1_made_4 22 rfl rfl
theorem dksX1_made_6 : cX1_made.data.toList.drop 167 = dktX1_made_6 := dk_seg dksX1_made_5 24 rfl rfl
theorem dX1_made_0 : decode cX1_made 0 = .ok (.iload_n 1, 1) := dk_27 (dk_at dksX1_made_0 0 rfl rfl)
theorem dX1_made_1 : decode cX1_made 1 = .ok (.lookupswitch 180 #[(33, 169), (38, 135), (102, 120), (110, 75), (116, 86), (118, 109), (119, 98), (124, 152)], 75) := by decide +kernel
theorem dX1_made_76 : decode cX1_made 76 = .ok (.new 192, 3) := dk_187 0 192 (dk_at dksX1_made_2 0 rfl rfl)
theorem dX1_made_79 : decode cX1_made 79 = .ok (.dup, 1) := dk_89 (dk_at dksX1_made_2 3 rfl rfl)
theorem dX1_made_80 : decode cX1_made 80 = .ok (.iload_n 2, 1) := dk_28 (dk_at dksX1_made_2 4 rfl rfl)
theorem dX1_made_81 : decode cX1_made 81 = .ok (.invokespecial 194, 3) := dk_183 0 194 (dk_at dksX1_made_2 5 rfl rfl)
theorem dX1_made_84 : decode cX1_made 84 = .ok (.goto 105, 3) := dk_167 0 105 (dk_at dksX1_made_2 8 rfl rfl)
theorem dX1_made_87 : decode cX1_made 87 = .ok (.new 196, 3) := dk_187 0 196 (dk_at dksX1_made_2 11 rfl rfl)
theorem dX1_made_90 : decode cX1_made 90 = .ok (.dup, 1) := dk_89 (dk_at dksX1_made_2 14 rfl rfl)
theorem dX1_made_91 : decode cX1_made 91 = .ok (.aload_n 0, 1) := dk_42 (dk_at dksX1_made_2 15 rfl rfl)
theorem dX1_made_92 : decode cX1_made 92 = .ok (.iload_n 2, 1) := dk_28 (dk_at dksX1_made_2 16 rfl rfl)
theorem dX1_made_93 : decode cX1_made 93 = .ok (.invokespecial 198, 3) := dk_183 0 198 (dk_at dksX1_made_2 17 rfl rfl)
theorem dX1_made_96 : decode cX1_made 96 = .ok (.goto 93, 3) := dk_167 0 93 (dk_at dksX1_made_2 20 rfl rfl)
theorem dX1_made_99 : decode cX1_made 99 = .ok (.new 201, 3) := dk_187 0 201 (dk_at dksX1_made_3 0 rfl rfl)
theorem dX1_made_102 : decode cX1_made 102 = .ok (.dup, 1) := dk_89 (dk_at dksX1_made_3 3 rfl rfl)
theorem dX1_made_103 : decode cX1_made 103 = .ok (.iload_n 2, 1) := dk_28 (dk_at dksX1_made_3 4 rfl rfl)
theorem dX1_made_104 : decode cX1_made 104 = .ok (.invokespecial 203, 3) := dk_183 0 203 (dk_at dksX1_made_3 5 rfl rfl)
theorem dX1_made_107 : decode cX1_made 107 = .ok (.goto 82, 3) := dk_167 0 82 (dk_at dksX1_made_3 8 rfl rfl)
theorem dX1_made_110 : decode cX1_made 110 = .ok (.new 204, 3) := dk_187 0 204 (dk_at dksX1_made_3 11 rfl rfl)
theorem dX1_made_113 : decode cX1_made 113 = .ok (.dup, 1) := dk_89 (dk_at dksX1_made_3 14 rfl rfl)
theorem dX1_made_114 : decode cX1_made 114 = .ok (.iload_n 2, 1) := dk_28 (dk_at dksX1_made_3 15 rfl rfl)
theorem dX1_made_115 : decode cX1_made 115 = .ok (.invokespecial 206, 3) := dk_183 0 206 (dk_at dksX1_made_3 16 rfl rfl)
theorem dX1_made_118 : decode cX1_made 118 = .ok (.goto 71, 3) := dk_167 0 71 (dk_at dksX1_made_3 19 rfl rfl)
theorem dX1_made_121 : decode cX1_made 121 = .ok (.new 207, 3) := dk_187 0 207 (dk_at dksX1_made_4 0 rfl rfl)
theorem dX1_made_124 : decode cX1_made 124 = .ok (.dup, 1) := dk_89 (dk_at dksX1_made_4 3 rfl rfl)
theorem dX1_made_125 : decode cX1_made 125 = .ok (.aload_n 0, 1) := dk_42 (dk_at dksX1_made_4 4 rfl rfl)
theorem dX1_made_126 : decode cX1_made 126 = .ok (.iload_n 2, 1) := dk_28 (dk_at dksX1_made_4 5 rfl rfl)
theorem dX1_made_127 : decode cX1_made 127 = .ok (.invokevirtual 209, 3) := dk_182 0 209 (dk_at dksX1_made_4 6 rfl rfl)
theorem dX1_made_130 : decode cX1_made 130 = .ok (.invokespecial 212, 3) := dk_183 0 212 (dk_at dksX1_made_4 9 rfl rfl)
theorem dX1_made_133 : decode cX1_made 133 = .ok (.goto 56, 3) := dk_167 0 56 (dk_at dksX1_made_4 12 rfl rfl)
theorem dX1_made_136 : decode cX1_made 136 = .ok (.aload_n 0, 1) := dk_42 (dk_at dksX1_made_4 15 rfl rfl)
theorem dX1_made_137 : decode cX1_made 137 = .ok (.iload_n 2, 1) := dk_28 (dk_at dksX1_made_4 16 rfl rfl)
theorem dX1_made_138 : decode cX1_made 138 = .ok (.invokevirtual 209, 3) := dk_182 0 209 (dk_at dksX1_made_4 17 rfl rfl)
theorem dX1_made_141 : decode cX1_made 141 = .ok (.aload_n 0, 1) := dk_42 (dk_at dksX1_made_4 20 rfl rfl)
theorem dX1_made_142 : decode cX1_made 142 = .ok (.iload_n 3, 1) := dk_29 (dk_at dksX1_made_4 21 rfl rfl)
theorem dX1_made_143 : decode cX1_made 143 = .ok (.invokevirtual 209, 3) := dk_182 0 209 (dk_at dksX1_made_5 0 rfl rfl)
theorem dX1_made_146 : decode cX1_made 146 = .ok (.iconst 1, 1) := dk_4 (dk_at dksX1_made_5 3 rfl rfl)
theorem dX1_made_147 : decode cX1_made 147 = .ok (.invokestatic 215, 3) := dk_184 0 215 (dk_at dksX1_made_5 4 rfl rfl)
theorem dX1_made_150 : decode cX1_made 150 = .ok (.goto 39, 3) := dk_167 0 39 (dk_at dksX1_made_5 7 rfl rfl)
theorem dX1_made_153 : decode cX1_made 153 = .ok (.aload_n 0, 1) := dk_42 (dk_at dksX1_made_5 10 rfl rfl)
theorem dX1_made_154 : decode cX1_made 154 = .ok (.iload_n 2, 1) := dk_28 (dk_at dksX1_made_5 11 rfl rfl)
theorem dX1_made_155 : decode cX1_made 155 = .ok (.invokevirtual 209, 3) := dk_182 0 209 (dk_at dksX1_made_5 12 rfl rfl)
theorem dX1_made_158 : decode cX1_made 158 = .ok (.aload_n 0, 1) := dk_42 (dk_at dksX1_made_5 15 rfl rfl)
theorem dX1_made_159 : decode cX1_made 159 = .ok (.iload_n 3, 1) := dk_29 (dk_at dksX1_made_5 16 rfl rfl)
theorem dX1_made_160 : decode cX1_made 160 = .ok (.invokevirtual 209, 3) := dk_182 0 209 (dk_at dksX1_made_5 17 rfl rfl)
theorem dX1_made_163 : decode cX1_made 163 = .ok (.iconst 0, 1) := dk_3 (dk_at dksX1_made_5 20 rfl rfl)
theorem dX1_made_164 : decode cX1_made 164 = .ok (.invokestatic 215, 3) := dk_184 0 215 (dk_at dksX1_made_5 21 rfl rfl)
theorem dX1_made_167 : decode cX1_made 167 = .ok (.goto 22, 3) := dk_167 0 22 (dk_at dksX1_made_6 0 rfl rfl)
theorem dX1_made_170 : decode cX1_made 170 = .ok (.aload_n 0, 1) := dk_42 (dk_at dksX1_made_6 3 rfl rfl)
theorem dX1_made_171 : decode cX1_made 171 = .ok (.iload_n 2, 1) := dk_28 (dk_at dksX1_made_6 4 rfl rfl)
theorem dX1_made_172 : decode cX1_made 172 = .ok (.invokevirtual 209, 3) := dk_182 0 209 (dk_at dksX1_made_6 5 rfl rfl)
theorem dX1_made_175 : decode cX1_made 175 = .ok (.invokestatic 219, 3) := dk_184 0 219 (dk_at dksX1_made_6 8 rfl rfl)
theorem dX1_made_178 : decode cX1_made 178 = .ok (.goto 11, 3) := dk_167 0 11 (dk_at dksX1_made_6 11 rfl rfl)
theorem dX1_made_181 : decode cX1_made 181 = .ok (.new 223, 3) := dk_187 0 223 (dk_at dksX1_made_6 14 rfl rfl)
theorem dX1_made_184 : decode cX1_made 184 = .ok (.dup, 1) := dk_89 (dk_at dksX1_made_6 17 rfl rfl)
theorem dX1_made_185 : decode cX1_made 185 = .ok (.iload_n 1, 1) := dk_27 (dk_at dksX1_made_6 18 rfl rfl)
theorem dX1_made_186 : decode cX1_made 186 = .ok (.invokespecial 225, 3) := dk_183 0 225 (dk_at dksX1_made_6 19 rfl rfl)
theorem dX1_made_189 : decode cX1_made 189 = .ok (.areturn, 1) := dk_176 (dk_at dksX1_made_6 22 rfl rfl)
abbrev cX1_pattern : ByteArray := prog_1_method_26_code
def yX1_pattern : MethodName := ⟨RX1, "pattern", "(I)LWeaversgate$Pattern;"⟩
def dkwX1_pattern_1 : List UInt8 := [182, 0, 75, 192, 0, 160, 176]
abbrev dktX1_pattern_1 : List UInt8 := dkwX1_pattern_1 ++ []
def dkwX1_pattern_0 : List UInt8 := [27, 3, 42, 180, 0, 26, 182, 0, 64, 4, 100, 184, 0, 67, 184, 0, 84, 42, 180, 0, 26, 27]
abbrev dktX1_pattern_0 : List UInt8 := dkwX1_pattern_0 ++ dktX1_pattern_1
theorem dksX1_pattern_0 : cX1_pattern.data.toList.drop 0 = dktX1_pattern_0 := by decide +kernel
theorem dksX1_pattern_1 : cX1_pattern.data.toList.drop 22 = dktX1_pattern_1 := dk_seg dksX1_pattern_0 22 rfl rfl
theorem dX1_pattern_0 : decode cX1_pattern 0 = .ok (.iload_n 1, 1) := dk_27 (dk_at dksX1_pattern_0 0 rfl rfl)
theorem dX1_pattern_1 : decode cX1_pattern 1 = .ok (.iconst 0, 1) := dk_3 (dk_at dksX1_pattern_0 1 rfl rfl)
theorem dX1_pattern_2 : decode cX1_pattern 2 = .ok (.aload_n 0, 1) := dk_42 (dk_at dksX1_pattern_0 2 rfl rfl)
theorem dX1_pattern_3 : decode cX1_pattern 3 = .ok (.getfield 26, 3) := dk_180 0 26 (dk_at dksX1_pattern_0 3 rfl rfl)
theorem dX1_pattern_6 : decode cX1_pattern 6 = .ok (.invokevirtual 64, 3) := dk_182 0 64 (dk_at dksX1_pattern_0 6 rfl rfl)
theorem dX1_pattern_9 : decode cX1_pattern 9 = .ok (.iconst 1, 1) := dk_4 (dk_at dksX1_pattern_0 9 rfl rfl)
theorem dX1_pattern_10 : decode cX1_pattern 10 = .ok (.isub, 1) := dk_100 (dk_at dksX1_pattern_0 10 rfl rfl)
theorem dX1_pattern_11 : decode cX1_pattern 11 = .ok (.invokestatic 67, 3) := dk_184 0 67 (dk_at dksX1_pattern_0 11 rfl rfl)
theorem dX1_pattern_14 : decode cX1_pattern 14 = .ok (.invokestatic 84, 3) := dk_184 0 84 (dk_at dksX1_pattern_0 14 rfl rfl)
theorem dX1_pattern_17 : decode cX1_pattern 17 = .ok (.aload_n 0, 1) := dk_42 (dk_at dksX1_pattern_0 17 rfl rfl)
theorem dX1_pattern_18 : decode cX1_pattern 18 = .ok (.getfield 26, 3) := dk_180 0 26 (dk_at dksX1_pattern_0 18 rfl rfl)
theorem dX1_pattern_21 : decode cX1_pattern 21 = .ok (.iload_n 1, 1) := dk_27 (dk_at dksX1_pattern_0 21 rfl rfl)
theorem dX1_pattern_22 : decode cX1_pattern 22 = .ok (.invokevirtual 75, 3) := dk_182 0 75 (dk_at dksX1_pattern_1 0 rfl rfl)
theorem dX1_pattern_25 : decode cX1_pattern 25 = .ok (.checkcast 160, 3) := dk_192 0 160 (dk_at dksX1_pattern_1 3 rfl rfl)
theorem dX1_pattern_28 : decode cX1_pattern 28 = .ok (.areturn, 1) := dk_176 (dk_at dksX1_pattern_1 6 rfl rfl)
abbrev cX1_checkFound : ByteArray := prog_1_method_7_code
def yX1_checkFound : MethodName := ⟨RX1, "checkFound", "(Z)V"⟩
def dkwX1_checkFound_0 : List UInt8 := [26, 154, 0, 11, 187, 0, 61, 89, 183, 0, 63, 191, 177]
abbrev dktX1_checkFound_0 : List UInt8 := dkwX1_checkFound_0 ++ []
theorem dksX1_checkFound_0 : cX1_checkFound.data.toList.drop 0 = dktX1_checkFound_0 := by decide +kernel
theorem dX1_checkFound_0 : decode cX1_checkFound 0 = .ok (.iload_n 0, 1) := dk_26 (dk_at dksX1_checkFound_0 0 rfl rfl)
theorem dX1_checkFound_1 : decode cX1_checkFound 1 = .ok (.ifCond .ne 11, 3) := dk_154 0 11 (dk_at dksX1_checkFound_0 1 rfl rfl)
theorem dX1_checkFound_4 : decode cX1_checkFound 4 = .ok (.new 61, 3) := dk_187 0 61 (dk_at dksX1_checkFound_0 4 rfl rfl)
theorem dX1_checkFound_7 : decode cX1_checkFound 7 = .ok (.dup, 1) := dk_89 (dk_at dksX1_checkFound_0 7 rfl rfl)
theorem dX1_checkFound_8 : decode cX1_checkFound 8 = .ok (.invokespecial 63, 3) := dk_183 0 63 (dk_at dksX1_checkFound_0 8 rfl rfl)
theorem dX1_checkFound_11 : decode cX1_checkFound 11 = .ok (.athrow, 1) := dk_191 (dk_at dksX1_checkFound_0 11 rfl rfl)
theorem dX1_checkFound_12 : decode cX1_checkFound 12 = .ok (.return_, 1) := dk_177 (dk_at dksX1_checkFound_0 12 rfl rfl)
abbrev cX1_addAdvice : ByteArray := prog_1_method_30_code
def yX1_addAdvice : MethodName := ⟨RX1, "addAdvice", "(ICIII)I"⟩
def dkwX1_addAdvice_5 : List UInt8 := [182, 0, 64, 4, 100, 172]
abbrev dktX1_addAdvice_5 : List UInt8 := dkwX1_addAdvice_5 ++ []
def dkwX1_addAdvice_4 : List UInt8 := [182, 0, 64, 27, 28, 25, 6, 21, 4, 21, 5, 183, 0, 245, 182, 0, 111, 87, 42, 180, 0, 29]
abbrev dktX1_addAdvice_4 : List UInt8 := dkwX1_addAdvice_4 ++ dktX1_addAdvice_5
def dkwX1_addAdvice_3 : List UInt8 := [162, 0, 7, 4, 167, 0, 4, 3, 184, 0, 172, 42, 180, 0, 29, 187, 0, 87, 89, 42, 180, 0, 29]
abbrev dktX1_addAdvice_3 : List UInt8 := dkwX1_addAdvice_3 ++ dktX1_addAdvice_4
def dkwX1_addAdvice_2 : List UInt8 := [167, 0, 4, 3, 184, 0, 81, 42, 29, 182, 0, 209, 58, 6, 42, 180, 0, 29, 182, 0, 64, 16, 12]
abbrev dktX1_addAdvice_2 : List UInt8 := dkwX1_addAdvice_2 ++ dktX1_addAdvice_3
def dkwX1_addAdvice_1 : List UInt8 := [21, 4, 16, 157, 16, 99, 184, 0, 67, 153, 0, 17, 21, 5, 3, 5, 184, 0, 67, 153, 0, 7, 4]
abbrev dktX1_addAdvice_1 : List UInt8 := dkwX1_addAdvice_1 ++ dktX1_addAdvice_2
def dkwX1_addAdvice_0 : List UInt8 := [27, 3, 6, 184, 0, 67, 153, 0, 14, 28, 184, 0, 241, 153, 0, 7, 4, 167, 0, 4, 3, 184, 0, 81]
abbrev dktX1_addAdvice_0 : List UInt8 := dkwX1_addAdvice_0 ++ dktX1_addAdvice_1
theorem dksX1_addAdvice_0 : cX1_addAdvice.data.toList.drop 0 = dktX1_addAdvice_0 := by decide +kernel
theorem dksX1_addAdvice_1 : cX1_addAdvice.data.toList.drop 24 = dktX1_addAdvice_1 := dk_seg dksX1_addAdvice_0 24 rfl rfl
theorem dksX1_addAdvice_2 : cX1_addAdvice.data.toList.drop 47 = dktX1_addAdvice_2 := dk_seg dksX1_addAdvice_1 23 rfl rfl
theorem dksX1_addAdvice_3 : cX1_addAdvice.data.toList.drop 70 = dktX1_addAdvice_3 := dk_seg dksX1_addAdvice_2 23 rfl rfl
theorem dksX1_addAdvice_4 : cX1_addAdvice.data.toList.drop 93 = dktX1_addAdvice_4 := dk_seg dksX1_addAdvice_3 23 rfl rfl
theorem dksX1_addAdvice_5 : cX1_addAdvice.data.toList.drop 115 = dktX1_addAdvice_5 := dk_seg dksX1_addAdvice_4 22 rfl rfl
theorem dX1_addAdvice_0 : decode cX1_addAdvice 0 = .ok (.iload_n 1, 1) := dk_27 (dk_at dksX1_addAdvice_0 0 rfl rfl)
theorem dX1_addAdvice_1 : decode cX1_addAdvice 1 = .ok (.iconst 0, 1) := dk_3 (dk_at dksX1_addAdvice_0 1 rfl rfl)
theorem dX1_addAdvice_2 : decode cX1_addAdvice 2 = .ok (.iconst 3, 1) := dk_6 (dk_at dksX1_addAdvice_0 2 rfl rfl)
theorem dX1_addAdvice_3 : decode cX1_addAdvice 3 = .ok (.invokestatic 67, 3) := dk_184 0 67 (dk_at dksX1_addAdvice_0 3 rfl rfl)
theorem dX1_addAdvice_6 : decode cX1_addAdvice 6 = .ok (.ifCond .eq 14, 3) := dk_153 0 14 (dk_at dksX1_addAdvice_0 6 rfl rfl)
theorem dX1_addAdvice_9 : decode cX1_addAdvice 9 = .ok (.iload_n 2, 1) := dk_28 (dk_at dksX1_addAdvice_0 9 rfl rfl)
theorem dX1_addAdvice_10 : decode cX1_addAdvice 10 = .ok (.invokestatic 241, 3) := dk_184 0 241 (dk_at dksX1_addAdvice_0 10 rfl rfl)
theorem dX1_addAdvice_13 : decode cX1_addAdvice 13 = .ok (.ifCond .eq 7, 3) := dk_153 0 7 (dk_at dksX1_addAdvice_0 13 rfl rfl)
theorem dX1_addAdvice_16 : decode cX1_addAdvice 16 = .ok (.iconst 1, 1) := dk_4 (dk_at dksX1_addAdvice_0 16 rfl rfl)
theorem dX1_addAdvice_17 : decode cX1_addAdvice 17 = .ok (.goto 4, 3) := dk_167 0 4 (dk_at dksX1_addAdvice_0 17 rfl rfl)
theorem dX1_addAdvice_20 : decode cX1_addAdvice 20 = .ok (.iconst 0, 1) := dk_3 (dk_at dksX1_addAdvice_0 20 rfl rfl)
theorem dX1_addAdvice_21 : decode cX1_addAdvice 21 = .ok (.invokestatic 81, 3) := dk_184 0 81 (dk_at dksX1_addAdvice_0 21 rfl rfl)
theorem dX1_addAdvice_24 : decode cX1_addAdvice 24 = .ok (.iload 4, 2) := dk_21 4 (dk_at dksX1_addAdvice_1 0 rfl rfl)
theorem dX1_addAdvice_26 : decode cX1_addAdvice 26 = .ok (.bipush (-99), 2) := dk_16 157 (dk_at dksX1_addAdvice_1 2 rfl rfl)
theorem dX1_addAdvice_28 : decode cX1_addAdvice 28 = .ok (.bipush 99, 2) := dk_16 99 (dk_at dksX1_addAdvice_1 4 rfl rfl)
theorem dX1_addAdvice_30 : decode cX1_addAdvice 30 = .ok (.invokestatic 67, 3) := dk_184 0 67 (dk_at dksX1_addAdvice_1 6 rfl rfl)
theorem dX1_addAdvice_33 : decode cX1_addAdvice 33 = .ok (.ifCond .eq 17, 3) := dk_153 0 17 (dk_at dksX1_addAdvice_1 9 rfl rfl)
theorem dX1_addAdvice_36 : decode cX1_addAdvice 36 = .ok (.iload 5, 2) := dk_21 5 (dk_at dksX1_addAdvice_1 12 rfl rfl)
theorem dX1_addAdvice_38 : decode cX1_addAdvice 38 = .ok (.iconst 0, 1) := dk_3 (dk_at dksX1_addAdvice_1 14 rfl rfl)
theorem dX1_addAdvice_39 : decode cX1_addAdvice 39 = .ok (.iconst 2, 1) := dk_5 (dk_at dksX1_addAdvice_1 15 rfl rfl)
theorem dX1_addAdvice_40 : decode cX1_addAdvice 40 = .ok (.invokestatic 67, 3) := dk_184 0 67 (dk_at dksX1_addAdvice_1 16 rfl rfl)
theorem dX1_addAdvice_43 : decode cX1_addAdvice 43 = .ok (.ifCond .eq 7, 3) := dk_153 0 7 (dk_at dksX1_addAdvice_1 19 rfl rfl)
theorem dX1_addAdvice_46 : decode cX1_addAdvice 46 = .ok (.iconst 1, 1) := dk_4 (dk_at dksX1_addAdvice_1 22 rfl rfl)
theorem dX1_addAdvice_47 : decode cX1_addAdvice 47 = .ok (.goto 4, 3) := dk_167 0 4 (dk_at dksX1_addAdvice_2 0 rfl rfl)
theorem dX1_addAdvice_50 : decode cX1_addAdvice 50 = .ok (.iconst 0, 1) := dk_3 (dk_at dksX1_addAdvice_2 3 rfl rfl)
theorem dX1_addAdvice_51 : decode cX1_addAdvice 51 = .ok (.invokestatic 81, 3) := dk_184 0 81 (dk_at dksX1_addAdvice_2 4 rfl rfl)
theorem dX1_addAdvice_54 : decode cX1_addAdvice 54 = .ok (.aload_n 0, 1) := dk_42 (dk_at dksX1_addAdvice_2 7 rfl rfl)
theorem dX1_addAdvice_55 : decode cX1_addAdvice 55 = .ok (.iload_n 3, 1) := dk_29 (dk_at dksX1_addAdvice_2 8 rfl rfl)
theorem dX1_addAdvice_56 : decode cX1_addAdvice 56 = .ok (.invokevirtual 209, 3) := dk_182 0 209 (dk_at dksX1_addAdvice_2 9 rfl rfl)
theorem dX1_addAdvice_59 : decode cX1_addAdvice 59 = .ok (.astore 6, 2) := dk_58 6 (dk_at dksX1_addAdvice_2 12 rfl rfl)
theorem dX1_addAdvice_61 : decode cX1_addAdvice 61 = .ok (.aload_n 0, 1) := dk_42 (dk_at dksX1_addAdvice_2 14 rfl rfl)
theorem dX1_addAdvice_62 : decode cX1_addAdvice 62 = .ok (.getfield 29, 3) := dk_180 0 29 (dk_at dksX1_addAdvice_2 15 rfl rfl)
theorem dX1_addAdvice_65 : decode cX1_addAdvice 65 = .ok (.invokevirtual 64, 3) := dk_182 0 64 (dk_at dksX1_addAdvice_2 18 rfl rfl)
theorem dX1_addAdvice_68 : decode cX1_addAdvice 68 = .ok (.bipush 12, 2) := dk_16 12 (dk_at dksX1_addAdvice_2 21 rfl rfl)
theorem dX1_addAdvice_70 : decode cX1_addAdvice 70 = .ok (.if_icmp .ge 7, 3) := dk_162 0 7 (dk_at dksX1_addAdvice_3 0 rfl rfl)
theorem dX1_addAdvice_73 : decode cX1_addAdvice 73 = .ok (.iconst 1, 1) := dk_4 (dk_at dksX1_addAdvice_3 3 rfl rfl)
theorem dX1_addAdvice_74 : decode cX1_addAdvice 74 = .ok (.goto 4, 3) := dk_167 0 4 (dk_at dksX1_addAdvice_3 4 rfl rfl)
theorem dX1_addAdvice_77 : decode cX1_addAdvice 77 = .ok (.iconst 0, 1) := dk_3 (dk_at dksX1_addAdvice_3 7 rfl rfl)
theorem dX1_addAdvice_78 : decode cX1_addAdvice 78 = .ok (.invokestatic 172, 3) := dk_184 0 172 (dk_at dksX1_addAdvice_3 8 rfl rfl)
theorem dX1_addAdvice_81 : decode cX1_addAdvice 81 = .ok (.aload_n 0, 1) := dk_42 (dk_at dksX1_addAdvice_3 11 rfl rfl)
theorem dX1_addAdvice_82 : decode cX1_addAdvice 82 = .ok (.getfield 29, 3) := dk_180 0 29 (dk_at dksX1_addAdvice_3 12 rfl rfl)
theorem dX1_addAdvice_85 : decode cX1_addAdvice 85 = .ok (.new 87, 3) := dk_187 0 87 (dk_at dksX1_addAdvice_3 15 rfl rfl)
theorem dX1_addAdvice_88 : decode cX1_addAdvice 88 = .ok (.dup, 1) := dk_89 (dk_at dksX1_addAdvice_3 18 rfl rfl)
theorem dX1_addAdvice_89 : decode cX1_addAdvice 89 = .ok (.aload_n 0, 1) := dk_42 (dk_at dksX1_addAdvice_3 19 rfl rfl)
theorem dX1_addAdvice_90 : decode cX1_addAdvice 90 = .ok (.getfield 29, 3) := dk_180 0 29 (dk_at dksX1_addAdvice_3 20 rfl rfl)
theorem dX1_addAdvice_93 : decode cX1_addAdvice 93 = .ok (.invokevirtual 64, 3) := dk_182 0 64 (dk_at dksX1_addAdvice_4 0 rfl rfl)
theorem dX1_addAdvice_96 : decode cX1_addAdvice 96 = .ok (.iload_n 1, 1) := dk_27 (dk_at dksX1_addAdvice_4 3 rfl rfl)
theorem dX1_addAdvice_97 : decode cX1_addAdvice 97 = .ok (.iload_n 2, 1) := dk_28 (dk_at dksX1_addAdvice_4 4 rfl rfl)
theorem dX1_addAdvice_98 : decode cX1_addAdvice 98 = .ok (.aload 6, 2) := dk_25 6 (dk_at dksX1_addAdvice_4 5 rfl rfl)
theorem dX1_addAdvice_100 : decode cX1_addAdvice 100 = .ok (.iload 4, 2) := dk_21 4 (dk_at dksX1_addAdvice_4 7 rfl rfl)
theorem dX1_addAdvice_102 : decode cX1_addAdvice 102 = .ok (.iload 5, 2) := dk_21 5 (dk_at dksX1_addAdvice_4 9 rfl rfl)
theorem dX1_addAdvice_104 : decode cX1_addAdvice 104 = .ok (.invokespecial 245, 3) := dk_183 0 245 (dk_at dksX1_addAdvice_4 11 rfl rfl)
theorem dX1_addAdvice_107 : decode cX1_addAdvice 107 = .ok (.invokevirtual 111, 3) := dk_182 0 111 (dk_at dksX1_addAdvice_4 14 rfl rfl)
theorem dX1_addAdvice_110 : decode cX1_addAdvice 110 = .ok (.pop, 1) := dk_87 (dk_at dksX1_addAdvice_4 17 rfl rfl)
theorem dX1_addAdvice_111 : decode cX1_addAdvice 111 = .ok (.aload_n 0, 1) := dk_42 (dk_at dksX1_addAdvice_4 18 rfl rfl)
theorem dX1_addAdvice_112 : decode cX1_addAdvice 112 = .ok (.getfield 29, 3) := dk_180 0 29 (dk_at dksX1_addAdvice_4 19 rfl rfl)
theorem dX1_addAdvice_115 : decode cX1_addAdvice 115 = .ok (.invokevirtual 64, 3) := dk_182 0 64 (dk_at dksX1_addAdvice_5 0 rfl rfl)
theorem dX1_addAdvice_118 : decode cX1_addAdvice 118 = .ok (.iconst 1, 1) := dk_4 (dk_at dksX1_addAdvice_5 3 rfl rfl)
theorem dX1_addAdvice_119 : decode cX1_addAdvice 119 = .ok (.isub, 1) := dk_100 (dk_at dksX1_addAdvice_5 4 rfl rfl)
theorem dX1_addAdvice_120 : decode cX1_addAdvice 120 = .ok (.ireturn, 1) := dk_172 (dk_at dksX1_addAdvice_5 5 rfl rfl)
abbrev cX1_isAdvice : ByteArray := prog_1_method_29_code
def yX1_isAdvice : MethodName := ⟨RX1, "isAdvice", "(C)Z"⟩
def dkwX1_isAdvice_1 : List UInt8 := [26, 16, 114, 160, 0, 7, 4, 167, 0, 4, 3, 172]
abbrev dktX1_isAdvice_1 : List UInt8 := dkwX1_isAdvice_1 ++ []
def dkwX1_isAdvice_0 : List UInt8 := [26, 16, 98, 159, 0, 27, 26, 16, 97, 159, 0, 21, 26, 16, 120, 159, 0, 15, 26, 16, 102, 159, 0, 9]
abbrev dktX1_isAdvice_0 : List UInt8 := dkwX1_isAdvice_0 ++ dktX1_isAdvice_1
theorem dksX1_isAdvice_0 : cX1_isAdvice.data.toList.drop 0 = dktX1_isAdvice_0 := by decide +kernel
theorem dksX1_isAdvice_1 : cX1_isAdvice.data.toList.drop 24 = dktX1_isAdvice_1 := dk_seg dksX1_isAdvice_0 24 rfl rfl
theorem dX1_isAdvice_0 : decode cX1_isAdvice 0 = .ok (.iload_n 0, 1) := dk_26 (dk_at dksX1_isAdvice_0 0 rfl rfl)
theorem dX1_isAdvice_1 : decode cX1_isAdvice 1 = .ok (.bipush 98, 2) := dk_16 98 (dk_at dksX1_isAdvice_0 1 rfl rfl)
theorem dX1_isAdvice_3 : decode cX1_isAdvice 3 = .ok (.if_icmp .eq 27, 3) := dk_159 0 27 (dk_at dksX1_isAdvice_0 3 rfl rfl)
theorem dX1_isAdvice_6 : decode cX1_isAdvice 6 = .ok (.iload_n 0, 1) := dk_26 (dk_at dksX1_isAdvice_0 6 rfl rfl)
theorem dX1_isAdvice_7 : decode cX1_isAdvice 7 = .ok (.bipush 97, 2) := dk_16 97 (dk_at dksX1_isAdvice_0 7 rfl rfl)
theorem dX1_isAdvice_9 : decode cX1_isAdvice 9 = .ok (.if_icmp .eq 21, 3) := dk_159 0 21 (dk_at dksX1_isAdvice_0 9 rfl rfl)
theorem dX1_isAdvice_12 : decode cX1_isAdvice 12 = .ok (.iload_n 0, 1) := dk_26 (dk_at dksX1_isAdvice_0 12 rfl rfl)
theorem dX1_isAdvice_13 : decode cX1_isAdvice 13 = .ok (.bipush 120, 2) := dk_16 120 (dk_at dksX1_isAdvice_0 13 rfl rfl)
theorem dX1_isAdvice_15 : decode cX1_isAdvice 15 = .ok (.if_icmp .eq 15, 3) := dk_159 0 15 (dk_at dksX1_isAdvice_0 15 rfl rfl)
theorem dX1_isAdvice_18 : decode cX1_isAdvice 18 = .ok (.iload_n 0, 1) := dk_26 (dk_at dksX1_isAdvice_0 18 rfl rfl)
theorem dX1_isAdvice_19 : decode cX1_isAdvice 19 = .ok (.bipush 102, 2) := dk_16 102 (dk_at dksX1_isAdvice_0 19 rfl rfl)
theorem dX1_isAdvice_21 : decode cX1_isAdvice 21 = .ok (.if_icmp .eq 9, 3) := dk_159 0 9 (dk_at dksX1_isAdvice_0 21 rfl rfl)
theorem dX1_isAdvice_24 : decode cX1_isAdvice 24 = .ok (.iload_n 0, 1) := dk_26 (dk_at dksX1_isAdvice_1 0 rfl rfl)
theorem dX1_isAdvice_25 : decode cX1_isAdvice 25 = .ok (.bipush 114, 2) := dk_16 114 (dk_at dksX1_isAdvice_1 1 rfl rfl)
theorem dX1_isAdvice_27 : decode cX1_isAdvice 27 = .ok (.if_icmp .ne 7, 3) := dk_160 0 7 (dk_at dksX1_isAdvice_1 3 rfl rfl)
theorem dX1_isAdvice_30 : decode cX1_isAdvice 30 = .ok (.iconst 1, 1) := dk_4 (dk_at dksX1_isAdvice_1 6 rfl rfl)
theorem dX1_isAdvice_31 : decode cX1_isAdvice 31 = .ok (.goto 4, 3) := dk_167 0 4 (dk_at dksX1_isAdvice_1 7 rfl rfl)
theorem dX1_isAdvice_34 : decode cX1_isAdvice 34 = .ok (.iconst 0, 1) := dk_3 (dk_at dksX1_isAdvice_1 10 rfl rfl)
theorem dX1_isAdvice_35 : decode cX1_isAdvice 35 = .ok (.ireturn, 1) := dk_172 (dk_at dksX1_isAdvice_1 11 rfl rfl)
abbrev cX1_turn : ByteArray := prog_1_method_31_code
def yX1_turn : MethodName := ⟨RX1, "turn", "(IZ)Z"⟩
def dkwX1_turn_0 : List UInt8 := [42, 27, 182, 0, 248, 78, 45, 180, 0, 151, 54, 4, 45, 28, 181, 0, 151, 21, 4, 172]
abbrev dktX1_turn_0 : List UInt8 := dkwX1_turn_0 ++ []
theorem dksX1_turn_0 : cX1_turn.data.toList.drop 0 = dktX1_turn_0 := by decide +kernel
theorem dX1_turn_0 : decode cX1_turn 0 = .ok (.aload_n 0, 1) := dk_42 (dk_at dksX1_turn_0 0 rfl rfl)
theorem dX1_turn_1 : decode cX1_turn 1 = .ok (.iload_n 1, 1) := dk_27 (dk_at dksX1_turn_0 1 rfl rfl)
theorem dX1_turn_2 : decode cX1_turn 2 = .ok (.invokevirtual 248, 3) := dk_182 0 248 (dk_at dksX1_turn_0 2 rfl rfl)
theorem dX1_turn_5 : decode cX1_turn 5 = .ok (.astore_n 3, 1) := dk_78 (dk_at dksX1_turn_0 5 rfl rfl)
theorem dX1_turn_6 : decode cX1_turn 6 = .ok (.aload_n 3, 1) := dk_45 (dk_at dksX1_turn_0 6 rfl rfl)
theorem dX1_turn_7 : decode cX1_turn 7 = .ok (.getfield 151, 3) := dk_180 0 151 (dk_at dksX1_turn_0 7 rfl rfl)
theorem dX1_turn_10 : decode cX1_turn 10 = .ok (.istore 4, 2) := dk_54 4 (dk_at dksX1_turn_0 10 rfl rfl)
theorem dX1_turn_12 : decode cX1_turn 12 = .ok (.aload_n 3, 1) := dk_45 (dk_at dksX1_turn_0 12 rfl rfl)
theorem dX1_turn_13 : decode cX1_turn 13 = .ok (.iload_n 2, 1) := dk_28 (dk_at dksX1_turn_0 13 rfl rfl)
theorem dX1_turn_14 : decode cX1_turn 14 = .ok (.putfield 151, 3) := dk_181 0 151 (dk_at dksX1_turn_0 14 rfl rfl)
theorem dX1_turn_17 : decode cX1_turn 17 = .ok (.iload 4, 2) := dk_21 4 (dk_at dksX1_turn_0 17 rfl rfl)
theorem dX1_turn_19 : decode cX1_turn 19 = .ok (.ireturn, 1) := dk_172 (dk_at dksX1_turn_0 19 rfl rfl)
abbrev cX1_advice : ByteArray := prog_1_method_10_code
def yX1_advice : MethodName := ⟨RX1, "advice", "(I)LWeaversgate$Advice;"⟩
def dkwX1_advice_1 : List UInt8 := [182, 0, 75, 192, 0, 87, 176]
abbrev dktX1_advice_1 : List UInt8 := dkwX1_advice_1 ++ []
def dkwX1_advice_0 : List UInt8 := [27, 3, 42, 180, 0, 29, 182, 0, 64, 4, 100, 184, 0, 67, 184, 0, 84, 42, 180, 0, 29, 27]
abbrev dktX1_advice_0 : List UInt8 := dkwX1_advice_0 ++ dktX1_advice_1
theorem dksX1_advice_0 : cX1_advice.data.toList.drop 0 = dktX1_advice_0 := by decide +kernel
theorem dksX1_advice_1 : cX1_advice.data.toList.drop 22 = dktX1_advice_1 := dk_seg dksX1_advice_0 22 rfl rfl
theorem dX1_advice_0 : decode cX1_advice 0 = .ok (.iload_n 1, 1) := dk_27 (dk_at dksX1_advice_0 0 rfl rfl)
theorem dX1_advice_1 : decode cX1_advice 1 = .ok (.iconst 0, 1) := dk_3 (dk_at dksX1_advice_0 1 rfl rfl)
theorem dX1_advice_2 : decode cX1_advice 2 = .ok (.aload_n 0, 1) := dk_42 (dk_at dksX1_advice_0 2 rfl rfl)
theorem dX1_advice_3 : decode cX1_advice 3 = .ok (.getfield 29, 3) := dk_180 0 29 (dk_at dksX1_advice_0 3 rfl rfl)
theorem dX1_advice_6 : decode cX1_advice 6 = .ok (.invokevirtual 64, 3) := dk_182 0 64 (dk_at dksX1_advice_0 6 rfl rfl)
theorem dX1_advice_9 : decode cX1_advice 9 = .ok (.iconst 1, 1) := dk_4 (dk_at dksX1_advice_0 9 rfl rfl)
theorem dX1_advice_10 : decode cX1_advice 10 = .ok (.isub, 1) := dk_100 (dk_at dksX1_advice_0 10 rfl rfl)
theorem dX1_advice_11 : decode cX1_advice 11 = .ok (.invokestatic 67, 3) := dk_184 0 67 (dk_at dksX1_advice_0 11 rfl rfl)
theorem dX1_advice_14 : decode cX1_advice 14 = .ok (.invokestatic 84, 3) := dk_184 0 84 (dk_at dksX1_advice_0 14 rfl rfl)
theorem dX1_advice_17 : decode cX1_advice 17 = .ok (.aload_n 0, 1) := dk_42 (dk_at dksX1_advice_0 17 rfl rfl)
theorem dX1_advice_18 : decode cX1_advice 18 = .ok (.getfield 29, 3) := dk_180 0 29 (dk_at dksX1_advice_0 18 rfl rfl)
theorem dX1_advice_21 : decode cX1_advice 21 = .ok (.iload_n 1, 1) := dk_27 (dk_at dksX1_advice_0 21 rfl rfl)
theorem dX1_advice_22 : decode cX1_advice 22 = .ok (.invokevirtual 75, 3) := dk_182 0 75 (dk_at dksX1_advice_1 0 rfl rfl)
theorem dX1_advice_25 : decode cX1_advice 25 = .ok (.checkcast 87, 3) := dk_192 0 87 (dk_at dksX1_advice_1 3 rfl rfl)
theorem dX1_advice_28 : decode cX1_advice 28 = .ok (.areturn, 1) := dk_176 (dk_at dksX1_advice_1 6 rfl rfl)
abbrev cX1_precede : ByteArray := prog_1_method_32_code
def yX1_precede : MethodName := ⟨RX1, "precede", "(IIZ)Z"⟩
def dkwX1_precede_2 : List UInt8 := [29, 84, 21, 4, 172]
abbrev dktX1_precede_2 : List UInt8 := dkwX1_precede_2 ++ []
def dkwX1_precede_1 : List UInt8 := [167, 0, 4, 3, 184, 0, 81, 42, 180, 0, 34, 27, 50, 28, 51, 54, 4, 42, 180, 0, 34, 27, 50, 28]
abbrev dktX1_precede_1 : List UInt8 := dkwX1_precede_1 ++ dktX1_precede_2
def dkwX1_precede_0 : List UInt8 := [27, 3, 6, 184, 0, 67, 153, 0, 21, 28, 3, 6, 184, 0, 67, 153, 0, 12, 27, 28, 159, 0, 7, 4]
abbrev dktX1_precede_0 : List UInt8 := dkwX1_precede_0 ++ dktX1_precede_1
theorem dksX1_precede_0 : cX1_precede.data.toList.drop 0 = dktX1_precede_0 := by decide +kernel
theorem dksX1_precede_1 : cX1_precede.data.toList.drop 24 = dktX1_precede_1 := dk_seg dksX1_precede_0 24 rfl rfl
theorem dksX1_precede_2 : cX1_precede.data.toList.drop 48 = dktX1_precede_2 := dk_seg dksX1_precede_1 24 rfl rfl
theorem dX1_precede_0 : decode cX1_precede 0 = .ok (.iload_n 1, 1) := dk_27 (dk_at dksX1_precede_0 0 rfl rfl)
theorem dX1_precede_1 : decode cX1_precede 1 = .ok (.iconst 0, 1) := dk_3 (dk_at dksX1_precede_0 1 rfl rfl)
theorem dX1_precede_2 : decode cX1_precede 2 = .ok (.iconst 3, 1) := dk_6 (dk_at dksX1_precede_0 2 rfl rfl)
theorem dX1_precede_3 : decode cX1_precede 3 = .ok (.invokestatic 67, 3) := dk_184 0 67 (dk_at dksX1_precede_0 3 rfl rfl)
theorem dX1_precede_6 : decode cX1_precede 6 = .ok (.ifCond .eq 21, 3) := dk_153 0 21 (dk_at dksX1_precede_0 6 rfl rfl)
theorem dX1_precede_9 : decode cX1_precede 9 = .ok (.iload_n 2, 1) := dk_28 (dk_at dksX1_precede_0 9 rfl rfl)
theorem dX1_precede_10 : decode cX1_precede 10 = .ok (.iconst 0, 1) := dk_3 (dk_at dksX1_precede_0 10 rfl rfl)
theorem dX1_precede_11 : decode cX1_precede 11 = .ok (.iconst 3, 1) := dk_6 (dk_at dksX1_precede_0 11 rfl rfl)
theorem dX1_precede_12 : decode cX1_precede 12 = .ok (.invokestatic 67, 3) := dk_184 0 67 (dk_at dksX1_precede_0 12 rfl rfl)
theorem dX1_precede_15 : decode cX1_precede 15 = .ok (.ifCond .eq 12, 3) := dk_153 0 12 (dk_at dksX1_precede_0 15 rfl rfl)
theorem dX1_precede_18 : decode cX1_precede 18 = .ok (.iload_n 1, 1) := dk_27 (dk_at dksX1_precede_0 18 rfl rfl)
theorem dX1_precede_19 : decode cX1_precede 19 = .ok (.iload_n 2, 1) := dk_28 (dk_at dksX1_precede_0 19 rfl rfl)
theorem dX1_precede_20 : decode cX1_precede 20 = .ok (.if_icmp .eq 7, 3) := dk_159 0 7 (dk_at dksX1_precede_0 20 rfl rfl)
theorem dX1_precede_23 : decode cX1_precede 23 = .ok (.iconst 1, 1) := dk_4 (dk_at dksX1_precede_0 23 rfl rfl)
theorem dX1_precede_24 : decode cX1_precede 24 = .ok (.goto 4, 3) := dk_167 0 4 (dk_at dksX1_precede_1 0 rfl rfl)
theorem dX1_precede_27 : decode cX1_precede 27 = .ok (.iconst 0, 1) := dk_3 (dk_at dksX1_precede_1 3 rfl rfl)
theorem dX1_precede_28 : decode cX1_precede 28 = .ok (.invokestatic 81, 3) := dk_184 0 81 (dk_at dksX1_precede_1 4 rfl rfl)
theorem dX1_precede_31 : decode cX1_precede 31 = .ok (.aload_n 0, 1) := dk_42 (dk_at dksX1_precede_1 7 rfl rfl)
theorem dX1_precede_32 : decode cX1_precede 32 = .ok (.getfield 34, 3) := dk_180 0 34 (dk_at dksX1_precede_1 8 rfl rfl)
theorem dX1_precede_35 : decode cX1_precede 35 = .ok (.iload_n 1, 1) := dk_27 (dk_at dksX1_precede_1 11 rfl rfl)
theorem dX1_precede_36 : decode cX1_precede 36 = .ok (.aaload, 1) := dk_50 (dk_at dksX1_precede_1 12 rfl rfl)
theorem dX1_precede_37 : decode cX1_precede 37 = .ok (.iload_n 2, 1) := dk_28 (dk_at dksX1_precede_1 13 rfl rfl)
theorem dX1_precede_38 : decode cX1_precede 38 = .ok (.baload, 1) := dk_51 (dk_at dksX1_precede_1 14 rfl rfl)
theorem dX1_precede_39 : decode cX1_precede 39 = .ok (.istore 4, 2) := dk_54 4 (dk_at dksX1_precede_1 15 rfl rfl)
theorem dX1_precede_41 : decode cX1_precede 41 = .ok (.aload_n 0, 1) := dk_42 (dk_at dksX1_precede_1 17 rfl rfl)
theorem dX1_precede_42 : decode cX1_precede 42 = .ok (.getfield 34, 3) := dk_180 0 34 (dk_at dksX1_precede_1 18 rfl rfl)
theorem dX1_precede_45 : decode cX1_precede 45 = .ok (.iload_n 1, 1) := dk_27 (dk_at dksX1_precede_1 21 rfl rfl)
theorem dX1_precede_46 : decode cX1_precede 46 = .ok (.aaload, 1) := dk_50 (dk_at dksX1_precede_1 22 rfl rfl)
theorem dX1_precede_47 : decode cX1_precede 47 = .ok (.iload_n 2, 1) := dk_28 (dk_at dksX1_precede_1 23 rfl rfl)
theorem dX1_precede_48 : decode cX1_precede 48 = .ok (.iload_n 3, 1) := dk_29 (dk_at dksX1_precede_2 0 rfl rfl)
theorem dX1_precede_49 : decode cX1_precede 49 = .ok (.bastore, 1) := dk_84 (dk_at dksX1_precede_2 1 rfl rfl)
theorem dX1_precede_50 : decode cX1_precede 50 = .ok (.iload 4, 2) := dk_21 4 (dk_at dksX1_precede_2 2 rfl rfl)
theorem dX1_precede_52 : decode cX1_precede 52 = .ok (.ireturn, 1) := dk_172 (dk_at dksX1_precede_2 4 rfl rfl)
abbrev cX1_aspectAt : ByteArray := prog_1_method_34_code
def yX1_aspectAt : MethodName := ⟨RX1, "aspectAt", "(I)I"⟩
def dkwX1_aspectAt_1 : List UInt8 := [42, 27, 182, 0, 165, 172]
abbrev dktX1_aspectAt_1 : List UInt8 := dkwX1_aspectAt_1 ++ []
def dkwX1_aspectAt_0 : List UInt8 := [27, 3, 6, 184, 0, 67, 184, 0, 81, 42, 182, 0, 252, 154, 0, 7, 4, 167, 0, 4, 3, 184, 0, 172]
abbrev dktX1_aspectAt_0 : List UInt8 := dkwX1_aspectAt_0 ++ dktX1_aspectAt_1
theorem dksX1_aspectAt_0 : cX1_aspectAt.data.toList.drop 0 = dktX1_aspectAt_0 := by decide +kernel
theorem dksX1_aspectAt_1 : cX1_aspectAt.data.toList.drop 24 = dktX1_aspectAt_1 := dk_seg dksX1_aspectAt_0 24 rfl rfl
theorem dX1_aspectAt_0 : decode cX1_aspectAt 0 = .ok (.iload_n 1, 1) := dk_27 (dk_at dksX1_aspectAt_0 0 rfl rfl)
theorem dX1_aspectAt_1 : decode cX1_aspectAt 1 = .ok (.iconst 0, 1) := dk_3 (dk_at dksX1_aspectAt_0 1 rfl rfl)
theorem dX1_aspectAt_2 : decode cX1_aspectAt 2 = .ok (.iconst 3, 1) := dk_6 (dk_at dksX1_aspectAt_0 2 rfl rfl)
theorem dX1_aspectAt_3 : decode cX1_aspectAt 3 = .ok (.invokestatic 67, 3) := dk_184 0 67 (dk_at dksX1_aspectAt_0 3 rfl rfl)
theorem dX1_aspectAt_6 : decode cX1_aspectAt 6 = .ok (.invokestatic 81, 3) := dk_184 0 81 (dk_at dksX1_aspectAt_0 6 rfl rfl)
theorem dX1_aspectAt_9 : decode cX1_aspectAt 9 = .ok (.aload_n 0, 1) := dk_42 (dk_at dksX1_aspectAt_0 9 rfl rfl)
theorem dX1_aspectAt_10 : decode cX1_aspectAt 10 = .ok (.invokevirtual 252, 3) := dk_182 0 252 (dk_at dksX1_aspectAt_0 10 rfl rfl)
theorem dX1_aspectAt_13 : decode cX1_aspectAt 13 = .ok (.ifCond .ne 7, 3) := dk_154 0 7 (dk_at dksX1_aspectAt_0 13 rfl rfl)
theorem dX1_aspectAt_16 : decode cX1_aspectAt 16 = .ok (.iconst 1, 1) := dk_4 (dk_at dksX1_aspectAt_0 16 rfl rfl)
theorem dX1_aspectAt_17 : decode cX1_aspectAt 17 = .ok (.goto 4, 3) := dk_167 0 4 (dk_at dksX1_aspectAt_0 17 rfl rfl)
theorem dX1_aspectAt_20 : decode cX1_aspectAt 20 = .ok (.iconst 0, 1) := dk_3 (dk_at dksX1_aspectAt_0 20 rfl rfl)
theorem dX1_aspectAt_21 : decode cX1_aspectAt 21 = .ok (.invokestatic 172, 3) := dk_184 0 172 (dk_at dksX1_aspectAt_0 21 rfl rfl)
theorem dX1_aspectAt_24 : decode cX1_aspectAt 24 = .ok (.aload_n 0, 1) := dk_42 (dk_at dksX1_aspectAt_1 0 rfl rfl)
theorem dX1_aspectAt_25 : decode cX1_aspectAt 25 = .ok (.iload_n 1, 1) := dk_27 (dk_at dksX1_aspectAt_1 1 rfl rfl)
theorem dX1_aspectAt_26 : decode cX1_aspectAt 26 = .ok (.invokevirtual 165, 3) := dk_182 0 165 (dk_at dksX1_aspectAt_1 2 rfl rfl)
theorem dX1_aspectAt_29 : decode cX1_aspectAt 29 = .ok (.ireturn, 1) := dk_172 (dk_at dksX1_aspectAt_1 5 rfl rfl)
abbrev cX1_places : ByteArray := prog_1_method_35_code
def yX1_places : MethodName := ⟨RX1, "places", "(II)I"⟩
def dkwX1_places_0 : List UInt8 := [42, 27, 182, 0, 169, 78, 28, 184, 0, 181, 42, 45, 28, 182, 0, 141, 172]
abbrev dktX1_places_0 : List UInt8 := dkwX1_places_0 ++ []
theorem dksX1_places_0 : cX1_places.data.toList.drop 0 = dktX1_places_0 := by decide +kernel
theorem dX1_places_0 : decode cX1_places 0 = .ok (.aload_n 0, 1) := dk_42 (dk_at dksX1_places_0 0 rfl rfl)
theorem dX1_places_1 : decode cX1_places 1 = .ok (.iload_n 1, 1) := dk_27 (dk_at dksX1_places_0 1 rfl rfl)
theorem dX1_places_2 : decode cX1_places 2 = .ok (.invokevirtual 169, 3) := dk_182 0 169 (dk_at dksX1_places_0 2 rfl rfl)
theorem dX1_places_5 : decode cX1_places 5 = .ok (.astore_n 3, 1) := dk_78 (dk_at dksX1_places_0 5 rfl rfl)
theorem dX1_places_6 : decode cX1_places 6 = .ok (.iload_n 2, 1) := dk_28 (dk_at dksX1_places_0 6 rfl rfl)
theorem dX1_places_7 : decode cX1_places 7 = .ok (.invokestatic 181, 3) := dk_184 0 181 (dk_at dksX1_places_0 7 rfl rfl)
theorem dX1_places_10 : decode cX1_places 10 = .ok (.aload_n 0, 1) := dk_42 (dk_at dksX1_places_0 10 rfl rfl)
theorem dX1_places_11 : decode cX1_places 11 = .ok (.aload_n 3, 1) := dk_45 (dk_at dksX1_places_0 11 rfl rfl)
theorem dX1_places_12 : decode cX1_places 12 = .ok (.iload_n 2, 1) := dk_28 (dk_at dksX1_places_0 12 rfl rfl)
theorem dX1_places_13 : decode cX1_places 13 = .ok (.invokevirtual 141, 3) := dk_182 0 141 (dk_at dksX1_places_0 13 rfl rfl)
theorem dX1_places_16 : decode cX1_places 16 = .ok (.ireturn, 1) := dk_172 (dk_at dksX1_places_0 16 rfl rfl)
abbrev cX1_match : ByteArray := prog_1_method_36_code
def yX1_match : MethodName := ⟨RX1, "match", "(IIII)C"⟩
def dkwX1_match_2 : List UInt8 := [182, 0, 144, 185, 0, 159, 2, 0, 172]
abbrev dktX1_match_2 : List UInt8 := dkwX1_match_2 ++ []
def dkwX1_match_1 : List UInt8 := [184, 0, 67, 184, 0, 81, 42, 21, 4, 182, 0, 248, 58, 6, 25, 6, 180, 0, 155, 42, 25, 5, 28, 29]
abbrev dktX1_match_1 : List UInt8 := dkwX1_match_1 ++ dktX1_match_2
def dkwX1_match_0 : List UInt8 := [42, 27, 182, 0, 169, 58, 5, 28, 184, 0, 181, 29, 3, 42, 25, 5, 28, 182, 0, 141, 4, 100]
abbrev dktX1_match_0 : List UInt8 := dkwX1_match_0 ++ dktX1_match_1
theorem dksX1_match_0 : cX1_match.data.toList.drop 0 = dktX1_match_0 := by decide +kernel
theorem dksX1_match_1 : cX1_match.data.toList.drop 22 = dktX1_match_1 := dk_seg dksX1_match_0 22 rfl rfl
theorem dksX1_match_2 : cX1_match.data.toList.drop 46 = dktX1_match_2 := dk_seg dksX1_match_1 24 rfl rfl
theorem dX1_match_0 : decode cX1_match 0 = .ok (.aload_n 0, 1) := dk_42 (dk_at dksX1_match_0 0 rfl rfl)
theorem dX1_match_1 : decode cX1_match 1 = .ok (.iload_n 1, 1) := dk_27 (dk_at dksX1_match_0 1 rfl rfl)
theorem dX1_match_2 : decode cX1_match 2 = .ok (.invokevirtual 169, 3) := dk_182 0 169 (dk_at dksX1_match_0 2 rfl rfl)
theorem dX1_match_5 : decode cX1_match 5 = .ok (.astore 5, 2) := dk_58 5 (dk_at dksX1_match_0 5 rfl rfl)
theorem dX1_match_7 : decode cX1_match 7 = .ok (.iload_n 2, 1) := dk_28 (dk_at dksX1_match_0 7 rfl rfl)
theorem dX1_match_8 : decode cX1_match 8 = .ok (.invokestatic 181, 3) := dk_184 0 181 (dk_at dksX1_match_0 8 rfl rfl)
theorem dX1_match_11 : decode cX1_match 11 = .ok (.iload_n 3, 1) := dk_29 (dk_at dksX1_match_0 11 rfl rfl)
theorem dX1_match_12 : decode cX1_match 12 = .ok (.iconst 0, 1) := dk_3 (dk_at dksX1_match_0 12 rfl rfl)
theorem dX1_match_13 : decode cX1_match 13 = .ok (.aload_n 0, 1) := dk_42 (dk_at dksX1_match_0 13 rfl rfl)
theorem dX1_match_14 : decode cX1_match 14 = .ok (.aload 5, 2) := dk_25 5 (dk_at dksX1_match_0 14 rfl rfl)
theorem dX1_match_16 : decode cX1_match 16 = .ok (.iload_n 2, 1) := dk_28 (dk_at dksX1_match_0 16 rfl rfl)
theorem dX1_match_17 : decode cX1_match 17 = .ok (.invokevirtual 141, 3) := dk_182 0 141 (dk_at dksX1_match_0 17 rfl rfl)
theorem dX1_match_20 : decode cX1_match 20 = .ok (.iconst 1, 1) := dk_4 (dk_at dksX1_match_0 20 rfl rfl)
theorem dX1_match_21 : decode cX1_match 21 = .ok (.isub, 1) := dk_100 (dk_at dksX1_match_0 21 rfl rfl)
theorem dX1_match_22 : decode cX1_match 22 = .ok (.invokestatic 67, 3) := dk_184 0 67 (dk_at dksX1_match_1 0 rfl rfl)
theorem dX1_match_25 : decode cX1_match 25 = .ok (.invokestatic 81, 3) := dk_184 0 81 (dk_at dksX1_match_1 3 rfl rfl)
theorem dX1_match_28 : decode cX1_match 28 = .ok (.aload_n 0, 1) := dk_42 (dk_at dksX1_match_1 6 rfl rfl)
theorem dX1_match_29 : decode cX1_match 29 = .ok (.iload 4, 2) := dk_21 4 (dk_at dksX1_match_1 7 rfl rfl)
theorem dX1_match_31 : decode cX1_match 31 = .ok (.invokevirtual 248, 3) := dk_182 0 248 (dk_at dksX1_match_1 9 rfl rfl)
theorem dX1_match_34 : decode cX1_match 34 = .ok (.astore 6, 2) := dk_58 6 (dk_at dksX1_match_1 12 rfl rfl)
theorem dX1_match_36 : decode cX1_match 36 = .ok (.aload 6, 2) := dk_25 6 (dk_at dksX1_match_1 14 rfl rfl)
theorem dX1_match_38 : decode cX1_match 38 = .ok (.getfield 155, 3) := dk_180 0 155 (dk_at dksX1_match_1 16 rfl rfl)
theorem dX1_match_41 : decode cX1_match 41 = .ok (.aload_n 0, 1) := dk_42 (dk_at dksX1_match_1 19 rfl rfl)
theorem dX1_match_42 : decode cX1_match 42 = .ok (.aload 5, 2) := dk_25 5 (dk_at dksX1_match_1 20 rfl rfl)
theorem dX1_match_44 : decode cX1_match 44 = .ok (.iload_n 2, 1) := dk_28 (dk_at dksX1_match_1 22 rfl rfl)
theorem dX1_match_45 : decode cX1_match 45 = .ok (.iload_n 3, 1) := dk_29 (dk_at dksX1_match_1 23 rfl rfl)
theorem dX1_match_46 : decode cX1_match 46 = .ok (.invokevirtual 144, 3) := dk_182 0 144 (dk_at dksX1_match_2 0 rfl rfl)
theorem dX1_match_49 : decode cX1_match 49 = .ok (.invokeinterface 159 2, 5) := by decide +kernel
theorem dX1_match_54 : decode cX1_match 54 = .ok (.ireturn, 1) := dk_172 (dk_at dksX1_match_2 8 rfl rfl)
abbrev cX1_run : ByteArray := prog_1_method_40_code
def yX1_run : MethodName := ⟨RX1, "run", "(III)C"⟩
def dkwX1_run_0 : List UInt8 := [42, 27, 28, 29, 4, 182, 1, 11, 172]
abbrev dktX1_run_0 : List UInt8 := dkwX1_run_0 ++ []
theorem dksX1_run_0 : cX1_run.data.toList.drop 0 = dktX1_run_0 := by decide +kernel
theorem dX1_run_0 : decode cX1_run 0 = .ok (.aload_n 0, 1) := dk_42 (dk_at dksX1_run_0 0 rfl rfl)
theorem dX1_run_1 : decode cX1_run 1 = .ok (.iload_n 1, 1) := dk_27 (dk_at dksX1_run_0 1 rfl rfl)
theorem dX1_run_2 : decode cX1_run 2 = .ok (.iload_n 2, 1) := dk_28 (dk_at dksX1_run_0 2 rfl rfl)
theorem dX1_run_3 : decode cX1_run 3 = .ok (.iload_n 3, 1) := dk_29 (dk_at dksX1_run_0 3 rfl rfl)
theorem dX1_run_4 : decode cX1_run 4 = .ok (.iconst 1, 1) := dk_4 (dk_at dksX1_run_0 4 rfl rfl)
theorem dX1_run_5 : decode cX1_run 5 = .ok (.invokevirtual 267, 3) := dk_182 1 11 (dk_at dksX1_run_0 5 rfl rfl)
theorem dX1_run_8 : decode cX1_run 8 = .ok (.ireturn, 1) := dk_172 (dk_at dksX1_run_0 8 rfl rfl)
abbrev cX1_runBy : ByteArray := prog_1_method_39_code
def yX1_runBy : MethodName := ⟨RX1, "runBy", "(IIIZ)C"⟩
def dkwX1_runBy_2 : List UInt8 := [182, 1, 4, 42, 180, 0, 42, 180, 1, 8, 172]
abbrev dktX1_runBy_2 : List UInt8 := dkwX1_runBy_2 ++ []
def dkwX1_runBy_1 : List UInt8 := [182, 0, 252, 154, 0, 7, 4, 167, 0, 4, 3, 184, 0, 172, 42, 180, 0, 42, 25, 5, 28, 29, 21, 4]
abbrev dktX1_runBy_1 : List UInt8 := dkwX1_runBy_1 ++ dktX1_runBy_2
def dkwX1_runBy_0 : List UInt8 := [42, 27, 182, 0, 169, 58, 5, 28, 184, 0, 181, 29, 16, 157, 16, 99, 184, 0, 67, 184, 0, 81, 42]
abbrev dktX1_runBy_0 : List UInt8 := dkwX1_runBy_0 ++ dktX1_runBy_1
theorem dksX1_runBy_0 : cX1_runBy.data.toList.drop 0 = dktX1_runBy_0 := by decide +kernel
theorem dksX1_runBy_1 : cX1_runBy.data.toList.drop 23 = dktX1_runBy_1 := dk_seg dksX1_runBy_0 23 rfl rfl
theorem dksX1_runBy_2 : cX1_runBy.data.toList.drop 47 = dktX1_runBy_2 := dk_seg dksX1_runBy_1 24 rfl rfl
theorem dX1_runBy_0 : decode cX1_runBy 0 = .ok (.aload_n 0, 1) := dk_42 (dk_at dksX1_runBy_0 0 rfl rfl)
theorem dX1_runBy_1 : decode cX1_runBy 1 = .ok (.iload_n 1, 1) := dk_27 (dk_at dksX1_runBy_0 1 rfl rfl)
theorem dX1_runBy_2 : decode cX1_runBy 2 = .ok (.invokevirtual 169, 3) := dk_182 0 169 (dk_at dksX1_runBy_0 2 rfl rfl)
theorem dX1_runBy_5 : decode cX1_runBy 5 = .ok (.astore 5, 2) := dk_58 5 (dk_at dksX1_runBy_0 5 rfl rfl)
theorem dX1_runBy_7 : decode cX1_runBy 7 = .ok (.iload_n 2, 1) := dk_28 (dk_at dksX1_runBy_0 7 rfl rfl)
theorem dX1_runBy_8 : decode cX1_runBy 8 = .ok (.invokestatic 181, 3) := dk_184 0 181 (dk_at dksX1_runBy_0 8 rfl rfl)
theorem dX1_runBy_11 : decode cX1_runBy 11 = .ok (.iload_n 3, 1) := dk_29 (dk_at dksX1_runBy_0 11 rfl rfl)
theorem dX1_runBy_12 : decode cX1_runBy 12 = .ok (.bipush (-99), 2) := dk_16 157 (dk_at dksX1_runBy_0 12 rfl rfl)
theorem dX1_runBy_14 : decode cX1_runBy 14 = .ok (.bipush 99, 2) := dk_16 99 (dk_at dksX1_runBy_0 14 rfl rfl)
theorem dX1_runBy_16 : decode cX1_runBy 16 = .ok (.invokestatic 67, 3) := dk_184 0 67 (dk_at dksX1_runBy_0 16 rfl rfl)
theorem dX1_runBy_19 : decode cX1_runBy 19 = .ok (.invokestatic 81, 3) := dk_184 0 81 (dk_at dksX1_runBy_0 19 rfl rfl)
theorem dX1_runBy_22 : decode cX1_runBy 22 = .ok (.aload_n 0, 1) := dk_42 (dk_at dksX1_runBy_0 22 rfl rfl)
theorem dX1_runBy_23 : decode cX1_runBy 23 = .ok (.invokevirtual 252, 3) := dk_182 0 252 (dk_at dksX1_runBy_1 0 rfl rfl)
theorem dX1_runBy_26 : decode cX1_runBy 26 = .ok (.ifCond .ne 7, 3) := dk_154 0 7 (dk_at dksX1_runBy_1 3 rfl rfl)
theorem dX1_runBy_29 : decode cX1_runBy 29 = .ok (.iconst 1, 1) := dk_4 (dk_at dksX1_runBy_1 6 rfl rfl)
theorem dX1_runBy_30 : decode cX1_runBy 30 = .ok (.goto 4, 3) := dk_167 0 4 (dk_at dksX1_runBy_1 7 rfl rfl)
theorem dX1_runBy_33 : decode cX1_runBy 33 = .ok (.iconst 0, 1) := dk_3 (dk_at dksX1_runBy_1 10 rfl rfl)
theorem dX1_runBy_34 : decode cX1_runBy 34 = .ok (.invokestatic 172, 3) := dk_184 0 172 (dk_at dksX1_runBy_1 11 rfl rfl)
theorem dX1_runBy_37 : decode cX1_runBy 37 = .ok (.aload_n 0, 1) := dk_42 (dk_at dksX1_runBy_1 14 rfl rfl)
theorem dX1_runBy_38 : decode cX1_runBy 38 = .ok (.getfield 42, 3) := dk_180 0 42 (dk_at dksX1_runBy_1 15 rfl rfl)
theorem dX1_runBy_41 : decode cX1_runBy 41 = .ok (.aload 5, 2) := dk_25 5 (dk_at dksX1_runBy_1 18 rfl rfl)
theorem dX1_runBy_43 : decode cX1_runBy 43 = .ok (.iload_n 2, 1) := dk_28 (dk_at dksX1_runBy_1 20 rfl rfl)
theorem dX1_runBy_44 : decode cX1_runBy 44 = .ok (.iload_n 3, 1) := dk_29 (dk_at dksX1_runBy_1 21 rfl rfl)
theorem dX1_runBy_45 : decode cX1_runBy 45 = .ok (.iload 4, 2) := dk_21 4 (dk_at dksX1_runBy_1 22 rfl rfl)
theorem dX1_runBy_47 : decode cX1_runBy 47 = .ok (.invokevirtual 260, 3) := dk_182 1 4 (dk_at dksX1_runBy_2 0 rfl rfl)
theorem dX1_runBy_50 : decode cX1_runBy 50 = .ok (.aload_n 0, 1) := dk_42 (dk_at dksX1_runBy_2 3 rfl rfl)
theorem dX1_runBy_51 : decode cX1_runBy 51 = .ok (.getfield 42, 3) := dk_180 0 42 (dk_at dksX1_runBy_2 4 rfl rfl)
theorem dX1_runBy_54 : decode cX1_runBy 54 = .ok (.getfield 264, 3) := dk_180 1 8 (dk_at dksX1_runBy_2 7 rfl rfl)
theorem dX1_runBy_57 : decode cX1_runBy 57 = .ok (.ireturn, 1) := dk_172 (dk_at dksX1_runBy_2 10 rfl rfl)
abbrev cX1_runAsking : ByteArray := prog_1_method_41_code
def yX1_runAsking : MethodName := ⟨RX1, "runAsking", "(III)C"⟩
def dkwX1_runAsking_0 : List UInt8 := [42, 27, 28, 29, 3, 182, 1, 11, 172]
abbrev dktX1_runAsking_0 : List UInt8 := dkwX1_runAsking_0 ++ []
theorem dksX1_runAsking_0 : cX1_runAsking.data.toList.drop 0 = dktX1_runAsking_0 := by decide +kernel
theorem dX1_runAsking_0 : decode cX1_runAsking 0 = .ok (.aload_n 0, 1) := dk_42 (dk_at dksX1_runAsking_0 0 rfl rfl)
theorem dX1_runAsking_1 : decode cX1_runAsking 1 = .ok (.iload_n 1, 1) := dk_27 (dk_at dksX1_runAsking_0 1 rfl rfl)
theorem dX1_runAsking_2 : decode cX1_runAsking 2 = .ok (.iload_n 2, 1) := dk_28 (dk_at dksX1_runAsking_0 2 rfl rfl)
theorem dX1_runAsking_3 : decode cX1_runAsking 3 = .ok (.iload_n 3, 1) := dk_29 (dk_at dksX1_runAsking_0 3 rfl rfl)
theorem dX1_runAsking_4 : decode cX1_runAsking 4 = .ok (.iconst 0, 1) := dk_3 (dk_at dksX1_runAsking_0 4 rfl rfl)
theorem dX1_runAsking_5 : decode cX1_runAsking 5 = .ok (.invokevirtual 267, 3) := dk_182 1 11 (dk_at dksX1_runAsking_0 5 rfl rfl)
theorem dX1_runAsking_8 : decode cX1_runAsking 8 = .ok (.ireturn, 1) := dk_172 (dk_at dksX1_runAsking_0 8 rfl rfl)
abbrev cX1_result : ByteArray := prog_1_method_42_code
def yX1_result : MethodName := ⟨RX1, "result", "()I"⟩
def dkwX1_result_1 : List UInt8 := [4, 167, 0, 4, 3, 184, 0, 172, 42, 180, 0, 42, 180, 1, 15, 172]
abbrev dktX1_result_1 : List UInt8 := dkwX1_result_1 ++ []
def dkwX1_result_0 : List UInt8 := [42, 180, 0, 42, 180, 1, 8, 16, 114, 159, 0, 15, 42, 180, 0, 42, 180, 1, 8, 16, 120, 160, 0, 7]
abbrev dktX1_result_0 : List UInt8 := dkwX1_result_0 ++ dktX1_result_1
theorem dksX1_result_0 : cX1_result.data.toList.drop 0 = dktX1_result_0 := by decide +kernel
theorem dksX1_result_1 : cX1_result.data.toList.drop 24 = dktX1_result_1 := dk_seg dksX1_result_0 24 rfl rfl
theorem dX1_result_0 : decode cX1_result 0 = .ok (.aload_n 0, 1) := dk_42 (dk_at dksX1_result_0 0 rfl rfl)
theorem dX1_result_1 : decode cX1_result 1 = .ok (.getfield 42, 3) := dk_180 0 42 (dk_at dksX1_result_0 1 rfl rfl)
theorem dX1_result_4 : decode cX1_result 4 = .ok (.getfield 264, 3) := dk_180 1 8 (dk_at dksX1_result_0 4 rfl rfl)
theorem dX1_result_7 : decode cX1_result 7 = .ok (.bipush 114, 2) := dk_16 114 (dk_at dksX1_result_0 7 rfl rfl)
theorem dX1_result_9 : decode cX1_result 9 = .ok (.if_icmp .eq 15, 3) := dk_159 0 15 (dk_at dksX1_result_0 9 rfl rfl)
theorem dX1_result_12 : decode cX1_result 12 = .ok (.aload_n 0, 1) := dk_42 (dk_at dksX1_result_0 12 rfl rfl)
theorem dX1_result_13 : decode cX1_result 13 = .ok (.getfield 42, 3) := dk_180 0 42 (dk_at dksX1_result_0 13 rfl rfl)
theorem dX1_result_16 : decode cX1_result 16 = .ok (.getfield 264, 3) := dk_180 1 8 (dk_at dksX1_result_0 16 rfl rfl)
theorem dX1_result_19 : decode cX1_result 19 = .ok (.bipush 120, 2) := dk_16 120 (dk_at dksX1_result_0 19 rfl rfl)
theorem dX1_result_21 : decode cX1_result 21 = .ok (.if_icmp .ne 7, 3) := dk_160 0 7 (dk_at dksX1_result_0 21 rfl rfl)
theorem dX1_result_24 : decode cX1_result 24 = .ok (.iconst 1, 1) := dk_4 (dk_at dksX1_result_1 0 rfl rfl)
theorem dX1_result_25 : decode cX1_result 25 = .ok (.goto 4, 3) := dk_167 0 4 (dk_at dksX1_result_1 1 rfl rfl)
theorem dX1_result_28 : decode cX1_result 28 = .ok (.iconst 0, 1) := dk_3 (dk_at dksX1_result_1 4 rfl rfl)
theorem dX1_result_29 : decode cX1_result 29 = .ok (.invokestatic 172, 3) := dk_184 0 172 (dk_at dksX1_result_1 5 rfl rfl)
theorem dX1_result_32 : decode cX1_result 32 = .ok (.aload_n 0, 1) := dk_42 (dk_at dksX1_result_1 8 rfl rfl)
theorem dX1_result_33 : decode cX1_result 33 = .ok (.getfield 42, 3) := dk_180 0 42 (dk_at dksX1_result_1 9 rfl rfl)
theorem dX1_result_36 : decode cX1_result 36 = .ok (.getfield 271, 3) := dk_180 1 15 (dk_at dksX1_result_1 12 rfl rfl)
theorem dX1_result_39 : decode cX1_result 39 = .ok (.ireturn, 1) := dk_172 (dk_at dksX1_result_1 15 rfl rfl)
abbrev cX1_traceKind : ByteArray := prog_1_method_47_code
def yX1_traceKind : MethodName := ⟨RX1, "traceKind", "(I)C"⟩
def dkwX1_traceKind_0 : List UInt8 := [42, 27, 182, 1, 31, 42, 180, 0, 42, 180, 1, 24, 27, 182, 1, 34, 172]
abbrev dktX1_traceKind_0 : List UInt8 := dkwX1_traceKind_0 ++ []
theorem dksX1_traceKind_0 : cX1_traceKind.data.toList.drop 0 = dktX1_traceKind_0 := by decide +kernel
theorem dX1_traceKind_0 : decode cX1_traceKind 0 = .ok (.aload_n 0, 1) := dk_42 (dk_at dksX1_traceKind_0 0 rfl rfl)
theorem dX1_traceKind_1 : decode cX1_traceKind 1 = .ok (.iload_n 1, 1) := dk_27 (dk_at dksX1_traceKind_0 1 rfl rfl)
theorem dX1_traceKind_2 : decode cX1_traceKind 2 = .ok (.invokevirtual 287, 3) := dk_182 1 31 (dk_at dksX1_traceKind_0 2 rfl rfl)
theorem dX1_traceKind_5 : decode cX1_traceKind 5 = .ok (.aload_n 0, 1) := dk_42 (dk_at dksX1_traceKind_0 5 rfl rfl)
theorem dX1_traceKind_6 : decode cX1_traceKind 6 = .ok (.getfield 42, 3) := dk_180 0 42 (dk_at dksX1_traceKind_0 6 rfl rfl)
theorem dX1_traceKind_9 : decode cX1_traceKind 9 = .ok (.getfield 280, 3) := dk_180 1 24 (dk_at dksX1_traceKind_0 9 rfl rfl)
theorem dX1_traceKind_12 : decode cX1_traceKind 12 = .ok (.iload_n 1, 1) := dk_27 (dk_at dksX1_traceKind_0 12 rfl rfl)
theorem dX1_traceKind_13 : decode cX1_traceKind 13 = .ok (.invokevirtual 290, 3) := dk_182 1 34 (dk_at dksX1_traceKind_0 13 rfl rfl)
theorem dX1_traceKind_16 : decode cX1_traceKind 16 = .ok (.ireturn, 1) := dk_172 (dk_at dksX1_traceKind_0 16 rfl rfl)
abbrev cX1_checkIndex : ByteArray := prog_1_method_46_code
def yX1_checkIndex : MethodName := ⟨RX1, "checkIndex", "(I)V"⟩
def dkwX1_checkIndex_0 : List UInt8 := [27, 3, 42, 180, 0, 42, 180, 1, 24, 182, 1, 28, 4, 100, 184, 0, 67, 184, 0, 71, 177]
abbrev dktX1_checkIndex_0 : List UInt8 := dkwX1_checkIndex_0 ++ []
theorem dksX1_checkIndex_0 : cX1_checkIndex.data.toList.drop 0 = dktX1_checkIndex_0 := by decide +kernel
theorem dX1_checkIndex_0 : decode cX1_checkIndex 0 = .ok (.iload_n 1, 1) := dk_27 (dk_at dksX1_checkIndex_0 0 rfl rfl)
theorem dX1_checkIndex_1 : decode cX1_checkIndex 1 = .ok (.iconst 0, 1) := dk_3 (dk_at dksX1_checkIndex_0 1 rfl rfl)
theorem dX1_checkIndex_2 : decode cX1_checkIndex 2 = .ok (.aload_n 0, 1) := dk_42 (dk_at dksX1_checkIndex_0 2 rfl rfl)
theorem dX1_checkIndex_3 : decode cX1_checkIndex 3 = .ok (.getfield 42, 3) := dk_180 0 42 (dk_at dksX1_checkIndex_0 3 rfl rfl)
theorem dX1_checkIndex_6 : decode cX1_checkIndex 6 = .ok (.getfield 280, 3) := dk_180 1 24 (dk_at dksX1_checkIndex_0 6 rfl rfl)
theorem dX1_checkIndex_9 : decode cX1_checkIndex 9 = .ok (.invokevirtual 284, 3) := dk_182 1 28 (dk_at dksX1_checkIndex_0 9 rfl rfl)
theorem dX1_checkIndex_12 : decode cX1_checkIndex 12 = .ok (.iconst 1, 1) := dk_4 (dk_at dksX1_checkIndex_0 12 rfl rfl)
theorem dX1_checkIndex_13 : decode cX1_checkIndex 13 = .ok (.isub, 1) := dk_100 (dk_at dksX1_checkIndex_0 13 rfl rfl)
theorem dX1_checkIndex_14 : decode cX1_checkIndex 14 = .ok (.invokestatic 67, 3) := dk_184 0 67 (dk_at dksX1_checkIndex_0 14 rfl rfl)
theorem dX1_checkIndex_17 : decode cX1_checkIndex 17 = .ok (.invokestatic 71, 3) := dk_184 0 71 (dk_at dksX1_checkIndex_0 17 rfl rfl)
theorem dX1_checkIndex_20 : decode cX1_checkIndex 20 = .ok (.return_, 1) := dk_177 (dk_at dksX1_checkIndex_0 20 rfl rfl)
abbrev cX1_traceValue : ByteArray := prog_1_method_48_code
def yX1_traceValue : MethodName := ⟨RX1, "traceValue", "(I)I"⟩
def dkwX1_traceValue_0 : List UInt8 := [42, 27, 182, 1, 31, 42, 180, 0, 42, 180, 1, 24, 180, 1, 35, 27, 46, 172]
abbrev dktX1_traceValue_0 : List UInt8 := dkwX1_traceValue_0 ++ []
theorem dksX1_traceValue_0 : cX1_traceValue.data.toList.drop 0 = dktX1_traceValue_0 := by decide +kernel
theorem dX1_traceValue_0 : decode cX1_traceValue 0 = .ok (.aload_n 0, 1) := dk_42 (dk_at dksX1_traceValue_0 0 rfl rfl)
theorem dX1_traceValue_1 : decode cX1_traceValue 1 = .ok (.iload_n 1, 1) := dk_27 (dk_at dksX1_traceValue_0 1 rfl rfl)
theorem dX1_traceValue_2 : decode cX1_traceValue 2 = .ok (.invokevirtual 287, 3) := dk_182 1 31 (dk_at dksX1_traceValue_0 2 rfl rfl)
theorem dX1_traceValue_5 : decode cX1_traceValue 5 = .ok (.aload_n 0, 1) := dk_42 (dk_at dksX1_traceValue_0 5 rfl rfl)
theorem dX1_traceValue_6 : decode cX1_traceValue 6 = .ok (.getfield 42, 3) := dk_180 0 42 (dk_at dksX1_traceValue_0 6 rfl rfl)
theorem dX1_traceValue_9 : decode cX1_traceValue 9 = .ok (.getfield 280, 3) := dk_180 1 24 (dk_at dksX1_traceValue_0 9 rfl rfl)
theorem dX1_traceValue_12 : decode cX1_traceValue 12 = .ok (.getfield 291, 3) := dk_180 1 35 (dk_at dksX1_traceValue_0 12 rfl rfl)
theorem dX1_traceValue_15 : decode cX1_traceValue 15 = .ok (.iload_n 1, 1) := dk_27 (dk_at dksX1_traceValue_0 15 rfl rfl)
theorem dX1_traceValue_16 : decode cX1_traceValue 16 = .ok (.iaload, 1) := dk_46 (dk_at dksX1_traceValue_0 16 rfl rfl)
theorem dX1_traceValue_17 : decode cX1_traceValue 17 = .ok (.ireturn, 1) := dk_172 (dk_at dksX1_traceValue_0 17 rfl rfl)
abbrev cX1_traceAdvice : ByteArray := prog_1_method_49_code
def yX1_traceAdvice : MethodName := ⟨RX1, "traceAdvice", "(I)I"⟩
def dkwX1_traceAdvice_0 : List UInt8 := [42, 27, 182, 1, 31, 42, 180, 0, 42, 180, 1, 24, 180, 1, 39, 27, 46, 172]
abbrev dktX1_traceAdvice_0 : List UInt8 := dkwX1_traceAdvice_0 ++ []
theorem dksX1_traceAdvice_0 : cX1_traceAdvice.data.toList.drop 0 = dktX1_traceAdvice_0 := by decide +kernel
theorem dX1_traceAdvice_0 : decode cX1_traceAdvice 0 = .ok (.aload_n 0, 1) := dk_42 (dk_at dksX1_traceAdvice_0 0 rfl rfl)
theorem dX1_traceAdvice_1 : decode cX1_traceAdvice 1 = .ok (.iload_n 1, 1) := dk_27 (dk_at dksX1_traceAdvice_0 1 rfl rfl)
theorem dX1_traceAdvice_2 : decode cX1_traceAdvice 2 = .ok (.invokevirtual 287, 3) := dk_182 1 31 (dk_at dksX1_traceAdvice_0 2 rfl rfl)
theorem dX1_traceAdvice_5 : decode cX1_traceAdvice 5 = .ok (.aload_n 0, 1) := dk_42 (dk_at dksX1_traceAdvice_0 5 rfl rfl)
theorem dX1_traceAdvice_6 : decode cX1_traceAdvice 6 = .ok (.getfield 42, 3) := dk_180 0 42 (dk_at dksX1_traceAdvice_0 6 rfl rfl)
theorem dX1_traceAdvice_9 : decode cX1_traceAdvice 9 = .ok (.getfield 280, 3) := dk_180 1 24 (dk_at dksX1_traceAdvice_0 9 rfl rfl)
theorem dX1_traceAdvice_12 : decode cX1_traceAdvice 12 = .ok (.getfield 295, 3) := dk_180 1 39 (dk_at dksX1_traceAdvice_0 12 rfl rfl)
theorem dX1_traceAdvice_15 : decode cX1_traceAdvice 15 = .ok (.iload_n 1, 1) := dk_27 (dk_at dksX1_traceAdvice_0 15 rfl rfl)
theorem dX1_traceAdvice_16 : decode cX1_traceAdvice 16 = .ok (.iaload, 1) := dk_46 (dk_at dksX1_traceAdvice_0 16 rfl rfl)
theorem dX1_traceAdvice_17 : decode cX1_traceAdvice 17 = .ok (.ireturn, 1) := dk_172 (dk_at dksX1_traceAdvice_0 17 rfl rfl)
abbrev cX1_acted : ByteArray := prog_1_method_51_code
def yX1_acted : MethodName := ⟨RX1, "acted", "(C)I"⟩
def dkwX1_acted_0 : List UInt8 := [27, 184, 0, 241, 184, 0, 81, 42, 180, 0, 42, 180, 1, 24, 27, 184, 1, 43, 172]
abbrev dktX1_acted_0 : List UInt8 := dkwX1_acted_0 ++ []
theorem dksX1_acted_0 : cX1_acted.data.toList.drop 0 = dktX1_acted_0 := by decide +kernel
theorem dX1_acted_0 : decode cX1_acted 0 = .ok (.iload_n 1, 1) := dk_27 (dk_at dksX1_acted_0 0 rfl rfl)
theorem dX1_acted_1 : decode cX1_acted 1 = .ok (.invokestatic 241, 3) := dk_184 0 241 (dk_at dksX1_acted_0 1 rfl rfl)
theorem dX1_acted_4 : decode cX1_acted 4 = .ok (.invokestatic 81, 3) := dk_184 0 81 (dk_at dksX1_acted_0 4 rfl rfl)
theorem dX1_acted_7 : decode cX1_acted 7 = .ok (.aload_n 0, 1) := dk_42 (dk_at dksX1_acted_0 7 rfl rfl)
theorem dX1_acted_8 : decode cX1_acted 8 = .ok (.getfield 42, 3) := dk_180 0 42 (dk_at dksX1_acted_0 8 rfl rfl)
theorem dX1_acted_11 : decode cX1_acted 11 = .ok (.getfield 280, 3) := dk_180 1 24 (dk_at dksX1_acted_0 11 rfl rfl)
theorem dX1_acted_14 : decode cX1_acted 14 = .ok (.iload_n 1, 1) := dk_27 (dk_at dksX1_acted_0 14 rfl rfl)
theorem dX1_acted_15 : decode cX1_acted 15 = .ok (.invokestatic 299, 3) := dk_184 1 43 (dk_at dksX1_acted_0 15 rfl rfl)
theorem dX1_acted_18 : decode cX1_acted 18 = .ok (.ireturn, 1) := dk_172 (dk_at dksX1_acted_0 18 rfl rfl)
abbrev cX1_count : ByteArray := prog_1_method_2_code
def yX1_count : MethodName := ⟨RX1, "count", "(Ljava/lang/CharSequence;C)I"⟩
def dkwX1_count_1 : List UInt8 := [160, 0, 7, 4, 167, 0, 4, 3, 96, 61, 132, 3, 1, 167, 255, 224, 28, 172]
abbrev dktX1_count_1 : List UInt8 := dkwX1_count_1 ++ []
def dkwX1_count_0 : List UInt8 := [3, 61, 3, 62, 29, 42, 185, 0, 1, 1, 0, 162, 0, 28, 28, 42, 29, 185, 0, 7, 2, 0, 27]
abbrev dktX1_count_0 : List UInt8 := dkwX1_count_0 ++ dktX1_count_1
theorem dksX1_count_0 : cX1_count.data.toList.drop 0 = dktX1_count_0 := by decide +kernel
theorem dksX1_count_1 : cX1_count.data.toList.drop 23 = dktX1_count_1 := dk_seg dksX1_count_0 23 rfl rfl
theorem dX1_count_0 : decode cX1_count 0 = .ok (.iconst 0, 1) := dk_3 (dk_at dksX1_count_0 0 rfl rfl)
theorem dX1_count_1 : decode cX1_count 1 = .ok (.istore_n 2, 1) := dk_61 (dk_at dksX1_count_0 1 rfl rfl)
theorem dX1_count_2 : decode cX1_count 2 = .ok (.iconst 0, 1) := dk_3 (dk_at dksX1_count_0 2 rfl rfl)
theorem dX1_count_3 : decode cX1_count 3 = .ok (.istore_n 3, 1) := dk_62 (dk_at dksX1_count_0 3 rfl rfl)
theorem dX1_count_4 : decode cX1_count 4 = .ok (.iload_n 3, 1) := dk_29 (dk_at dksX1_count_0 4 rfl rfl)
theorem dX1_count_5 : decode cX1_count 5 = .ok (.aload_n 0, 1) := dk_42 (dk_at dksX1_count_0 5 rfl rfl)
theorem dX1_count_6 : decode cX1_count 6 = .ok (.invokeinterface 1 1, 5) := by decide +kernel
theorem dX1_count_11 : decode cX1_count 11 = .ok (.if_icmp .ge 28, 3) := dk_162 0 28 (dk_at dksX1_count_0 11 rfl rfl)
theorem dX1_count_14 : decode cX1_count 14 = .ok (.iload_n 2, 1) := dk_28 (dk_at dksX1_count_0 14 rfl rfl)
theorem dX1_count_15 : decode cX1_count 15 = .ok (.aload_n 0, 1) := dk_42 (dk_at dksX1_count_0 15 rfl rfl)
theorem dX1_count_16 : decode cX1_count 16 = .ok (.iload_n 3, 1) := dk_29 (dk_at dksX1_count_0 16 rfl rfl)
theorem dX1_count_17 : decode cX1_count 17 = .ok (.invokeinterface 7 2, 5) := by decide +kernel
theorem dX1_count_22 : decode cX1_count 22 = .ok (.iload_n 1, 1) := dk_27 (dk_at dksX1_count_0 22 rfl rfl)
theorem dX1_count_23 : decode cX1_count 23 = .ok (.if_icmp .ne 7, 3) := dk_160 0 7 (dk_at dksX1_count_1 0 rfl rfl)
theorem dX1_count_26 : decode cX1_count 26 = .ok (.iconst 1, 1) := dk_4 (dk_at dksX1_count_1 3 rfl rfl)
theorem dX1_count_27 : decode cX1_count 27 = .ok (.goto 4, 3) := dk_167 0 4 (dk_at dksX1_count_1 4 rfl rfl)
theorem dX1_count_30 : decode cX1_count 30 = .ok (.iconst 0, 1) := dk_3 (dk_at dksX1_count_1 7 rfl rfl)
theorem dX1_count_31 : decode cX1_count 31 = .ok (.iadd, 1) := dk_96 (dk_at dksX1_count_1 8 rfl rfl)
theorem dX1_count_32 : decode cX1_count 32 = .ok (.istore_n 2, 1) := dk_61 (dk_at dksX1_count_1 9 rfl rfl)
theorem dX1_count_33 : decode cX1_count 33 = .ok (.iinc 3 1, 3) := dk_132 3 1 (dk_at dksX1_count_1 10 rfl rfl)
theorem dX1_count_36 : decode cX1_count 36 = .ok (.goto (-32), 3) := dk_167 255 224 (dk_at dksX1_count_1 13 rfl rfl)
theorem dX1_count_39 : decode cX1_count 39 = .ok (.iload_n 2, 1) := dk_28 (dk_at dksX1_count_1 16 rfl rfl)
theorem dX1_count_40 : decode cX1_count 40 = .ok (.ireturn, 1) := dk_172 (dk_at dksX1_count_1 17 rfl rfl)
abbrev cX1_sureShare : ByteArray := prog_1_method_52_code
def yX1_sureShare : MethodName := ⟨RX1, "sureShare", "()F"⟩
def dkwX1_sureShare_1 : List UInt8 := [154, 0, 11, 187, 1, 47, 89, 183, 1, 49, 191, 27, 134, 28, 134, 110, 174]
abbrev dktX1_sureShare_1 : List UInt8 := dkwX1_sureShare_1 ++ []
def dkwX1_sureShare_0 : List UInt8 := [42, 16, 121, 182, 1, 0, 42, 16, 110, 182, 1, 0, 96, 60, 27, 42, 16, 109, 182, 1, 0, 96, 61, 28]
abbrev dktX1_sureShare_0 : List UInt8 := dkwX1_sureShare_0 ++ dktX1_sureShare_1
theorem dksX1_sureShare_0 : cX1_sureShare.data.toList.drop 0 = dktX1_sureShare_0 := by decide +kernel
theorem dksX1_sureShare_1 : cX1_sureShare.data.toList.drop 24 = dktX1_sureShare_1 := dk_seg dksX1_sureShare_0 24 rfl rfl
theorem dX1_sureShare_0 : decode cX1_sureShare 0 = .ok (.aload_n 0, 1) := dk_42 (dk_at dksX1_sureShare_0 0 rfl rfl)
theorem dX1_sureShare_1 : decode cX1_sureShare 1 = .ok (.bipush 121, 2) := dk_16 121 (dk_at dksX1_sureShare_0 1 rfl rfl)
theorem dX1_sureShare_3 : decode cX1_sureShare 3 = .ok (.invokevirtual 256, 3) := dk_182 1 0 (dk_at dksX1_sureShare_0 3 rfl rfl)
theorem dX1_sureShare_6 : decode cX1_sureShare 6 = .ok (.aload_n 0, 1) := dk_42 (dk_at dksX1_sureShare_0 6 rfl rfl)
theorem dX1_sureShare_7 : decode cX1_sureShare 7 = .ok (.bipush 110, 2) := dk_16 110 (dk_at dksX1_sureShare_0 7 rfl rfl)
theorem dX1_sureShare_9 : decode cX1_sureShare 9 = .ok (.invokevirtual 256, 3) := dk_182 1 0 (dk_at dksX1_sureShare_0 9 rfl rfl)
theorem dX1_sureShare_12 : decode cX1_sureShare 12 = .ok (.iadd, 1) := dk_96 (dk_at dksX1_sureShare_0 12 rfl rfl)
theorem dX1_sureShare_13 : decode cX1_sureShare 13 = .ok (.istore_n 1, 1) := dk_60 (dk_at dksX1_sureShare_0 13 rfl rfl)
theorem dX1_sureShare_14 : decode cX1_sureShare 14 = .ok (.iload_n 1, 1) := dk_27 (dk_at dksX1_sureShare_0 14 rfl rfl)
theorem dX1_sureShare_15 : decode cX1_sureShare 15 = .ok (.aload_n 0, 1) := dk_42 (dk_at dksX1_sureShare_0 15 rfl rfl)
theorem dX1_sureShare_16 : decode cX1_sureShare 16 = .ok (.bipush 109, 2) := dk_16 109 (dk_at dksX1_sureShare_0 16 rfl rfl)
theorem dX1_sureShare_18 : decode cX1_sureShare 18 = .ok (.invokevirtual 256, 3) := dk_182 1 0 (dk_at dksX1_sureShare_0 18 rfl rfl)
theorem dX1_sureShare_21 : decode cX1_sureShare 21 = .ok (.iadd, 1) := dk_96 (dk_at dksX1_sureShare_0 21 rfl rfl)
theorem dX1_sureShare_22 : decode cX1_sureShare 22 = .ok (.istore_n 2, 1) := dk_61 (dk_at dksX1_sureShare_0 22 rfl rfl)
theorem dX1_sureShare_23 : decode cX1_sureShare 23 = .ok (.iload_n 2, 1) := dk_28 (dk_at dksX1_sureShare_0 23 rfl rfl)
theorem dX1_sureShare_24 : decode cX1_sureShare 24 = .ok (.ifCond .ne 11, 3) := dk_154 0 11 (dk_at dksX1_sureShare_1 0 rfl rfl)
theorem dX1_sureShare_27 : decode cX1_sureShare 27 = .ok (.new 303, 3) := dk_187 1 47 (dk_at dksX1_sureShare_1 3 rfl rfl)
theorem dX1_sureShare_30 : decode cX1_sureShare 30 = .ok (.dup, 1) := dk_89 (dk_at dksX1_sureShare_1 6 rfl rfl)
theorem dX1_sureShare_31 : decode cX1_sureShare 31 = .ok (.invokespecial 305, 3) := dk_183 1 49 (dk_at dksX1_sureShare_1 7 rfl rfl)
theorem dX1_sureShare_34 : decode cX1_sureShare 34 = .ok (.athrow, 1) := dk_191 (dk_at dksX1_sureShare_1 10 rfl rfl)
theorem dX1_sureShare_35 : decode cX1_sureShare 35 = .ok (.iload_n 1, 1) := dk_27 (dk_at dksX1_sureShare_1 11 rfl rfl)
theorem dX1_sureShare_36 : decode cX1_sureShare 36 = .ok (.i2f, 1) := dk_134 (dk_at dksX1_sureShare_1 12 rfl rfl)
theorem dX1_sureShare_37 : decode cX1_sureShare 37 = .ok (.iload_n 2, 1) := dk_28 (dk_at dksX1_sureShare_1 13 rfl rfl)
theorem dX1_sureShare_38 : decode cX1_sureShare 38 = .ok (.i2f, 1) := dk_134 (dk_at dksX1_sureShare_1 14 rfl rfl)
theorem dX1_sureShare_39 : decode cX1_sureShare 39 = .ok (.fdiv, 1) := dk_110 (dk_at dksX1_sureShare_1 15 rfl rfl)
theorem dX1_sureShare_40 : decode cX1_sureShare 40 = .ok (.freturn, 1) := dk_174 (dk_at dksX1_sureShare_1 16 rfl rfl)
abbrev cX1_meanSteps : ByteArray := prog_1_method_53_code
def yX1_meanSteps : MethodName := ⟨RX1, "meanSteps", "()D"⟩
def dkwX1_meanSteps_4 : List UInt8 := [167, 255, 171, 28, 154, 0, 11, 187, 1, 47, 89, 183, 1, 49, 191, 27, 135, 28, 135, 111, 175]
abbrev dktX1_meanSteps_4 : List UInt8 := dkwX1_meanSteps_4 ++ []
def dkwX1_meanSteps_3 : List UInt8 := [182, 0, 89, 153, 0, 7, 4, 167, 0, 4, 3, 96, 61, 132, 4, 1, 167, 255, 191, 132, 3, 1]
abbrev dktX1_meanSteps_3 : List UInt8 := dkwX1_meanSteps_3 ++ dktX1_meanSteps_4
def dkwX1_meanSteps_2 : List UInt8 := [192, 0, 17, 182, 0, 64, 96, 60, 28, 42, 180, 0, 20, 29, 182, 0, 75, 192, 0, 79, 21, 4]
abbrev dktX1_meanSteps_2 : List UInt8 := dkwX1_meanSteps_2 ++ dktX1_meanSteps_3
def dkwX1_meanSteps_1 : List UInt8 := [162, 0, 64, 27, 42, 180, 0, 20, 29, 182, 0, 75, 192, 0, 79, 180, 0, 93, 21, 4, 182, 0, 75]
abbrev dktX1_meanSteps_1 : List UInt8 := dkwX1_meanSteps_1 ++ dktX1_meanSteps_2
def dkwX1_meanSteps_0 : List UInt8 := [3, 60, 3, 61, 3, 62, 29, 42, 180, 0, 20, 182, 0, 64, 162, 0, 80, 3, 54, 4, 21, 4, 16, 6]
abbrev dktX1_meanSteps_0 : List UInt8 := dkwX1_meanSteps_0 ++ dktX1_meanSteps_1
theorem dksX1_meanSteps_0 : cX1_meanSteps.data.toList.drop 0 = dktX1_meanSteps_0 := by decide +kernel
theorem dksX1_meanSteps_1 : cX1_meanSteps.data.toList.drop 24 = dktX1_meanSteps_1 := dk_seg dksX1_meanSteps_0 24 rfl rfl
theorem dksX1_meanSteps_2 : cX1_meanSteps.data.toList.drop 47 = dktX1_meanSteps_2 := dk_seg dksX1_meanSteps_1 23 rfl rfl
theorem dksX1_meanSteps_3 : cX1_meanSteps.data.toList.drop 69 = dktX1_meanSteps_3 := dk_seg dksX1_meanSteps_2 22 rfl rfl
theorem dksX1_meanSteps_4 : cX1_meanSteps.data.toList.drop 91 = dktX1_meanSteps_4 := dk_seg dksX1_meanSteps_3 22 rfl rfl
theorem dX1_meanSteps_0 : decode cX1_meanSteps 0 = .ok (.iconst 0, 1) := dk_3 (dk_at dksX1_meanSteps_0 0 rfl rfl)
theorem dX1_meanSteps_1 : decode cX1_meanSteps 1 = .ok (.istore_n 1, 1) := dk_60 (dk_at dksX1_meanSteps_0 1 rfl rfl)
theorem dX1_meanSteps_2 : decode cX1_meanSteps 2 = .ok (.iconst 0, 1) := dk_3 (dk_at dksX1_meanSteps_0 2 rfl rfl)
theorem dX1_meanSteps_3 : decode cX1_meanSteps 3 = .ok (.istore_n 2, 1) := dk_61 (dk_at dksX1_meanSteps_0 3 rfl rfl)
theorem dX1_meanSteps_4 : decode cX1_meanSteps 4 = .ok (.iconst 0, 1) := dk_3 (dk_at dksX1_meanSteps_0 4 rfl rfl)
theorem dX1_meanSteps_5 : decode cX1_meanSteps 5 = .ok (.istore_n 3, 1) := dk_62 (dk_at dksX1_meanSteps_0 5 rfl rfl)
theorem dX1_meanSteps_6 : decode cX1_meanSteps 6 = .ok (.iload_n 3, 1) := dk_29 (dk_at dksX1_meanSteps_0 6 rfl rfl)
theorem dX1_meanSteps_7 : decode cX1_meanSteps 7 = .ok (.aload_n 0, 1) := dk_42 (dk_at dksX1_meanSteps_0 7 rfl rfl)
theorem dX1_meanSteps_8 : decode cX1_meanSteps 8 = .ok (.getfield 20, 3) := dk_180 0 20 (dk_at dksX1_meanSteps_0 8 rfl rfl)
theorem dX1_meanSteps_11 : decode cX1_meanSteps 11 = .ok (.invokevirtual 64, 3) := dk_182 0 64 (dk_at dksX1_meanSteps_0 11 rfl rfl)
theorem dX1_meanSteps_14 : decode cX1_meanSteps 14 = .ok (.if_icmp .ge 80, 3) := dk_162 0 80 (dk_at dksX1_meanSteps_0 14 rfl rfl)
theorem dX1_meanSteps_17 : decode cX1_meanSteps 17 = .ok (.iconst 0, 1) := dk_3 (dk_at dksX1_meanSteps_0 17 rfl rfl)
theorem dX1_meanSteps_18 : decode cX1_meanSteps 18 = .ok (.istore 4, 2) := dk_54 4 (dk_at dksX1_meanSteps_0 18 rfl rfl)
theorem dX1_meanSteps_20 : decode cX1_meanSteps 20 = .ok (.iload 4, 2) := dk_21 4 (dk_at dksX1_meanSteps_0 20 rfl rfl)
theorem dX1_meanSteps_22 : decode cX1_meanSteps 22 = .ok (.bipush 6, 2) := dk_16 6 (dk_at dksX1_meanSteps_0 22 rfl rfl)
theorem dX1_meanSteps_24 : decode cX1_meanSteps 24 = .ok (.if_icmp .ge 64, 3) := dk_162 0 64 (dk_at dksX1_meanSteps_1 0 rfl rfl)
theorem dX1_meanSteps_27 : decode cX1_meanSteps 27 = .ok (.iload_n 1, 1) := dk_27 (dk_at dksX1_meanSteps_1 3 rfl rfl)
theorem dX1_meanSteps_28 : decode cX1_meanSteps 28 = .ok (.aload_n 0, 1) := dk_42 (dk_at dksX1_meanSteps_1 4 rfl rfl)
theorem dX1_meanSteps_29 : decode cX1_meanSteps 29 = .ok (.getfield 20, 3) := dk_180 0 20 (dk_at dksX1_meanSteps_1 5 rfl rfl)
theorem dX1_meanSteps_32 : decode cX1_meanSteps 32 = .ok (.iload_n 3, 1) := dk_29 (dk_at dksX1_meanSteps_1 8 rfl rfl)
theorem dX1_meanSteps_33 : decode cX1_meanSteps 33 = .ok (.invokevirtual 75, 3) := dk_182 0 75 (dk_at dksX1_meanSteps_1 9 rfl rfl)
theorem dX1_meanSteps_36 : decode cX1_meanSteps 36 = .ok (.checkcast 79, 3) := dk_192 0 79 (dk_at dksX1_meanSteps_1 12 rfl rfl)
theorem dX1_meanSteps_39 : decode cX1_meanSteps 39 = .ok (.getfield 93, 3) := dk_180 0 93 (dk_at dksX1_meanSteps_1 15 rfl rfl)
theorem dX1_meanSteps_42 : decode cX1_meanSteps 42 = .ok (.iload 4, 2) := dk_21 4 (dk_at dksX1_meanSteps_1 18 rfl rfl)
theorem dX1_meanSteps_44 : decode cX1_meanSteps 44 = .ok (.invokevirtual 75, 3) := dk_182 0 75 (dk_at dksX1_meanSteps_1 20 rfl rfl)
theorem dX1_meanSteps_47 : decode cX1_meanSteps 47 = .ok (.checkcast 17, 3) := dk_192 0 17 (dk_at dksX1_meanSteps_2 0 rfl rfl)
theorem dX1_meanSteps_50 : decode cX1_meanSteps 50 = .ok (.invokevirtual 64, 3) := dk_182 0 64 (dk_at dksX1_meanSteps_2 3 rfl rfl)
theorem dX1_meanSteps_53 : decode cX1_meanSteps 53 = .ok (.iadd, 1) := dk_96 (dk_at dksX1_meanSteps_2 6 rfl rfl)
theorem dX1_meanSteps_54 : decode cX1_meanSteps 54 = .ok (.istore_n 1, 1) := dk_60 (dk_at dksX1_meanSteps_2 7 rfl rfl)
theorem dX1_meanSteps_55 : decode cX1_meanSteps 55 = .ok (.iload_n 2, 1) := dk_28 (dk_at dksX1_meanSteps_2 8 rfl rfl)
theorem dX1_meanSteps_56 : decode cX1_meanSteps 56 = .ok (.aload_n 0, 1) := dk_42 (dk_at dksX1_meanSteps_2 9 rfl rfl)
theorem dX1_meanSteps_57 : decode cX1_meanSteps 57 = .ok (.getfield 20, 3) := dk_180 0 20 (dk_at dksX1_meanSteps_2 10 rfl rfl)
theorem dX1_meanSteps_60 : decode cX1_meanSteps 60 = .ok (.iload_n 3, 1) := dk_29 (dk_at dksX1_meanSteps_2 13 rfl rfl)
theorem dX1_meanSteps_61 : decode cX1_meanSteps 61 = .ok (.invokevirtual 75, 3) := dk_182 0 75 (dk_at dksX1_meanSteps_2 14 rfl rfl)
theorem dX1_meanSteps_64 : decode cX1_meanSteps 64 = .ok (.checkcast 79, 3) := dk_192 0 79 (dk_at dksX1_meanSteps_2 17 rfl rfl)
theorem dX1_meanSteps_67 : decode cX1_meanSteps 67 = .ok (.iload 4, 2) := dk_21 4 (dk_at dksX1_meanSteps_2 20 rfl rfl)
theorem dX1_meanSteps_69 : decode cX1_meanSteps 69 = .ok (.invokevirtual 89, 3) := dk_182 0 89 (dk_at dksX1_meanSteps_3 0 rfl rfl)
theorem dX1_meanSteps_72 : decode cX1_meanSteps 72 = .ok (.ifCond .eq 7, 3) := dk_153 0 7 (dk_at dksX1_meanSteps_3 3 rfl rfl)
theorem dX1_meanSteps_75 : decode cX1_meanSteps 75 = .ok (.iconst 1, 1) := dk_4 (dk_at dksX1_meanSteps_3 6 rfl rfl)
theorem dX1_meanSteps_76 : decode cX1_meanSteps 76 = .ok (.goto 4, 3) := dk_167 0 4 (dk_at dksX1_meanSteps_3 7 rfl rfl)
theorem dX1_meanSteps_79 : decode cX1_meanSteps 79 = .ok (.iconst 0, 1) := dk_3 (dk_at dksX1_meanSteps_3 10 rfl rfl)
theorem dX1_meanSteps_80 : decode cX1_meanSteps 80 = .ok (.iadd, 1) := dk_96 (dk_at dksX1_meanSteps_3 11 rfl rfl)
theorem dX1_meanSteps_81 : decode cX1_meanSteps 81 = .ok (.istore_n 2, 1) := dk_61 (dk_at dksX1_meanSteps_3 12 rfl rfl)
theorem dX1_meanSteps_82 : decode cX1_meanSteps 82 = .ok (.iinc 4 1, 3) := dk_132 4 1 (dk_at dksX1_meanSteps_3 13 rfl rfl)
theorem dX1_meanSteps_85 : decode cX1_meanSteps 85 = .ok (.goto (-65), 3) := dk_167 255 191 (dk_at dksX1_meanSteps_3 16 rfl rfl)
theorem dX1_meanSteps_88 : decode cX1_meanSteps 88 = .ok (.iinc 3 1, 3) := dk_132 3 1 (dk_at dksX1_meanSteps_3 19 rfl rfl)
theorem dX1_meanSteps_91 : decode cX1_meanSteps 91 = .ok (.goto (-85), 3) := dk_167 255 171 (dk_at dksX1_meanSteps_4 0 rfl rfl)
theorem dX1_meanSteps_94 : decode cX1_meanSteps 94 = .ok (.iload_n 2, 1) := dk_28 (dk_at dksX1_meanSteps_4 3 rfl rfl)
theorem dX1_meanSteps_95 : decode cX1_meanSteps 95 = .ok (.ifCond .ne 11, 3) := dk_154 0 11 (dk_at dksX1_meanSteps_4 4 rfl rfl)
theorem dX1_meanSteps_98 : decode cX1_meanSteps 98 = .ok (.new 303, 3) := dk_187 1 47 (dk_at dksX1_meanSteps_4 7 rfl rfl)
theorem dX1_meanSteps_101 : decode cX1_meanSteps 101 = .ok (.dup, 1) := dk_89 (dk_at dksX1_meanSteps_4 10 rfl rfl)
theorem dX1_meanSteps_102 : decode cX1_meanSteps 102 = .ok (.invokespecial 305, 3) := dk_183 1 49 (dk_at dksX1_meanSteps_4 11 rfl rfl)
theorem dX1_meanSteps_105 : decode cX1_meanSteps 105 = .ok (.athrow, 1) := dk_191 (dk_at dksX1_meanSteps_4 14 rfl rfl)
theorem dX1_meanSteps_106 : decode cX1_meanSteps 106 = .ok (.iload_n 1, 1) := dk_27 (dk_at dksX1_meanSteps_4 15 rfl rfl)
theorem dX1_meanSteps_107 : decode cX1_meanSteps 107 = .ok (.i2d, 1) := dk_135 (dk_at dksX1_meanSteps_4 16 rfl rfl)
theorem dX1_meanSteps_108 : decode cX1_meanSteps 108 = .ok (.iload_n 2, 1) := dk_28 (dk_at dksX1_meanSteps_4 17 rfl rfl)
theorem dX1_meanSteps_109 : decode cX1_meanSteps 109 = .ok (.i2d, 1) := dk_135 (dk_at dksX1_meanSteps_4 18 rfl rfl)
theorem dX1_meanSteps_110 : decode cX1_meanSteps 110 = .ok (.ddiv, 1) := dk_111 (dk_at dksX1_meanSteps_4 19 rfl rfl)
theorem dX1_meanSteps_111 : decode cX1_meanSteps 111 = .ok (.dreturn, 1) := dk_175 (dk_at dksX1_meanSteps_4 20 rfl rfl)
theorem q60 : (Jvm.Cond.initialized "Weaversgate") ∈ lw_all := lw_g (lw_at lw_m1 1 rfl) rfl
theorem q120 : (Jvm.Cond.instantiable "Weaversgate" (7 : Nat)) ∈ lw_all := lw_g (lw_at lw_m1 61 rfl) rfl
theorem q122 : (Jvm.Cond.instanceMethod ({ cls := "Weaversgate", name := "<init>", desc := "()V" } : Jvm.MethodName)) ∈ lw_all := lw_g (lw_at lw_m1 63 rfl) rfl
theorem q123 : (Jvm.Cond.code ({ cls := "Weaversgate", name := "<init>", desc := "()V" } : Jvm.MethodName) prog_1_method_3_code (1 : Nat) (Option.none : Option Jvm.ClassFile.FieldType)) ∈ lw_all := lw_g (lw_at lw_m1 64 rfl) rfl
theorem q124 : (Jvm.Cond.methodLink "Weaversgate" (11 : Nat) ({ cls := "java/lang/Object", name := "<init>", desc := "()V" } : Jvm.MethodName)) ∈ lw_all := lw_g (lw_at lw_m1 65 rfl) rfl
theorem q127 : (Jvm.Cond.classLink "Weaversgate" (17 : Nat) "java/util/ArrayList") ∈ lw_all := lw_g (lw_at lw_m1 68 rfl) rfl
theorem q129 : (Jvm.Cond.methodLink "Weaversgate" (19 : Nat) ({ cls := "java/util/ArrayList", name := "<init>", desc := "()V" } : Jvm.MethodName)) ∈ lw_all := lw_g (lw_at lw_m1 70 rfl) rfl
theorem q156 : (Jvm.Cond.classLink "Weaversgate" (32 : Nat) "[[Z") ∈ lw_all := lw_g (lw_at lw_m1 97 rfl) rfl
theorem q158 : (Jvm.Cond.classLink "Weaversgate" (37 : Nat) "Weaversgate$Run") ∈ lw_all := lw_g (lw_at lw_m1 99 rfl) rfl
theorem q160 : (Jvm.Cond.methodLinkNest "Weaversgate" (39 : Nat) ({ cls := "Weaversgate$Run", name := "<init>", desc := "(LWeaversgate;)V" } : Jvm.MethodName) "Weaversgate") ∈ lw_tbl := lw_at lw_m1 101 rfl
theorem q172 : (Jvm.Cond.fieldLinkNest "Weaversgate" (291 : Nat) "Weaversgate$Trace" "values" "[I" "Weaversgate") ∈ lw_tbl := lw_at lw_m1 113 rfl
theorem q174 : (Jvm.Cond.fieldLinkNest "Weaversgate" (295 : Nat) "Weaversgate$Trace" "advices" "[I" "Weaversgate") ∈ lw_tbl := lw_at lw_m1 115 rfl
theorem q192 : (Jvm.Cond.fieldLinkNest "Weaversgate" (280 : Nat) "Weaversgate$Run" "trace" "LWeaversgate$Trace;" "Weaversgate") ∈ lw_tbl := lw_at lw_m1 133 rfl
theorem q195 : (Jvm.Cond.fieldLinkNest "Weaversgate" (264 : Nat) "Weaversgate$Run" "how" "C" "Weaversgate") ∈ lw_tbl := lw_at lw_m1 136 rfl
theorem q197 : (Jvm.Cond.fieldLinkNest "Weaversgate" (271 : Nat) "Weaversgate$Run" "result" "I" "Weaversgate") ∈ lw_tbl := lw_at lw_m1 138 rfl
theorem q199 : (Jvm.Cond.fieldLinkNest "Weaversgate" (274 : Nat) "Weaversgate$Run" "points" "I" "Weaversgate") ∈ lw_tbl := lw_at lw_m1 140 rfl
theorem q201 : (Jvm.Cond.fieldLinkNest "Weaversgate" (277 : Nat) "Weaversgate$Run" "asked" "I" "Weaversgate") ∈ lw_tbl := lw_at lw_m1 142 rfl
theorem q225 : (Jvm.Cond.fieldLink "Weaversgate" (20 : Nat) "Weaversgate" "types" "Ljava/util/ArrayList;") ∈ lw_all := lw_g (lw_at lw_m1 166 rfl) rfl
theorem q227 : (Jvm.Cond.fieldLink "Weaversgate" (26 : Nat) "Weaversgate" "patterns" "Ljava/util/ArrayList;") ∈ lw_all := lw_g (lw_at lw_m1 168 rfl) rfl
theorem q229 : (Jvm.Cond.fieldLink "Weaversgate" (29 : Nat) "Weaversgate" "advices" "Ljava/util/ArrayList;") ∈ lw_all := lw_g (lw_at lw_m1 170 rfl) rfl
theorem q230 : (Jvm.Cond.fieldLink "Weaversgate" (34 : Nat) "Weaversgate" "ahead" "[[Z") ∈ lw_all := lw_g (lw_at lw_m1 171 rfl) rfl
theorem q231 : (Jvm.Cond.fieldLink "Weaversgate" (42 : Nat) "Weaversgate" "last" "LWeaversgate$Run;") ∈ lw_all := lw_g (lw_at lw_m1 172 rfl) rfl
theorem q232 : (Jvm.Cond.fieldLink "Weaversgate" (46 : Nat) "Weaversgate" "one" "LWeaversgate$Run;") ∈ lw_all := lw_g (lw_at lw_m1 173 rfl) rfl
theorem q233 : (Jvm.Cond.fieldLink "Weaversgate" (49 : Nat) "Weaversgate" "two" "LWeaversgate$Run;") ∈ lw_all := lw_g (lw_at lw_m1 174 rfl) rfl
theorem q234 : (Jvm.Cond.laysFinal "Weaversgate" "Weaversgate" "types" "Ljava/util/ArrayList;") ∈ lw_all := lw_g (lw_at lw_m1 175 rfl) rfl
theorem q235 : (Jvm.Cond.soleField "Weaversgate" "types") ∈ lw_all := lw_g (lw_at lw_m1 176 rfl) rfl
theorem q236 : (Jvm.Cond.laysFinal "Weaversgate" "Weaversgate" "patterns" "Ljava/util/ArrayList;") ∈ lw_all := lw_g (lw_at lw_m1 177 rfl) rfl
theorem q237 : (Jvm.Cond.soleField "Weaversgate" "patterns") ∈ lw_all := lw_g (lw_at lw_m1 178 rfl) rfl
theorem q238 : (Jvm.Cond.laysFinal "Weaversgate" "Weaversgate" "advices" "Ljava/util/ArrayList;") ∈ lw_all := lw_g (lw_at lw_m1 179 rfl) rfl
theorem q239 : (Jvm.Cond.soleField "Weaversgate" "advices") ∈ lw_all := lw_g (lw_at lw_m1 180 rfl) rfl
theorem q240 : (Jvm.Cond.laysFinal "Weaversgate" "Weaversgate" "ahead" "[[Z") ∈ lw_all := lw_g (lw_at lw_m1 181 rfl) rfl
theorem q241 : (Jvm.Cond.soleField "Weaversgate" "ahead") ∈ lw_all := lw_g (lw_at lw_m1 182 rfl) rfl
theorem q242 : (Jvm.Cond.laysFinal "Weaversgate" "Weaversgate" "last" "LWeaversgate$Run;") ∈ lw_all := lw_g (lw_at lw_m1 183 rfl) rfl
theorem q243 : (Jvm.Cond.soleField "Weaversgate" "last") ∈ lw_all := lw_g (lw_at lw_m1 184 rfl) rfl
theorem q244 : (Jvm.Cond.laysFinal "Weaversgate" "Weaversgate" "one" "LWeaversgate$Run;") ∈ lw_all := lw_g (lw_at lw_m1 185 rfl) rfl
theorem q245 : (Jvm.Cond.soleField "Weaversgate" "one") ∈ lw_all := lw_g (lw_at lw_m1 186 rfl) rfl
theorem q246 : (Jvm.Cond.laysFinal "Weaversgate" "Weaversgate" "two" "LWeaversgate$Run;") ∈ lw_all := lw_g (lw_at lw_m1 187 rfl) rfl
theorem q247 : (Jvm.Cond.soleField "Weaversgate" "two") ∈ lw_all := lw_g (lw_at lw_m1 188 rfl) rfl
theorem q248 : (Jvm.Cond.superclass "Weaversgate" "java/lang/Object") ∈ lw_all := lw_g (lw_at lw_m1 189 rfl) rfl
theorem q250 : (Jvm.Cond.instanceMethod ({ cls := "Weaversgate", name := "isRing", desc := "()Z" } : Jvm.MethodName)) ∈ lw_all := lw_g (lw_at lw_m1 191 rfl) rfl
theorem q251 : (Jvm.Cond.selects "Weaversgate" ({ cls := "Weaversgate", name := "isRing", desc := "()Z" } : Jvm.MethodName) ({ cls := "Weaversgate", name := "isRing", desc := "()Z" } : Jvm.MethodName)) ∈ lw_all := lw_g (lw_at lw_m1 192 rfl) rfl
theorem q252 : (Jvm.Cond.code ({ cls := "Weaversgate", name := "isRing", desc := "()Z" } : Jvm.MethodName) prog_1_method_33_code (1 : Nat) (Option.some Jvm.ClassFile.FieldType.boolean)) ∈ lw_all := lw_g (lw_at lw_m1 193 rfl) rfl
theorem q253 : (Jvm.Cond.methodLink "Weaversgate" (252 : Nat) ({ cls := "Weaversgate", name := "hasRing", desc := "()Z" } : Jvm.MethodName)) ∈ lw_all := lw_g (lw_at lw_m1 194 rfl) rfl
theorem q254 : (Jvm.Cond.privateMethod ({ cls := "Weaversgate", name := "hasRing", desc := "()Z" } : Jvm.MethodName)) ∈ lw_tbl := lw_at lw_m1 195 rfl
theorem q255 : (Jvm.Cond.instanceMethod ({ cls := "Weaversgate", name := "hasRing", desc := "()Z" } : Jvm.MethodName)) ∈ lw_all := lw_g (lw_at lw_m1 196 rfl) rfl
theorem q256 : (Jvm.Cond.code ({ cls := "Weaversgate", name := "hasRing", desc := "()Z" } : Jvm.MethodName) prog_1_method_19_code (1 : Nat) (Option.some Jvm.ClassFile.FieldType.boolean)) ∈ lw_all := lw_g (lw_at lw_m1 197 rfl) rfl
theorem q257 : (Jvm.Cond.methodLink "Weaversgate" (165 : Nat) ({ cls := "Weaversgate", name := "aspectOf", desc := "(I)I" } : Jvm.MethodName)) ∈ lw_all := lw_g (lw_at lw_m1 198 rfl) rfl
theorem q258 : (Jvm.Cond.privateMethod ({ cls := "Weaversgate", name := "aspectOf", desc := "(I)I" } : Jvm.MethodName)) ∈ lw_tbl := lw_at lw_m1 199 rfl
theorem q259 : (Jvm.Cond.instanceMethod ({ cls := "Weaversgate", name := "aspectOf", desc := "(I)I" } : Jvm.MethodName)) ∈ lw_all := lw_g (lw_at lw_m1 200 rfl) rfl
theorem q260 : (Jvm.Cond.code ({ cls := "Weaversgate", name := "aspectOf", desc := "(I)I" } : Jvm.MethodName) prog_1_method_18_code (8 : Nat) (Option.some Jvm.ClassFile.FieldType.int)) ∈ lw_all := lw_g (lw_at lw_m1 201 rfl) rfl
theorem q262 : (Jvm.Cond.instanceMethod ({ cls := "Weaversgate", name := "residues", desc := "()I" } : Jvm.MethodName)) ∈ lw_all := lw_g (lw_at lw_m1 203 rfl) rfl
theorem q263 : (Jvm.Cond.selects "Weaversgate" ({ cls := "Weaversgate", name := "residues", desc := "()I" } : Jvm.MethodName) ({ cls := "Weaversgate", name := "residues", desc := "()I" } : Jvm.MethodName)) ∈ lw_all := lw_g (lw_at lw_m1 204 rfl) rfl
theorem q264 : (Jvm.Cond.code ({ cls := "Weaversgate", name := "residues", desc := "()I" } : Jvm.MethodName) prog_1_method_37_code (1 : Nat) (Option.some Jvm.ClassFile.FieldType.int)) ∈ lw_all := lw_g (lw_at lw_m1 205 rfl) rfl
theorem q265 : (Jvm.Cond.methodLink "Weaversgate" (256 : Nat) ({ cls := "Weaversgate", name := "countPairs", desc := "(C)I" } : Jvm.MethodName)) ∈ lw_all := lw_g (lw_at lw_m1 206 rfl) rfl
theorem q266 : (Jvm.Cond.privateMethod ({ cls := "Weaversgate", name := "countPairs", desc := "(C)I" } : Jvm.MethodName)) ∈ lw_tbl := lw_at lw_m1 207 rfl
theorem q267 : (Jvm.Cond.instanceMethod ({ cls := "Weaversgate", name := "countPairs", desc := "(C)I" } : Jvm.MethodName)) ∈ lw_all := lw_g (lw_at lw_m1 208 rfl) rfl
theorem q268 : (Jvm.Cond.code ({ cls := "Weaversgate", name := "countPairs", desc := "(C)I" } : Jvm.MethodName) prog_1_method_16_code (6 : Nat) (Option.some Jvm.ClassFile.FieldType.int)) ∈ lw_all := lw_g (lw_at lw_m1 209 rfl) rfl
theorem q269 : (Jvm.Cond.methodLink "Weaversgate" (64 : Nat) ({ cls := "java/util/ArrayList", name := "size", desc := "()I" } : Jvm.MethodName)) ∈ lw_all := lw_g (lw_at lw_m1 210 rfl) rfl
theorem q273 : (Jvm.Cond.methodLink "Weaversgate" (75 : Nat) ({ cls := "java/util/ArrayList", name := "get", desc := "(I)Ljava/lang/Object;" } : Jvm.MethodName)) ∈ lw_all := lw_g (lw_at lw_m1 214 rfl) rfl
theorem q287 : (Jvm.Cond.classLink "Weaversgate" (79 : Nat) "Weaversgate$Type") ∈ lw_all := lw_g (lw_at lw_m1 228 rfl) rfl
theorem q288 : (Jvm.Cond.methodLink "Weaversgate" (141 : Nat) ({ cls := "Weaversgate", name := "placesOf", desc := "(LWeaversgate$Type;I)I" } : Jvm.MethodName)) ∈ lw_all := lw_g (lw_at lw_m1 229 rfl) rfl
theorem q289 : (Jvm.Cond.privateMethod ({ cls := "Weaversgate", name := "placesOf", desc := "(LWeaversgate$Type;I)I" } : Jvm.MethodName)) ∈ lw_tbl := lw_at lw_m1 230 rfl
theorem q290 : (Jvm.Cond.instanceMethod ({ cls := "Weaversgate", name := "placesOf", desc := "(LWeaversgate$Type;I)I" } : Jvm.MethodName)) ∈ lw_all := lw_g (lw_at lw_m1 231 rfl) rfl
theorem q291 : (Jvm.Cond.code ({ cls := "Weaversgate", name := "placesOf", desc := "(LWeaversgate$Type;I)I" } : Jvm.MethodName) prog_1_method_11_code (6 : Nat) (Option.some Jvm.ClassFile.FieldType.int)) ∈ lw_all := lw_g (lw_at lw_m1 232 rfl) rfl
theorem q292 : (Jvm.Cond.methodLink "Weaversgate" (89 : Nat) ({ cls := "Weaversgate$Type", name := "hasBody", desc := "(I)Z" } : Jvm.MethodName)) ∈ lw_all := lw_g (lw_at lw_m1 233 rfl) rfl
theorem q302 : (Jvm.Cond.classLink "Weaversgate" (96 : Nat) "Weaversgate$Step") ∈ lw_all := lw_g (lw_at lw_m2 3 rfl) rfl
theorem q303 : (Jvm.Cond.methodLink "Weaversgate" (98 : Nat) ({ cls := "Weaversgate$Step", name := "places", desc := "()I" } : Jvm.MethodName)) ∈ lw_all := lw_g (lw_at lw_m2 4 rfl) rfl
theorem q700 : (Jvm.Cond.methodLink "Weaversgate" (144 : Nat) ({ cls := "Weaversgate", name := "placeOf", desc := "(LWeaversgate$Type;II)LWeaversgate$Place;" } : Jvm.MethodName)) ∈ lw_all := lw_g (lw_at lw_m3 161 rfl) rfl
theorem q701 : (Jvm.Cond.privateMethod ({ cls := "Weaversgate", name := "placeOf", desc := "(LWeaversgate$Type;II)LWeaversgate$Place;" } : Jvm.MethodName)) ∈ lw_tbl := lw_at lw_m3 162 rfl
theorem q702 : (Jvm.Cond.instanceMethod ({ cls := "Weaversgate", name := "placeOf", desc := "(LWeaversgate$Type;II)LWeaversgate$Place;" } : Jvm.MethodName)) ∈ lw_all := lw_g (lw_at lw_m3 163 rfl) rfl
theorem q703 : (Jvm.Cond.code ({ cls := "Weaversgate", name := "placeOf", desc := "(LWeaversgate$Type;II)LWeaversgate$Place;" } : Jvm.MethodName) prog_1_method_13_code (5 : Nat) (Option.some (Jvm.ClassFile.FieldType.object "Weaversgate$Place"))) ∈ lw_all := lw_g (lw_at lw_m3 164 rfl) rfl
theorem q704 : (Jvm.Cond.methodLink "Weaversgate" (107 : Nat) ({ cls := "Weaversgate", name := "madePlace", desc := "(LWeaversgate$Type;II)LWeaversgate$Place;" } : Jvm.MethodName)) ∈ lw_all := lw_g (lw_at lw_m3 165 rfl) rfl
theorem q705 : (Jvm.Cond.privateMethod ({ cls := "Weaversgate", name := "madePlace", desc := "(LWeaversgate$Type;II)LWeaversgate$Place;" } : Jvm.MethodName)) ∈ lw_tbl := lw_at lw_m3 166 rfl
theorem q706 : (Jvm.Cond.instanceMethod ({ cls := "Weaversgate", name := "madePlace", desc := "(LWeaversgate$Type;II)LWeaversgate$Place;" } : Jvm.MethodName)) ∈ lw_all := lw_g (lw_at lw_m3 167 rfl) rfl
theorem q707 : (Jvm.Cond.code ({ cls := "Weaversgate", name := "madePlace", desc := "(LWeaversgate$Type;II)LWeaversgate$Place;" } : Jvm.MethodName) prog_1_method_15_code (11 : Nat) (Option.some (Jvm.ClassFile.FieldType.object "Weaversgate$Place"))) ∈ lw_all := lw_g (lw_at lw_m3 168 rfl) rfl
theorem q708 : (Jvm.Cond.methodLink "Weaversgate" (120 : Nat) ({ cls := "Weaversgate", name := "possibleIn", desc := "(LWeaversgate$Type;I)I" } : Jvm.MethodName)) ∈ lw_all := lw_g (lw_at lw_m3 169 rfl) rfl
theorem q709 : (Jvm.Cond.privateMethod ({ cls := "Weaversgate", name := "possibleIn", desc := "(LWeaversgate$Type;I)I" } : Jvm.MethodName)) ∈ lw_tbl := lw_at lw_m3 170 rfl
theorem q710 : (Jvm.Cond.instanceMethod ({ cls := "Weaversgate", name := "possibleIn", desc := "(LWeaversgate$Type;I)I" } : Jvm.MethodName)) ∈ lw_all := lw_g (lw_at lw_m3 171 rfl) rfl
theorem q711 : (Jvm.Cond.code ({ cls := "Weaversgate", name := "possibleIn", desc := "(LWeaversgate$Type;I)I" } : Jvm.MethodName) prog_1_method_12_code (5 : Nat) (Option.some Jvm.ClassFile.FieldType.int)) ∈ lw_all := lw_g (lw_at lw_m3 172 rfl) rfl
theorem q712 : (Jvm.Cond.methodLink "Weaversgate" (101 : Nat) ({ cls := "Weaversgate$Type", name := "finder", desc := "(I)LWeaversgate$Type;" } : Jvm.MethodName)) ∈ lw_all := lw_g (lw_at lw_m3 173 rfl) rfl
theorem q718 : (Jvm.Cond.classLink "Weaversgate" (115 : Nat) "Weaversgate$Place") ∈ lw_all := lw_g (lw_at lw_m3 179 rfl) rfl
theorem q720 : (Jvm.Cond.methodLink "Weaversgate" (128 : Nat) ({ cls := "Weaversgate$Place", name := "<init>", desc := "(CIII)V" } : Jvm.MethodName)) ∈ lw_all := lw_g (lw_at lw_m3 181 rfl) rfl
theorem q751 : (Jvm.Cond.methodLink "Weaversgate" (111 : Nat) ({ cls := "java/util/ArrayList", name := "add", desc := "(Ljava/lang/Object;)Z" } : Jvm.MethodName)) ∈ lw_all := lw_g (lw_at lw_m3 212 rfl) rfl
theorem q774 : (Jvm.Cond.selects "Weaversgate" ({ cls := "java/lang/Object", name := "getClass", desc := "()Ljava/lang/Class;" } : Jvm.MethodName) ({ cls := "java/lang/Object", name := "getClass", desc := "()Ljava/lang/Class;" } : Jvm.MethodName)) ∈ lw_all := lw_g (lw_at lw_m3 235 rfl) rfl
theorem q825 : (Jvm.Cond.methodLink "Weaversgate" (147 : Nat) ({ cls := "Weaversgate", name := "countAt", desc := "(LWeaversgate$Place;C)I" } : Jvm.MethodName)) ∈ lw_all := lw_g (lw_at lw_m4 46 rfl) rfl
theorem q826 : (Jvm.Cond.privateMethod ({ cls := "Weaversgate", name := "countAt", desc := "(LWeaversgate$Place;C)I" } : Jvm.MethodName)) ∈ lw_tbl := lw_at lw_m4 47 rfl
theorem q827 : (Jvm.Cond.instanceMethod ({ cls := "Weaversgate", name := "countAt", desc := "(LWeaversgate$Place;C)I" } : Jvm.MethodName)) ∈ lw_all := lw_g (lw_at lw_m4 48 rfl) rfl
theorem q828 : (Jvm.Cond.code ({ cls := "Weaversgate", name := "countAt", desc := "(LWeaversgate$Place;C)I" } : Jvm.MethodName) prog_1_method_17_code (6 : Nat) (Option.some Jvm.ClassFile.FieldType.int)) ∈ lw_all := lw_g (lw_at lw_m4 49 rfl) rfl
theorem q829 : (Jvm.Cond.classLink "Weaversgate" (87 : Nat) "Weaversgate$Advice") ∈ lw_all := lw_g (lw_at lw_m4 50 rfl) rfl
theorem q830 : (Jvm.Cond.interfaceEntry "Weaversgate" (159 : Nat)) ∈ lw_tbl := lw_at lw_m4 51 rfl
theorem q831 : (Jvm.Cond.methodLink "Weaversgate" (159 : Nat) ({ cls := "Weaversgate$Pattern", name := "at", desc := "(LWeaversgate$Place;)C" } : Jvm.MethodName)) ∈ lw_all := lw_g (lw_at lw_m4 52 rfl) rfl
theorem q911 : (Jvm.Cond.instanceMethod ({ cls := "Weaversgate", name := "woven", desc := "()I" } : Jvm.MethodName)) ∈ lw_all := lw_g (lw_at lw_m4 132 rfl) rfl
theorem q912 : (Jvm.Cond.selects "Weaversgate" ({ cls := "Weaversgate", name := "woven", desc := "()I" } : Jvm.MethodName) ({ cls := "Weaversgate", name := "woven", desc := "()I" } : Jvm.MethodName)) ∈ lw_all := lw_g (lw_at lw_m4 133 rfl) rfl
theorem q913 : (Jvm.Cond.code ({ cls := "Weaversgate", name := "woven", desc := "()I" } : Jvm.MethodName) prog_1_method_38_code (1 : Nat) (Option.some Jvm.ClassFile.FieldType.int)) ∈ lw_all := lw_g (lw_at lw_m4 134 rfl) rfl
theorem q915 : (Jvm.Cond.instanceMethod ({ cls := "Weaversgate", name := "points", desc := "()I" } : Jvm.MethodName)) ∈ lw_all := lw_g (lw_at lw_m4 136 rfl) rfl
theorem q916 : (Jvm.Cond.selects "Weaversgate" ({ cls := "Weaversgate", name := "points", desc := "()I" } : Jvm.MethodName) ({ cls := "Weaversgate", name := "points", desc := "()I" } : Jvm.MethodName)) ∈ lw_all := lw_g (lw_at lw_m4 137 rfl) rfl
theorem q917 : (Jvm.Cond.code ({ cls := "Weaversgate", name := "points", desc := "()I" } : Jvm.MethodName) prog_1_method_43_code (1 : Nat) (Option.some Jvm.ClassFile.FieldType.int)) ∈ lw_all := lw_g (lw_at lw_m4 138 rfl) rfl
theorem q919 : (Jvm.Cond.instanceMethod ({ cls := "Weaversgate", name := "asked", desc := "()I" } : Jvm.MethodName)) ∈ lw_all := lw_g (lw_at lw_m4 140 rfl) rfl
theorem q920 : (Jvm.Cond.selects "Weaversgate" ({ cls := "Weaversgate", name := "asked", desc := "()I" } : Jvm.MethodName) ({ cls := "Weaversgate", name := "asked", desc := "()I" } : Jvm.MethodName)) ∈ lw_all := lw_g (lw_at lw_m4 141 rfl) rfl
theorem q921 : (Jvm.Cond.code ({ cls := "Weaversgate", name := "asked", desc := "()I" } : Jvm.MethodName) prog_1_method_44_code (1 : Nat) (Option.some Jvm.ClassFile.FieldType.int)) ∈ lw_all := lw_g (lw_at lw_m4 142 rfl) rfl
theorem q923 : (Jvm.Cond.instanceMethod ({ cls := "Weaversgate", name := "traceLength", desc := "()I" } : Jvm.MethodName)) ∈ lw_all := lw_g (lw_at lw_m4 144 rfl) rfl
theorem q924 : (Jvm.Cond.selects "Weaversgate" ({ cls := "Weaversgate", name := "traceLength", desc := "()I" } : Jvm.MethodName) ({ cls := "Weaversgate", name := "traceLength", desc := "()I" } : Jvm.MethodName)) ∈ lw_all := lw_g (lw_at lw_m4 145 rfl) rfl
theorem q925 : (Jvm.Cond.code ({ cls := "Weaversgate", name := "traceLength", desc := "()I" } : Jvm.MethodName) prog_1_method_45_code (1 : Nat) (Option.some Jvm.ClassFile.FieldType.int)) ∈ lw_all := lw_g (lw_at lw_m4 146 rfl) rfl
theorem q926 : (Jvm.Cond.methodLink "Weaversgate" (284 : Nat) ({ cls := "Weaversgate$Trace", name := "length", desc := "()I" } : Jvm.MethodName)) ∈ lw_all := lw_g (lw_at lw_m4 147 rfl) rfl
theorem q931 : (Jvm.Cond.instanceMethod ({ cls := "Weaversgate", name := "traceSum", desc := "()J" } : Jvm.MethodName)) ∈ lw_all := lw_g (lw_at lw_m4 152 rfl) rfl
theorem q932 : (Jvm.Cond.selects "Weaversgate" ({ cls := "Weaversgate", name := "traceSum", desc := "()J" } : Jvm.MethodName) ({ cls := "Weaversgate", name := "traceSum", desc := "()J" } : Jvm.MethodName)) ∈ lw_all := lw_g (lw_at lw_m4 153 rfl) rfl
theorem q933 : (Jvm.Cond.code ({ cls := "Weaversgate", name := "traceSum", desc := "()J" } : Jvm.MethodName) prog_1_method_50_code (4 : Nat) (Option.some Jvm.ClassFile.FieldType.long)) ∈ lw_all := lw_g (lw_at lw_m4 154 rfl) rfl
theorem q934 : (Jvm.Cond.constantLong "Weaversgate" (297 : Nat) (131 : Int64)) ∈ lw_all := lw_g (lw_at lw_m4 155 rfl) rfl
theorem q936 : (Jvm.Cond.instanceMethod ({ cls := "Weaversgate", name := "isSound", desc := "()Z" } : Jvm.MethodName)) ∈ lw_all := lw_g (lw_at lw_m4 157 rfl) rfl
theorem q937 : (Jvm.Cond.selects "Weaversgate" ({ cls := "Weaversgate", name := "isSound", desc := "()Z" } : Jvm.MethodName) ({ cls := "Weaversgate", name := "isSound", desc := "()Z" } : Jvm.MethodName)) ∈ lw_all := lw_g (lw_at lw_m4 158 rfl) rfl
theorem q938 : (Jvm.Cond.code ({ cls := "Weaversgate", name := "isSound", desc := "()Z" } : Jvm.MethodName) prog_1_method_54_code (2 : Nat) (Option.some Jvm.ClassFile.FieldType.boolean)) ∈ lw_all := lw_g (lw_at lw_m4 159 rfl) rfl
theorem q939 : (Jvm.Cond.methodLink "Weaversgate" (260 : Nat) ({ cls := "Weaversgate$Run", name := "begin", desc := "(LWeaversgate$Type;IIZ)V" } : Jvm.MethodName)) ∈ lw_all := lw_g (lw_at lw_m4 160 rfl) rfl
theorem q1208 : (Jvm.Cond.methodLink "Weaversgate" (306 : Nat) ({ cls := "Weaversgate$Trace", name := "isLike", desc := "(LWeaversgate$Trace;)Z" } : Jvm.MethodName)) ∈ lw_all := lw_g (lw_at lw_m5 189 rfl) rfl
theorem q1236 : (Jvm.Cond.instanceMethod ({ cls := "Weaversgate", name := "addClass", desc := "(I)I" } : Jvm.MethodName)) ∈ lw_all := lw_g (lw_at lw_m5 217 rfl) rfl
theorem q1237 : (Jvm.Cond.selects "Weaversgate" ({ cls := "Weaversgate", name := "addClass", desc := "(I)I" } : Jvm.MethodName) ({ cls := "Weaversgate", name := "addClass", desc := "(I)I" } : Jvm.MethodName)) ∈ lw_all := lw_g (lw_at lw_m5 218 rfl) rfl
theorem q1238 : (Jvm.Cond.code ({ cls := "Weaversgate", name := "addClass", desc := "(I)I" } : Jvm.MethodName) prog_1_method_20_code (3 : Nat) (Option.some Jvm.ClassFile.FieldType.int)) ∈ lw_all := lw_g (lw_at lw_m5 219 rfl) rfl
theorem q1239 : (Jvm.Cond.methodLink "Weaversgate" (169 : Nat) ({ cls := "Weaversgate", name := "type", desc := "(I)LWeaversgate$Type;" } : Jvm.MethodName)) ∈ lw_all := lw_g (lw_at lw_m5 220 rfl) rfl
theorem q1240 : (Jvm.Cond.privateMethod ({ cls := "Weaversgate", name := "type", desc := "(I)LWeaversgate$Type;" } : Jvm.MethodName)) ∈ lw_tbl := lw_at lw_m5 221 rfl
theorem q1241 : (Jvm.Cond.instanceMethod ({ cls := "Weaversgate", name := "type", desc := "(I)LWeaversgate$Type;" } : Jvm.MethodName)) ∈ lw_all := lw_g (lw_at lw_m5 222 rfl) rfl
theorem q1242 : (Jvm.Cond.code ({ cls := "Weaversgate", name := "type", desc := "(I)LWeaversgate$Type;" } : Jvm.MethodName) prog_1_method_8_code (2 : Nat) (Option.some (Jvm.ClassFile.FieldType.object "Weaversgate$Type"))) ∈ lw_all := lw_g (lw_at lw_m5 223 rfl) rfl
theorem q1243 : (Jvm.Cond.methodLink "Weaversgate" (67 : Nat) ({ cls := "Weaversgate", name := "inRange", desc := "(III)Z" } : Jvm.MethodName)) ∈ lw_all := lw_g (lw_at lw_m5 224 rfl) rfl
theorem q1244 : (Jvm.Cond.static ({ cls := "Weaversgate", name := "inRange", desc := "(III)Z" } : Jvm.MethodName)) ∈ lw_all := lw_g (lw_at lw_m5 225 rfl) rfl
theorem q1245 : (Jvm.Cond.code ({ cls := "Weaversgate", name := "inRange", desc := "(III)Z" } : Jvm.MethodName) prog_1_method_1_code (3 : Nat) (Option.some Jvm.ClassFile.FieldType.boolean)) ∈ lw_all := lw_g (lw_at lw_m5 226 rfl) rfl
theorem q1246 : (Jvm.Cond.methodLink "Weaversgate" (71 : Nat) ({ cls := "Weaversgate", name := "checkPlace", desc := "(Z)V" } : Jvm.MethodName)) ∈ lw_all := lw_g (lw_at lw_m5 227 rfl) rfl
theorem q1247 : (Jvm.Cond.static ({ cls := "Weaversgate", name := "checkPlace", desc := "(Z)V" } : Jvm.MethodName)) ∈ lw_all := lw_g (lw_at lw_m5 228 rfl) rfl
theorem q1248 : (Jvm.Cond.code ({ cls := "Weaversgate", name := "checkPlace", desc := "(Z)V" } : Jvm.MethodName) prog_1_method_6_code (1 : Nat) (Option.none : Option Jvm.ClassFile.FieldType)) ∈ lw_all := lw_g (lw_at lw_m5 229 rfl) rfl
theorem q1249 : (Jvm.Cond.classLink "Weaversgate" (58 : Nat) "java/lang/IndexOutOfBoundsException") ∈ lw_all := lw_g (lw_at lw_m5 230 rfl) rfl
theorem q1258 : (Jvm.Cond.methodLink "Weaversgate" (60 : Nat) ({ cls := "java/lang/IndexOutOfBoundsException", name := "<init>", desc := "()V" } : Jvm.MethodName)) ∈ lw_all := lw_g (lw_at lw_m5 239 rfl) rfl
theorem q1264 : (Jvm.Cond.methodLink "Weaversgate" (172 : Nat) ({ cls := "Weaversgate", name := "checkState", desc := "(Z)V" } : Jvm.MethodName)) ∈ lw_all := lw_g (lw_at lw_m6 5 rfl) rfl
theorem q1265 : (Jvm.Cond.static ({ cls := "Weaversgate", name := "checkState", desc := "(Z)V" } : Jvm.MethodName)) ∈ lw_all := lw_g (lw_at lw_m6 6 rfl) rfl
theorem q1266 : (Jvm.Cond.code ({ cls := "Weaversgate", name := "checkState", desc := "(Z)V" } : Jvm.MethodName) prog_1_method_5_code (1 : Nat) (Option.none : Option Jvm.ClassFile.FieldType)) ∈ lw_all := lw_g (lw_at lw_m6 7 rfl) rfl
theorem q1267 : (Jvm.Cond.classLink "Weaversgate" (55 : Nat) "java/lang/IllegalStateException") ∈ lw_all := lw_g (lw_at lw_m6 8 rfl) rfl
theorem q1276 : (Jvm.Cond.methodLink "Weaversgate" (57 : Nat) ({ cls := "java/lang/IllegalStateException", name := "<init>", desc := "()V" } : Jvm.MethodName)) ∈ lw_all := lw_g (lw_at lw_m6 17 rfl) rfl
theorem q1283 : (Jvm.Cond.methodLink "Weaversgate" (175 : Nat) ({ cls := "Weaversgate$Type", name := "<init>", desc := "(ILWeaversgate$Type;)V" } : Jvm.MethodName)) ∈ lw_all := lw_g (lw_at lw_m6 24 rfl) rfl
theorem q1291 : (Jvm.Cond.fieldLinkNest "Weaversgate" (124 : Nat) "Weaversgate$Type" "number" "I" "Weaversgate") ∈ lw_tbl := lw_at lw_m6 32 rfl
theorem q1295 : (Jvm.Cond.fieldLinkNest "Weaversgate" (93 : Nat) "Weaversgate$Type" "bodies" "Ljava/util/ArrayList;" "Weaversgate") ∈ lw_tbl := lw_at lw_m6 36 rfl
theorem q1297 : (Jvm.Cond.fieldLinkNest "Weaversgate" (105 : Nat) "Weaversgate$Type" "places" "Ljava/util/ArrayList;" "Weaversgate") ∈ lw_tbl := lw_at lw_m6 38 rfl
theorem q1307 : (Jvm.Cond.methodLink "Weaversgate" (178 : Nat) ({ cls := "Weaversgate", name := "forgetPlaces", desc := "()V" } : Jvm.MethodName)) ∈ lw_all := lw_g (lw_at lw_m6 48 rfl) rfl
theorem q1308 : (Jvm.Cond.privateMethod ({ cls := "Weaversgate", name := "forgetPlaces", desc := "()V" } : Jvm.MethodName)) ∈ lw_tbl := lw_at lw_m6 49 rfl
theorem q1309 : (Jvm.Cond.instanceMethod ({ cls := "Weaversgate", name := "forgetPlaces", desc := "()V" } : Jvm.MethodName)) ∈ lw_all := lw_g (lw_at lw_m6 50 rfl) rfl
theorem q1310 : (Jvm.Cond.code ({ cls := "Weaversgate", name := "forgetPlaces", desc := "()V" } : Jvm.MethodName) prog_1_method_14_code (3 : Nat) (Option.none : Option Jvm.ClassFile.FieldType)) ∈ lw_all := lw_g (lw_at lw_m6 51 rfl) rfl
theorem q1311 : (Jvm.Cond.methodLink "Weaversgate" (117 : Nat) ({ cls := "java/util/ArrayList", name := "clear", desc := "()V" } : Jvm.MethodName)) ∈ lw_all := lw_g (lw_at lw_m6 52 rfl) rfl
theorem q1320 : (Jvm.Cond.instanceMethod ({ cls := "Weaversgate", name := "addStep", desc := "(IICII)I" } : Jvm.MethodName)) ∈ lw_all := lw_g (lw_at lw_m6 61 rfl) rfl
theorem q1321 : (Jvm.Cond.selects "Weaversgate" ({ cls := "Weaversgate", name := "addStep", desc := "(IICII)I" } : Jvm.MethodName) ({ cls := "Weaversgate", name := "addStep", desc := "(IICII)I" } : Jvm.MethodName)) ∈ lw_all := lw_g (lw_at lw_m6 62 rfl) rfl
theorem q1322 : (Jvm.Cond.code ({ cls := "Weaversgate", name := "addStep", desc := "(IICII)I" } : Jvm.MethodName) prog_1_method_22_code (8 : Nat) (Option.some Jvm.ClassFile.FieldType.int)) ∈ lw_all := lw_g (lw_at lw_m6 63 rfl) rfl
theorem q1323 : (Jvm.Cond.methodLink "Weaversgate" (181 : Nat) ({ cls := "Weaversgate", name := "checkMethod", desc := "(I)V" } : Jvm.MethodName)) ∈ lw_all := lw_g (lw_at lw_m6 64 rfl) rfl
theorem q1324 : (Jvm.Cond.static ({ cls := "Weaversgate", name := "checkMethod", desc := "(I)V" } : Jvm.MethodName)) ∈ lw_all := lw_g (lw_at lw_m6 65 rfl) rfl
theorem q1325 : (Jvm.Cond.code ({ cls := "Weaversgate", name := "checkMethod", desc := "(I)V" } : Jvm.MethodName) prog_1_method_9_code (1 : Nat) (Option.none : Option Jvm.ClassFile.FieldType)) ∈ lw_all := lw_g (lw_at lw_m6 66 rfl) rfl
theorem q1326 : (Jvm.Cond.methodLink "Weaversgate" (81 : Nat) ({ cls := "Weaversgate", name := "checkArgument", desc := "(Z)V" } : Jvm.MethodName)) ∈ lw_all := lw_g (lw_at lw_m6 67 rfl) rfl
theorem q1327 : (Jvm.Cond.static ({ cls := "Weaversgate", name := "checkArgument", desc := "(Z)V" } : Jvm.MethodName)) ∈ lw_all := lw_g (lw_at lw_m6 68 rfl) rfl
theorem q1328 : (Jvm.Cond.code ({ cls := "Weaversgate", name := "checkArgument", desc := "(Z)V" } : Jvm.MethodName) prog_1_method_4_code (1 : Nat) (Option.none : Option Jvm.ClassFile.FieldType)) ∈ lw_all := lw_g (lw_at lw_m6 69 rfl) rfl
theorem q1329 : (Jvm.Cond.classLink "Weaversgate" (52 : Nat) "java/lang/IllegalArgumentException") ∈ lw_all := lw_g (lw_at lw_m6 70 rfl) rfl
theorem q1330 : (Jvm.Cond.methodLink "Weaversgate" (54 : Nat) ({ cls := "java/lang/IllegalArgumentException", name := "<init>", desc := "()V" } : Jvm.MethodName)) ∈ lw_all := lw_g (lw_at lw_m6 71 rfl) rfl
theorem q1334 : (Jvm.Cond.methodLink "Weaversgate" (185 : Nat) ({ cls := "Weaversgate", name := "isStepRight", desc := "(CII)Z" } : Jvm.MethodName)) ∈ lw_all := lw_g (lw_at lw_m6 75 rfl) rfl
theorem q1335 : (Jvm.Cond.privateMethod ({ cls := "Weaversgate", name := "isStepRight", desc := "(CII)Z" } : Jvm.MethodName)) ∈ lw_tbl := lw_at lw_m6 76 rfl
theorem q1336 : (Jvm.Cond.instanceMethod ({ cls := "Weaversgate", name := "isStepRight", desc := "(CII)Z" } : Jvm.MethodName)) ∈ lw_all := lw_g (lw_at lw_m6 77 rfl) rfl
theorem q1337 : (Jvm.Cond.code ({ cls := "Weaversgate", name := "isStepRight", desc := "(CII)Z" } : Jvm.MethodName) prog_1_method_21_code (4 : Nat) (Option.some Jvm.ClassFile.FieldType.boolean)) ∈ lw_all := lw_g (lw_at lw_m6 78 rfl) rfl
theorem q1339 : (Jvm.Cond.methodLink "Weaversgate" (189 : Nat) ({ cls := "Weaversgate$Step", name := "<init>", desc := "(CII)V" } : Jvm.MethodName)) ∈ lw_all := lw_g (lw_at lw_m6 80 rfl) rfl
theorem q1345 : (Jvm.Cond.fieldLinkNest "Weaversgate" (131 : Nat) "Weaversgate$Step" "kind" "C" "Weaversgate") ∈ lw_tbl := lw_at lw_m6 86 rfl
theorem q1348 : (Jvm.Cond.fieldLinkNest "Weaversgate" (138 : Nat) "Weaversgate$Step" "a" "I" "Weaversgate") ∈ lw_tbl := lw_at lw_m6 89 rfl
theorem q1351 : (Jvm.Cond.fieldLinkNest "Weaversgate" (135 : Nat) "Weaversgate$Step" "b" "I" "Weaversgate") ∈ lw_tbl := lw_at lw_m6 92 rfl
theorem q1363 : (Jvm.Cond.instanceMethod ({ cls := "Weaversgate", name := "dropBody", desc := "(II)I" } : Jvm.MethodName)) ∈ lw_all := lw_g (lw_at lw_m6 104 rfl) rfl
theorem q1364 : (Jvm.Cond.selects "Weaversgate" ({ cls := "Weaversgate", name := "dropBody", desc := "(II)I" } : Jvm.MethodName) ({ cls := "Weaversgate", name := "dropBody", desc := "(II)I" } : Jvm.MethodName)) ∈ lw_all := lw_g (lw_at lw_m6 105 rfl) rfl
theorem q1365 : (Jvm.Cond.code ({ cls := "Weaversgate", name := "dropBody", desc := "(II)I" } : Jvm.MethodName) prog_1_method_23_code (5 : Nat) (Option.some Jvm.ClassFile.FieldType.int)) ∈ lw_all := lw_g (lw_at lw_m6 106 rfl) rfl
theorem q1370 : (Jvm.Cond.instanceMethod ({ cls := "Weaversgate", name := "finds", desc := "(II)I" } : Jvm.MethodName)) ∈ lw_all := lw_g (lw_at lw_m6 111 rfl) rfl
theorem q1371 : (Jvm.Cond.selects "Weaversgate" ({ cls := "Weaversgate", name := "finds", desc := "(II)I" } : Jvm.MethodName) ({ cls := "Weaversgate", name := "finds", desc := "(II)I" } : Jvm.MethodName)) ∈ lw_all := lw_g (lw_at lw_m6 112 rfl) rfl
theorem q1372 : (Jvm.Cond.code ({ cls := "Weaversgate", name := "finds", desc := "(II)I" } : Jvm.MethodName) prog_1_method_24_code (5 : Nat) (Option.some Jvm.ClassFile.FieldType.int)) ∈ lw_all := lw_g (lw_at lw_m6 113 rfl) rfl
theorem q1378 : (Jvm.Cond.instanceMethod ({ cls := "Weaversgate", name := "addPattern", desc := "(CII)I" } : Jvm.MethodName)) ∈ lw_all := lw_g (lw_at lw_m6 119 rfl) rfl
theorem q1379 : (Jvm.Cond.selects "Weaversgate" ({ cls := "Weaversgate", name := "addPattern", desc := "(CII)I" } : Jvm.MethodName) ({ cls := "Weaversgate", name := "addPattern", desc := "(CII)I" } : Jvm.MethodName)) ∈ lw_all := lw_g (lw_at lw_m6 120 rfl) rfl
theorem q1380 : (Jvm.Cond.code ({ cls := "Weaversgate", name := "addPattern", desc := "(CII)I" } : Jvm.MethodName) prog_1_method_28_code (5 : Nat) (Option.some Jvm.ClassFile.FieldType.int)) ∈ lw_all := lw_g (lw_at lw_m6 121 rfl) rfl
theorem q1381 : (Jvm.Cond.methodLink "Weaversgate" (228 : Nat) ({ cls := "Weaversgate", name := "isPatternRight", desc := "(CI)Z" } : Jvm.MethodName)) ∈ lw_all := lw_g (lw_at lw_m6 122 rfl) rfl
theorem q1382 : (Jvm.Cond.static ({ cls := "Weaversgate", name := "isPatternRight", desc := "(CI)Z" } : Jvm.MethodName)) ∈ lw_all := lw_g (lw_at lw_m6 123 rfl) rfl
theorem q1383 : (Jvm.Cond.code ({ cls := "Weaversgate", name := "isPatternRight", desc := "(CI)Z" } : Jvm.MethodName) prog_1_method_25_code (2 : Nat) (Option.some Jvm.ClassFile.FieldType.boolean)) ∈ lw_all := lw_g (lw_at lw_m6 124 rfl) rfl
theorem q1384 : (Jvm.Cond.methodLink "Weaversgate" (232 : Nat) ({ cls := "Weaversgate", name := "made", desc := "(CII)LWeaversgate$Pattern;" } : Jvm.MethodName)) ∈ lw_all := lw_g (lw_at lw_m6 125 rfl) rfl
theorem q1385 : (Jvm.Cond.privateMethod ({ cls := "Weaversgate", name := "made", desc := "(CII)LWeaversgate$Pattern;" } : Jvm.MethodName)) ∈ lw_tbl := lw_at lw_m6 126 rfl
theorem q1386 : (Jvm.Cond.instanceMethod ({ cls := "Weaversgate", name := "made", desc := "(CII)LWeaversgate$Pattern;" } : Jvm.MethodName)) ∈ lw_all := lw_g (lw_at lw_m6 127 rfl) rfl
theorem q1387 : (Jvm.Cond.code ({ cls := "Weaversgate", name := "made", desc := "(CII)LWeaversgate$Pattern;" } : Jvm.MethodName) prog_1_method_27_code (4 : Nat) (Option.some (Jvm.ClassFile.FieldType.object "Weaversgate$Pattern"))) ∈ lw_all := lw_g (lw_at lw_m6 128 rfl) rfl
theorem q1388 : (Jvm.Cond.classLink "Weaversgate" (192 : Nat) "Weaversgate$NamePattern") ∈ lw_all := lw_g (lw_at lw_m6 129 rfl) rfl
theorem q1390 : (Jvm.Cond.methodLink "Weaversgate" (194 : Nat) ({ cls := "Weaversgate$NamePattern", name := "<init>", desc := "(I)V" } : Jvm.MethodName)) ∈ lw_all := lw_g (lw_at lw_m6 131 rfl) rfl
theorem q1398 : (Jvm.Cond.classLink "Weaversgate" (196 : Nat) "Weaversgate$TypePattern") ∈ lw_all := lw_g (lw_at lw_m6 139 rfl) rfl
theorem q1400 : (Jvm.Cond.methodLink "Weaversgate" (198 : Nat) ({ cls := "Weaversgate$TypePattern", name := "<init>", desc := "(LWeaversgate;I)V" } : Jvm.MethodName)) ∈ lw_all := lw_g (lw_at lw_m6 141 rfl) rfl
theorem q1411 : (Jvm.Cond.classLink "Weaversgate" (201 : Nat) "Weaversgate$WithinPattern") ∈ lw_all := lw_g (lw_at lw_m6 152 rfl) rfl
theorem q1413 : (Jvm.Cond.methodLink "Weaversgate" (203 : Nat) ({ cls := "Weaversgate$WithinPattern", name := "<init>", desc := "(I)V" } : Jvm.MethodName)) ∈ lw_all := lw_g (lw_at lw_m6 154 rfl) rfl
theorem q1421 : (Jvm.Cond.classLink "Weaversgate" (204 : Nat) "Weaversgate$ValuePattern") ∈ lw_all := lw_g (lw_at lw_m6 162 rfl) rfl
theorem q1423 : (Jvm.Cond.methodLink "Weaversgate" (206 : Nat) ({ cls := "Weaversgate$ValuePattern", name := "<init>", desc := "(I)V" } : Jvm.MethodName)) ∈ lw_all := lw_g (lw_at lw_m6 164 rfl) rfl
theorem q1431 : (Jvm.Cond.classLink "Weaversgate" (207 : Nat) "Weaversgate$FlowPattern") ∈ lw_all := lw_g (lw_at lw_m6 172 rfl) rfl
theorem q1433 : (Jvm.Cond.methodLink "Weaversgate" (209 : Nat) ({ cls := "Weaversgate", name := "pattern", desc := "(I)LWeaversgate$Pattern;" } : Jvm.MethodName)) ∈ lw_all := lw_g (lw_at lw_m6 174 rfl) rfl
theorem q1434 : (Jvm.Cond.privateMethod ({ cls := "Weaversgate", name := "pattern", desc := "(I)LWeaversgate$Pattern;" } : Jvm.MethodName)) ∈ lw_tbl := lw_at lw_m6 175 rfl
theorem q1435 : (Jvm.Cond.instanceMethod ({ cls := "Weaversgate", name := "pattern", desc := "(I)LWeaversgate$Pattern;" } : Jvm.MethodName)) ∈ lw_all := lw_g (lw_at lw_m6 176 rfl) rfl
theorem q1436 : (Jvm.Cond.code ({ cls := "Weaversgate", name := "pattern", desc := "(I)LWeaversgate$Pattern;" } : Jvm.MethodName) prog_1_method_26_code (2 : Nat) (Option.some (Jvm.ClassFile.FieldType.object "Weaversgate$Pattern"))) ∈ lw_all := lw_g (lw_at lw_m6 177 rfl) rfl
theorem q1437 : (Jvm.Cond.methodLink "Weaversgate" (84 : Nat) ({ cls := "Weaversgate", name := "checkFound", desc := "(Z)V" } : Jvm.MethodName)) ∈ lw_all := lw_g (lw_at lw_m6 178 rfl) rfl
theorem q1438 : (Jvm.Cond.static ({ cls := "Weaversgate", name := "checkFound", desc := "(Z)V" } : Jvm.MethodName)) ∈ lw_all := lw_g (lw_at lw_m6 179 rfl) rfl
theorem q1439 : (Jvm.Cond.code ({ cls := "Weaversgate", name := "checkFound", desc := "(Z)V" } : Jvm.MethodName) prog_1_method_7_code (1 : Nat) (Option.none : Option Jvm.ClassFile.FieldType)) ∈ lw_all := lw_g (lw_at lw_m6 180 rfl) rfl
theorem q1440 : (Jvm.Cond.classLink "Weaversgate" (61 : Nat) "java/util/NoSuchElementException") ∈ lw_all := lw_g (lw_at lw_m6 181 rfl) rfl
theorem q1449 : (Jvm.Cond.methodLink "Weaversgate" (63 : Nat) ({ cls := "java/util/NoSuchElementException", name := "<init>", desc := "()V" } : Jvm.MethodName)) ∈ lw_all := lw_g (lw_at lw_m6 190 rfl) rfl
theorem q1455 : (Jvm.Cond.classLink "Weaversgate" (160 : Nat) "Weaversgate$Pattern") ∈ lw_all := lw_g (lw_at lw_m6 196 rfl) rfl
theorem q1456 : (Jvm.Cond.methodLink "Weaversgate" (212 : Nat) ({ cls := "Weaversgate$FlowPattern", name := "<init>", desc := "(LWeaversgate$Pattern;)V" } : Jvm.MethodName)) ∈ lw_all := lw_g (lw_at lw_m6 197 rfl) rfl
theorem q1464 : (Jvm.Cond.methodLink "Weaversgate" (215 : Nat) ({ cls := "Weaversgate$Pattern", name := "join", desc := "(LWeaversgate$Pattern;LWeaversgate$Pattern;Z)LWeaversgate$Pattern;" } : Jvm.MethodName)) ∈ lw_all := lw_g (lw_at lw_m6 205 rfl) rfl
theorem q1486 : (Jvm.Cond.methodLink "Weaversgate" (219 : Nat) ({ cls := "Weaversgate$Pattern", name := "not", desc := "(LWeaversgate$Pattern;)LWeaversgate$Pattern;" } : Jvm.MethodName)) ∈ lw_all := lw_g (lw_at lw_m6 227 rfl) rfl
theorem q1499 : (Jvm.Cond.classLink "Weaversgate" (223 : Nat) "Weaversgate$KindPattern") ∈ lw_all := lw_g (lw_at lw_m7 0 rfl) rfl
theorem q1501 : (Jvm.Cond.methodLink "Weaversgate" (225 : Nat) ({ cls := "Weaversgate$KindPattern", name := "<init>", desc := "(C)V" } : Jvm.MethodName)) ∈ lw_all := lw_g (lw_at lw_m7 2 rfl) rfl
theorem q1509 : (Jvm.Cond.classLink "Weaversgate" (236 : Nat) "Weaversgate$NumberedPattern") ∈ lw_all := lw_g (lw_at lw_m7 10 rfl) rfl
theorem q1511 : (Jvm.Cond.methodLink "Weaversgate" (238 : Nat) ({ cls := "Weaversgate$NumberedPattern", name := "<init>", desc := "(LWeaversgate$Pattern;I)V" } : Jvm.MethodName)) ∈ lw_all := lw_g (lw_at lw_m7 12 rfl) rfl
theorem q1526 : (Jvm.Cond.instanceMethod ({ cls := "Weaversgate", name := "addAdvice", desc := "(ICIII)I" } : Jvm.MethodName)) ∈ lw_all := lw_g (lw_at lw_m7 27 rfl) rfl
theorem q1527 : (Jvm.Cond.selects "Weaversgate" ({ cls := "Weaversgate", name := "addAdvice", desc := "(ICIII)I" } : Jvm.MethodName) ({ cls := "Weaversgate", name := "addAdvice", desc := "(ICIII)I" } : Jvm.MethodName)) ∈ lw_all := lw_g (lw_at lw_m7 28 rfl) rfl
theorem q1528 : (Jvm.Cond.code ({ cls := "Weaversgate", name := "addAdvice", desc := "(ICIII)I" } : Jvm.MethodName) prog_1_method_30_code (7 : Nat) (Option.some Jvm.ClassFile.FieldType.int)) ∈ lw_all := lw_g (lw_at lw_m7 29 rfl) rfl
theorem q1529 : (Jvm.Cond.methodLink "Weaversgate" (241 : Nat) ({ cls := "Weaversgate", name := "isAdvice", desc := "(C)Z" } : Jvm.MethodName)) ∈ lw_all := lw_g (lw_at lw_m7 30 rfl) rfl
theorem q1530 : (Jvm.Cond.static ({ cls := "Weaversgate", name := "isAdvice", desc := "(C)Z" } : Jvm.MethodName)) ∈ lw_all := lw_g (lw_at lw_m7 31 rfl) rfl
theorem q1531 : (Jvm.Cond.code ({ cls := "Weaversgate", name := "isAdvice", desc := "(C)Z" } : Jvm.MethodName) prog_1_method_29_code (1 : Nat) (Option.some Jvm.ClassFile.FieldType.boolean)) ∈ lw_all := lw_g (lw_at lw_m7 32 rfl) rfl
theorem q1533 : (Jvm.Cond.methodLink "Weaversgate" (245 : Nat) ({ cls := "Weaversgate$Advice", name := "<init>", desc := "(IICLWeaversgate$Pattern;II)V" } : Jvm.MethodName)) ∈ lw_all := lw_g (lw_at lw_m7 34 rfl) rfl
theorem q1546 : (Jvm.Cond.fieldLinkNest "Weaversgate" (155 : Nat) "Weaversgate$Advice" "pattern" "LWeaversgate$Pattern;" "Weaversgate") ∈ lw_tbl := lw_at lw_m7 47 rfl
theorem q1553 : (Jvm.Cond.fieldLinkNest "Weaversgate" (151 : Nat) "Weaversgate$Advice" "isOn" "Z" "Weaversgate") ∈ lw_tbl := lw_at lw_m7 54 rfl
theorem q1573 : (Jvm.Cond.instanceMethod ({ cls := "Weaversgate", name := "turn", desc := "(IZ)Z" } : Jvm.MethodName)) ∈ lw_all := lw_g (lw_at lw_m7 74 rfl) rfl
theorem q1574 : (Jvm.Cond.selects "Weaversgate" ({ cls := "Weaversgate", name := "turn", desc := "(IZ)Z" } : Jvm.MethodName) ({ cls := "Weaversgate", name := "turn", desc := "(IZ)Z" } : Jvm.MethodName)) ∈ lw_all := lw_g (lw_at lw_m7 75 rfl) rfl
theorem q1575 : (Jvm.Cond.code ({ cls := "Weaversgate", name := "turn", desc := "(IZ)Z" } : Jvm.MethodName) prog_1_method_31_code (5 : Nat) (Option.some Jvm.ClassFile.FieldType.boolean)) ∈ lw_all := lw_g (lw_at lw_m7 76 rfl) rfl
theorem q1576 : (Jvm.Cond.methodLink "Weaversgate" (248 : Nat) ({ cls := "Weaversgate", name := "advice", desc := "(I)LWeaversgate$Advice;" } : Jvm.MethodName)) ∈ lw_all := lw_g (lw_at lw_m7 77 rfl) rfl
theorem q1577 : (Jvm.Cond.privateMethod ({ cls := "Weaversgate", name := "advice", desc := "(I)LWeaversgate$Advice;" } : Jvm.MethodName)) ∈ lw_tbl := lw_at lw_m7 78 rfl
theorem q1578 : (Jvm.Cond.instanceMethod ({ cls := "Weaversgate", name := "advice", desc := "(I)LWeaversgate$Advice;" } : Jvm.MethodName)) ∈ lw_all := lw_g (lw_at lw_m7 79 rfl) rfl
theorem q1579 : (Jvm.Cond.code ({ cls := "Weaversgate", name := "advice", desc := "(I)LWeaversgate$Advice;" } : Jvm.MethodName) prog_1_method_10_code (2 : Nat) (Option.some (Jvm.ClassFile.FieldType.object "Weaversgate$Advice"))) ∈ lw_all := lw_g (lw_at lw_m7 80 rfl) rfl
theorem q1584 : (Jvm.Cond.instanceMethod ({ cls := "Weaversgate", name := "precede", desc := "(IIZ)Z" } : Jvm.MethodName)) ∈ lw_all := lw_g (lw_at lw_m7 85 rfl) rfl
theorem q1585 : (Jvm.Cond.selects "Weaversgate" ({ cls := "Weaversgate", name := "precede", desc := "(IIZ)Z" } : Jvm.MethodName) ({ cls := "Weaversgate", name := "precede", desc := "(IIZ)Z" } : Jvm.MethodName)) ∈ lw_all := lw_g (lw_at lw_m7 86 rfl) rfl
theorem q1586 : (Jvm.Cond.code ({ cls := "Weaversgate", name := "precede", desc := "(IIZ)Z" } : Jvm.MethodName) prog_1_method_32_code (5 : Nat) (Option.some Jvm.ClassFile.FieldType.boolean)) ∈ lw_all := lw_g (lw_at lw_m7 87 rfl) rfl
theorem q1591 : (Jvm.Cond.instanceMethod ({ cls := "Weaversgate", name := "aspectAt", desc := "(I)I" } : Jvm.MethodName)) ∈ lw_all := lw_g (lw_at lw_m7 92 rfl) rfl
theorem q1592 : (Jvm.Cond.selects "Weaversgate" ({ cls := "Weaversgate", name := "aspectAt", desc := "(I)I" } : Jvm.MethodName) ({ cls := "Weaversgate", name := "aspectAt", desc := "(I)I" } : Jvm.MethodName)) ∈ lw_all := lw_g (lw_at lw_m7 93 rfl) rfl
theorem q1593 : (Jvm.Cond.code ({ cls := "Weaversgate", name := "aspectAt", desc := "(I)I" } : Jvm.MethodName) prog_1_method_34_code (2 : Nat) (Option.some Jvm.ClassFile.FieldType.int)) ∈ lw_all := lw_g (lw_at lw_m7 94 rfl) rfl
theorem q1598 : (Jvm.Cond.instanceMethod ({ cls := "Weaversgate", name := "places", desc := "(II)I" } : Jvm.MethodName)) ∈ lw_all := lw_g (lw_at lw_m7 99 rfl) rfl
theorem q1599 : (Jvm.Cond.selects "Weaversgate" ({ cls := "Weaversgate", name := "places", desc := "(II)I" } : Jvm.MethodName) ({ cls := "Weaversgate", name := "places", desc := "(II)I" } : Jvm.MethodName)) ∈ lw_all := lw_g (lw_at lw_m7 100 rfl) rfl
theorem q1600 : (Jvm.Cond.code ({ cls := "Weaversgate", name := "places", desc := "(II)I" } : Jvm.MethodName) prog_1_method_35_code (4 : Nat) (Option.some Jvm.ClassFile.FieldType.int)) ∈ lw_all := lw_g (lw_at lw_m7 101 rfl) rfl
theorem q1605 : (Jvm.Cond.instanceMethod ({ cls := "Weaversgate", name := "match", desc := "(IIII)C" } : Jvm.MethodName)) ∈ lw_all := lw_g (lw_at lw_m7 106 rfl) rfl
theorem q1606 : (Jvm.Cond.selects "Weaversgate" ({ cls := "Weaversgate", name := "match", desc := "(IIII)C" } : Jvm.MethodName) ({ cls := "Weaversgate", name := "match", desc := "(IIII)C" } : Jvm.MethodName)) ∈ lw_all := lw_g (lw_at lw_m7 107 rfl) rfl
theorem q1607 : (Jvm.Cond.code ({ cls := "Weaversgate", name := "match", desc := "(IIII)C" } : Jvm.MethodName) prog_1_method_36_code (7 : Nat) (Option.some Jvm.ClassFile.FieldType.char)) ∈ lw_all := lw_g (lw_at lw_m7 108 rfl) rfl
theorem q1612 : (Jvm.Cond.instanceMethod ({ cls := "Weaversgate", name := "run", desc := "(III)C" } : Jvm.MethodName)) ∈ lw_all := lw_g (lw_at lw_m7 113 rfl) rfl
theorem q1613 : (Jvm.Cond.selects "Weaversgate" ({ cls := "Weaversgate", name := "run", desc := "(III)C" } : Jvm.MethodName) ({ cls := "Weaversgate", name := "run", desc := "(III)C" } : Jvm.MethodName)) ∈ lw_all := lw_g (lw_at lw_m7 114 rfl) rfl
theorem q1614 : (Jvm.Cond.code ({ cls := "Weaversgate", name := "run", desc := "(III)C" } : Jvm.MethodName) prog_1_method_40_code (4 : Nat) (Option.some Jvm.ClassFile.FieldType.char)) ∈ lw_all := lw_g (lw_at lw_m7 115 rfl) rfl
theorem q1615 : (Jvm.Cond.methodLink "Weaversgate" (267 : Nat) ({ cls := "Weaversgate", name := "runBy", desc := "(IIIZ)C" } : Jvm.MethodName)) ∈ lw_all := lw_g (lw_at lw_m7 116 rfl) rfl
theorem q1616 : (Jvm.Cond.privateMethod ({ cls := "Weaversgate", name := "runBy", desc := "(IIIZ)C" } : Jvm.MethodName)) ∈ lw_tbl := lw_at lw_m7 117 rfl
theorem q1617 : (Jvm.Cond.instanceMethod ({ cls := "Weaversgate", name := "runBy", desc := "(IIIZ)C" } : Jvm.MethodName)) ∈ lw_all := lw_g (lw_at lw_m7 118 rfl) rfl
theorem q1618 : (Jvm.Cond.code ({ cls := "Weaversgate", name := "runBy", desc := "(IIIZ)C" } : Jvm.MethodName) prog_1_method_39_code (6 : Nat) (Option.some Jvm.ClassFile.FieldType.char)) ∈ lw_all := lw_g (lw_at lw_m7 119 rfl) rfl
theorem q1623 : (Jvm.Cond.instanceMethod ({ cls := "Weaversgate", name := "runAsking", desc := "(III)C" } : Jvm.MethodName)) ∈ lw_all := lw_g (lw_at lw_m7 124 rfl) rfl
theorem q1624 : (Jvm.Cond.selects "Weaversgate" ({ cls := "Weaversgate", name := "runAsking", desc := "(III)C" } : Jvm.MethodName) ({ cls := "Weaversgate", name := "runAsking", desc := "(III)C" } : Jvm.MethodName)) ∈ lw_all := lw_g (lw_at lw_m7 125 rfl) rfl
theorem q1625 : (Jvm.Cond.code ({ cls := "Weaversgate", name := "runAsking", desc := "(III)C" } : Jvm.MethodName) prog_1_method_41_code (4 : Nat) (Option.some Jvm.ClassFile.FieldType.char)) ∈ lw_all := lw_g (lw_at lw_m7 126 rfl) rfl
theorem q1630 : (Jvm.Cond.instanceMethod ({ cls := "Weaversgate", name := "result", desc := "()I" } : Jvm.MethodName)) ∈ lw_all := lw_g (lw_at lw_m7 131 rfl) rfl
theorem q1631 : (Jvm.Cond.selects "Weaversgate" ({ cls := "Weaversgate", name := "result", desc := "()I" } : Jvm.MethodName) ({ cls := "Weaversgate", name := "result", desc := "()I" } : Jvm.MethodName)) ∈ lw_all := lw_g (lw_at lw_m7 132 rfl) rfl
theorem q1632 : (Jvm.Cond.code ({ cls := "Weaversgate", name := "result", desc := "()I" } : Jvm.MethodName) prog_1_method_42_code (1 : Nat) (Option.some Jvm.ClassFile.FieldType.int)) ∈ lw_all := lw_g (lw_at lw_m7 133 rfl) rfl
theorem q1637 : (Jvm.Cond.instanceMethod ({ cls := "Weaversgate", name := "traceKind", desc := "(I)C" } : Jvm.MethodName)) ∈ lw_all := lw_g (lw_at lw_m7 138 rfl) rfl
theorem q1638 : (Jvm.Cond.selects "Weaversgate" ({ cls := "Weaversgate", name := "traceKind", desc := "(I)C" } : Jvm.MethodName) ({ cls := "Weaversgate", name := "traceKind", desc := "(I)C" } : Jvm.MethodName)) ∈ lw_all := lw_g (lw_at lw_m7 139 rfl) rfl
theorem q1639 : (Jvm.Cond.code ({ cls := "Weaversgate", name := "traceKind", desc := "(I)C" } : Jvm.MethodName) prog_1_method_47_code (2 : Nat) (Option.some Jvm.ClassFile.FieldType.char)) ∈ lw_all := lw_g (lw_at lw_m7 140 rfl) rfl
theorem q1640 : (Jvm.Cond.methodLink "Weaversgate" (287 : Nat) ({ cls := "Weaversgate", name := "checkIndex", desc := "(I)V" } : Jvm.MethodName)) ∈ lw_all := lw_g (lw_at lw_m7 141 rfl) rfl
theorem q1641 : (Jvm.Cond.privateMethod ({ cls := "Weaversgate", name := "checkIndex", desc := "(I)V" } : Jvm.MethodName)) ∈ lw_tbl := lw_at lw_m7 142 rfl
theorem q1642 : (Jvm.Cond.instanceMethod ({ cls := "Weaversgate", name := "checkIndex", desc := "(I)V" } : Jvm.MethodName)) ∈ lw_all := lw_g (lw_at lw_m7 143 rfl) rfl
theorem q1643 : (Jvm.Cond.code ({ cls := "Weaversgate", name := "checkIndex", desc := "(I)V" } : Jvm.MethodName) prog_1_method_46_code (2 : Nat) (Option.none : Option Jvm.ClassFile.FieldType)) ∈ lw_all := lw_g (lw_at lw_m7 144 rfl) rfl
theorem q1644 : (Jvm.Cond.methodLink "Weaversgate" (290 : Nat) ({ cls := "Weaversgate$Trace", name := "charAt", desc := "(I)C" } : Jvm.MethodName)) ∈ lw_all := lw_g (lw_at lw_m7 145 rfl) rfl
theorem q1652 : (Jvm.Cond.instanceMethod ({ cls := "Weaversgate", name := "traceValue", desc := "(I)I" } : Jvm.MethodName)) ∈ lw_all := lw_g (lw_at lw_m7 153 rfl) rfl
theorem q1653 : (Jvm.Cond.selects "Weaversgate" ({ cls := "Weaversgate", name := "traceValue", desc := "(I)I" } : Jvm.MethodName) ({ cls := "Weaversgate", name := "traceValue", desc := "(I)I" } : Jvm.MethodName)) ∈ lw_all := lw_g (lw_at lw_m7 154 rfl) rfl
theorem q1654 : (Jvm.Cond.code ({ cls := "Weaversgate", name := "traceValue", desc := "(I)I" } : Jvm.MethodName) prog_1_method_48_code (2 : Nat) (Option.some Jvm.ClassFile.FieldType.int)) ∈ lw_all := lw_g (lw_at lw_m7 155 rfl) rfl
theorem q1659 : (Jvm.Cond.instanceMethod ({ cls := "Weaversgate", name := "traceAdvice", desc := "(I)I" } : Jvm.MethodName)) ∈ lw_all := lw_g (lw_at lw_m7 160 rfl) rfl
theorem q1660 : (Jvm.Cond.selects "Weaversgate" ({ cls := "Weaversgate", name := "traceAdvice", desc := "(I)I" } : Jvm.MethodName) ({ cls := "Weaversgate", name := "traceAdvice", desc := "(I)I" } : Jvm.MethodName)) ∈ lw_all := lw_g (lw_at lw_m7 161 rfl) rfl
theorem q1661 : (Jvm.Cond.code ({ cls := "Weaversgate", name := "traceAdvice", desc := "(I)I" } : Jvm.MethodName) prog_1_method_49_code (2 : Nat) (Option.some Jvm.ClassFile.FieldType.int)) ∈ lw_all := lw_g (lw_at lw_m7 162 rfl) rfl
theorem q1666 : (Jvm.Cond.instanceMethod ({ cls := "Weaversgate", name := "acted", desc := "(C)I" } : Jvm.MethodName)) ∈ lw_all := lw_g (lw_at lw_m7 167 rfl) rfl
theorem q1667 : (Jvm.Cond.selects "Weaversgate" ({ cls := "Weaversgate", name := "acted", desc := "(C)I" } : Jvm.MethodName) ({ cls := "Weaversgate", name := "acted", desc := "(C)I" } : Jvm.MethodName)) ∈ lw_all := lw_g (lw_at lw_m7 168 rfl) rfl
theorem q1668 : (Jvm.Cond.code ({ cls := "Weaversgate", name := "acted", desc := "(C)I" } : Jvm.MethodName) prog_1_method_51_code (2 : Nat) (Option.some Jvm.ClassFile.FieldType.int)) ∈ lw_all := lw_g (lw_at lw_m7 169 rfl) rfl
theorem q1669 : (Jvm.Cond.methodLink "Weaversgate" (299 : Nat) ({ cls := "Weaversgate", name := "count", desc := "(Ljava/lang/CharSequence;C)I" } : Jvm.MethodName)) ∈ lw_all := lw_g (lw_at lw_m7 170 rfl) rfl
theorem q1670 : (Jvm.Cond.static ({ cls := "Weaversgate", name := "count", desc := "(Ljava/lang/CharSequence;C)I" } : Jvm.MethodName)) ∈ lw_all := lw_g (lw_at lw_m7 171 rfl) rfl
theorem q1671 : (Jvm.Cond.code ({ cls := "Weaversgate", name := "count", desc := "(Ljava/lang/CharSequence;C)I" } : Jvm.MethodName) prog_1_method_2_code (4 : Nat) (Option.some Jvm.ClassFile.FieldType.int)) ∈ lw_all := lw_g (lw_at lw_m7 172 rfl) rfl
theorem q1672 : (Jvm.Cond.interfaceEntry "Weaversgate" (1 : Nat)) ∈ lw_tbl := lw_at lw_m7 173 rfl
theorem q1673 : (Jvm.Cond.methodLink "Weaversgate" (1 : Nat) ({ cls := "java/lang/CharSequence", name := "length", desc := "()I" } : Jvm.MethodName)) ∈ lw_all := lw_g (lw_at lw_m7 174 rfl) rfl
theorem q1688 : (Jvm.Cond.interfaceEntry "Weaversgate" (7 : Nat)) ∈ lw_tbl := lw_at lw_m7 189 rfl
theorem q1689 : (Jvm.Cond.methodLink "Weaversgate" (7 : Nat) ({ cls := "java/lang/CharSequence", name := "charAt", desc := "(I)C" } : Jvm.MethodName)) ∈ lw_all := lw_g (lw_at lw_m7 190 rfl) rfl
theorem q1743 : (Jvm.Cond.instanceMethod ({ cls := "Weaversgate", name := "sureShare", desc := "()F" } : Jvm.MethodName)) ∈ lw_all := lw_g (lw_at lw_m8 4 rfl) rfl
theorem q1744 : (Jvm.Cond.selects "Weaversgate" ({ cls := "Weaversgate", name := "sureShare", desc := "()F" } : Jvm.MethodName) ({ cls := "Weaversgate", name := "sureShare", desc := "()F" } : Jvm.MethodName)) ∈ lw_all := lw_g (lw_at lw_m8 5 rfl) rfl
theorem q1745 : (Jvm.Cond.code ({ cls := "Weaversgate", name := "sureShare", desc := "()F" } : Jvm.MethodName) prog_1_method_52_code (3 : Nat) (Option.some Jvm.ClassFile.FieldType.float)) ∈ lw_all := lw_g (lw_at lw_m8 6 rfl) rfl
theorem q1746 : (Jvm.Cond.classLink "Weaversgate" (303 : Nat) "java/lang/ArithmeticException") ∈ lw_all := lw_g (lw_at lw_m8 7 rfl) rfl
theorem q1747 : (Jvm.Cond.methodLink "Weaversgate" (305 : Nat) ({ cls := "java/lang/ArithmeticException", name := "<init>", desc := "()V" } : Jvm.MethodName)) ∈ lw_all := lw_g (lw_at lw_m8 8 rfl) rfl
theorem q1755 : (Jvm.Cond.instanceMethod ({ cls := "Weaversgate", name := "meanSteps", desc := "()D" } : Jvm.MethodName)) ∈ lw_all := lw_g (lw_at lw_m8 16 rfl) rfl
theorem q1756 : (Jvm.Cond.selects "Weaversgate" ({ cls := "Weaversgate", name := "meanSteps", desc := "()D" } : Jvm.MethodName) ({ cls := "Weaversgate", name := "meanSteps", desc := "()D" } : Jvm.MethodName)) ∈ lw_all := lw_g (lw_at lw_m8 17 rfl) rfl
theorem q1757 : (Jvm.Cond.code ({ cls := "Weaversgate", name := "meanSteps", desc := "()D" } : Jvm.MethodName) prog_1_method_53_code (5 : Nat) (Option.some Jvm.ClassFile.FieldType.double)) ∈ lw_all := lw_g (lw_at lw_m8 18 rfl) rfl
theorem q2033 : (Jvm.Cond.selects "Weaversgate" ({ cls := "java/lang/Object", name := "equals", desc := "(Ljava/lang/Object;)Z" } : Jvm.MethodName) ({ cls := "java/lang/Object", name := "equals", desc := "(Ljava/lang/Object;)Z" } : Jvm.MethodName)) ∈ lw_all := lw_g (lw_at lw_m9 54 rfl) rfl
theorem q2602 : (Jvm.Cond.castable "Weaversgate" "java/lang/Object") ∈ lw_tbl := lw_at lw_m11 143 rfl
theorem in_X1 : ∀ w ∈ wsX10, w ∈ lw_all := lw_in wsX10 [234, 236, 238, 240, 242, 244, 246] (by decide +kernel) (by decide +kernel)

/-! Weaversgate$Run -/
set_option maxRecDepth 100000
def RX2 : String := "Weaversgate$Run"
def TX2 : u_T := fun k => match k with
  | 0 => ("Weaversgate$Run", "trace", "LWeaversgate$Trace;", true)
  | 1 => ("Weaversgate$Run", "ordered", "[LWeaversgate$Advice;", true)
  | 2 => ("Weaversgate$Run", "how", "C", false)
  | 3 => ("Weaversgate$Run", "result", "I", false)
  | 4 => ("Weaversgate$Run", "points", "I", false)
  | 5 => ("Weaversgate$Run", "asked", "I", false)
  | 6 => ("Weaversgate$Run", "isWoven", "Z", false)
  | 7 => ("Weaversgate$Run", "present", "LWeaversgate$Point;", false)
  | _ => ("Weaversgate$Run", "this$0", "LWeaversgate;", true)
def tyX2 : Nat → FieldType := fun k => match k with
  | 0 => .object "Weaversgate$Trace"
  | 1 => .array (.object "Weaversgate$Advice")
  | 2 => .char
  | 3 => .int
  | 4 => .int
  | 5 => .int
  | 6 => .boolean
  | 7 => .object "Weaversgate$Point"
  | _ => .object "Weaversgate"
abbrev wsX20 : List Cond := u_ws RX2 TX2 9
theorem nmX2 : ∀ a, a < 9 → ∀ b, b < 9 → a ≠ b → (TX2 a).2.1 ≠ (TX2 b).2.1 := by decide +kernel
theorem tyX2_ok : ∀ k, k < 9 → parseFieldDescriptor (TX2 k).2.2.1 = some (tyX2 k) := by decide +kernel
abbrev cX2_init : ByteArray := prog_14_method_1_code
def yX2_init : MethodName := ⟨RX2, "<init>", "(LWeaversgate;)V"⟩
def dkwX2_init_1 : List UInt8 := [189, 0, 22, 181, 0, 24, 42, 16, 45, 181, 0, 28, 177]
abbrev dktX2_init_1 : List UInt8 := dkwX2_init_1 ++ []
def dkwX2_init_0 : List UInt8 := [42, 43, 181, 0, 3, 42, 183, 0, 9, 42, 187, 0, 15, 89, 183, 0, 17, 181, 0, 18, 42, 16, 12]
abbrev dktX2_init_0 : List UInt8 := dkwX2_init_0 ++ dktX2_init_1
theorem dksX2_init_0 : cX2_init.data.toList.drop 0 = dktX2_init_0 := by decide +kernel
theorem dksX2_init_1 : cX2_init.data.toList.drop 23 = dktX2_init_1 := dk_seg dksX2_init_0 23 rfl rfl
theorem dX2_init_0 : decode cX2_init 0 = .ok (.aload_n 0, 1) := dk_42 (dk_at dksX2_init_0 0 rfl rfl)
theorem dX2_init_1 : decode cX2_init 1 = .ok (.aload_n 1, 1) := dk_43 (dk_at dksX2_init_0 1 rfl rfl)
theorem dX2_init_2 : decode cX2_init 2 = .ok (.putfield 3, 3) := dk_181 0 3 (dk_at dksX2_init_0 2 rfl rfl)
theorem dX2_init_5 : decode cX2_init 5 = .ok (.aload_n 0, 1) := dk_42 (dk_at dksX2_init_0 5 rfl rfl)
theorem dX2_init_6 : decode cX2_init 6 = .ok (.invokespecial 9, 3) := dk_183 0 9 (dk_at dksX2_init_0 6 rfl rfl)
theorem dX2_init_9 : decode cX2_init 9 = .ok (.aload_n 0, 1) := dk_42 (dk_at dksX2_init_0 9 rfl rfl)
theorem dX2_init_10 : decode cX2_init 10 = .ok (.new 15, 3) := dk_187 0 15 (dk_at dksX2_init_0 10 rfl rfl)
theorem dX2_init_13 : decode cX2_init 13 = .ok (.dup, 1) := dk_89 (dk_at dksX2_init_0 13 rfl rfl)
theorem dX2_init_14 : decode cX2_init 14 = .ok (.invokespecial 17, 3) := dk_183 0 17 (dk_at dksX2_init_0 14 rfl rfl)
theorem dX2_init_17 : decode cX2_init 17 = .ok (.putfield 18, 3) := dk_181 0 18 (dk_at dksX2_init_0 17 rfl rfl)
theorem dX2_init_20 : decode cX2_init 20 = .ok (.aload_n 0, 1) := dk_42 (dk_at dksX2_init_0 20 rfl rfl)
theorem dX2_init_21 : decode cX2_init 21 = .ok (.bipush 12, 2) := dk_16 12 (dk_at dksX2_init_0 21 rfl rfl)
theorem dX2_init_23 : decode cX2_init 23 = .ok (.anewarray 22, 3) := dk_189 0 22 (dk_at dksX2_init_1 0 rfl rfl)
theorem dX2_init_26 : decode cX2_init 26 = .ok (.putfield 24, 3) := dk_181 0 24 (dk_at dksX2_init_1 3 rfl rfl)
theorem dX2_init_29 : decode cX2_init 29 = .ok (.aload_n 0, 1) := dk_42 (dk_at dksX2_init_1 6 rfl rfl)
theorem dX2_init_30 : decode cX2_init 30 = .ok (.bipush 45, 2) := dk_16 45 (dk_at dksX2_init_1 7 rfl rfl)
theorem dX2_init_32 : decode cX2_init 32 = .ok (.putfield 28, 3) := dk_181 0 28 (dk_at dksX2_init_1 9 rfl rfl)
theorem dX2_init_35 : decode cX2_init 35 = .ok (.return_, 1) := dk_177 (dk_at dksX2_init_1 12 rfl rfl)
abbrev cX2_begin : ByteArray := prog_14_method_2_code
def yX2_begin : MethodName := ⟨RX2, "begin", "(LWeaversgate$Type;IIZ)V"⟩
def dkwX2_begin_3 : List UInt8 := [180, 0, 67, 181, 0, 50, 42, 16, 120, 181, 0, 28, 167, 0, 11, 58, 5, 42, 16, 108, 181, 0, 28, 177]
abbrev dktX2_begin_3 : List UInt8 := dkwX2_begin_3 ++ []
def dkwX2_begin_2 : List UInt8 := [28, 29, 2, 1, 182, 0, 61, 181, 0, 50, 42, 16, 114, 181, 0, 28, 167, 0, 31, 58, 5, 42, 25, 5]
abbrev dktX2_begin_2 : List UInt8 := dkwX2_begin_2 ++ dktX2_begin_3
def dkwX2_begin_1 : List UInt8 := [42, 1, 181, 0, 46, 42, 3, 181, 0, 50, 42, 182, 0, 53, 42, 42, 187, 0, 56, 89, 43, 183, 0, 58]
abbrev dktX2_begin_1 : List UInt8 := dkwX2_begin_1 ++ dktX2_begin_2
def dkwX2_begin_0 : List UInt8 := [42, 180, 0, 18, 3, 181, 0, 32, 42, 3, 181, 0, 36, 42, 3, 181, 0, 39, 42, 21, 4, 181, 0, 42]
abbrev dktX2_begin_0 : List UInt8 := dkwX2_begin_0 ++ dktX2_begin_1
theorem dksX2_begin_0 : cX2_begin.data.toList.drop 0 = dktX2_begin_0 := by decide +kernel
theorem dksX2_begin_1 : cX2_begin.data.toList.drop 24 = dktX2_begin_1 := dk_seg dksX2_begin_0 24 rfl rfl
theorem dksX2_begin_2 : cX2_begin.data.toList.drop 48 = dktX2_begin_2 := dk_seg dksX2_begin_1 24 rfl rfl
theorem dksX2_begin_3 : cX2_begin.data.toList.drop 72 = dktX2_begin_3 := dk_seg dksX2_begin_2 24 rfl rfl
theorem dX2_begin_0 : decode cX2_begin 0 = .ok (.aload_n 0, 1) := dk_42 (dk_at dksX2_begin_0 0 rfl rfl)
theorem dX2_begin_1 : decode cX2_begin 1 = .ok (.getfield 18, 3) := dk_180 0 18 (dk_at dksX2_begin_0 1 rfl rfl)
theorem dX2_begin_4 : decode cX2_begin 4 = .ok (.iconst 0, 1) := dk_3 (dk_at dksX2_begin_0 4 rfl rfl)
theorem dX2_begin_5 : decode cX2_begin 5 = .ok (.putfield 32, 3) := dk_181 0 32 (dk_at dksX2_begin_0 5 rfl rfl)
theorem dX2_begin_8 : decode cX2_begin 8 = .ok (.aload_n 0, 1) := dk_42 (dk_at dksX2_begin_0 8 rfl rfl)
theorem dX2_begin_9 : decode cX2_begin 9 = .ok (.iconst 0, 1) := dk_3 (dk_at dksX2_begin_0 9 rfl rfl)
theorem dX2_begin_10 : decode cX2_begin 10 = .ok (.putfield 36, 3) := dk_181 0 36 (dk_at dksX2_begin_0 10 rfl rfl)
theorem dX2_begin_13 : decode cX2_begin 13 = .ok (.aload_n 0, 1) := dk_42 (dk_at dksX2_begin_0 13 rfl rfl)
theorem dX2_begin_14 : decode cX2_begin 14 = .ok (.iconst 0, 1) := dk_3 (dk_at dksX2_begin_0 14 rfl rfl)
theorem dX2_begin_15 : decode cX2_begin 15 = .ok (.putfield 39, 3) := dk_181 0 39 (dk_at dksX2_begin_0 15 rfl rfl)
theorem dX2_begin_18 : decode cX2_begin 18 = .ok (.aload_n 0, 1) := dk_42 (dk_at dksX2_begin_0 18 rfl rfl)
theorem dX2_begin_19 : decode cX2_begin 19 = .ok (.iload 4, 2) := dk_21 4 (dk_at dksX2_begin_0 19 rfl rfl)
theorem dX2_begin_21 : decode cX2_begin 21 = .ok (.putfield 42, 3) := dk_181 0 42 (dk_at dksX2_begin_0 21 rfl rfl)
theorem dX2_begin_24 : decode cX2_begin 24 = .ok (.aload_n 0, 1) := dk_42 (dk_at dksX2_begin_1 0 rfl rfl)
theorem dX2_begin_25 : decode cX2_begin 25 = .ok (.aconst_null, 1) := dk_1 (dk_at dksX2_begin_1 1 rfl rfl)
theorem dX2_begin_26 : decode cX2_begin 26 = .ok (.putfield 46, 3) := dk_181 0 46 (dk_at dksX2_begin_1 2 rfl rfl)
theorem dX2_begin_29 : decode cX2_begin 29 = .ok (.aload_n 0, 1) := dk_42 (dk_at dksX2_begin_1 5 rfl rfl)
theorem dX2_begin_30 : decode cX2_begin 30 = .ok (.iconst 0, 1) := dk_3 (dk_at dksX2_begin_1 6 rfl rfl)
theorem dX2_begin_31 : decode cX2_begin 31 = .ok (.putfield 50, 3) := dk_181 0 50 (dk_at dksX2_begin_1 7 rfl rfl)
theorem dX2_begin_34 : decode cX2_begin 34 = .ok (.aload_n 0, 1) := dk_42 (dk_at dksX2_begin_1 10 rfl rfl)
theorem dX2_begin_35 : decode cX2_begin 35 = .ok (.invokevirtual 53, 3) := dk_182 0 53 (dk_at dksX2_begin_1 11 rfl rfl)
theorem dX2_begin_38 : decode cX2_begin 38 = .ok (.aload_n 0, 1) := dk_42 (dk_at dksX2_begin_1 14 rfl rfl)
theorem dX2_begin_39 : decode cX2_begin 39 = .ok (.aload_n 0, 1) := dk_42 (dk_at dksX2_begin_1 15 rfl rfl)
theorem dX2_begin_40 : decode cX2_begin 40 = .ok (.new 56, 3) := dk_187 0 56 (dk_at dksX2_begin_1 16 rfl rfl)
theorem dX2_begin_43 : decode cX2_begin 43 = .ok (.dup, 1) := dk_89 (dk_at dksX2_begin_1 19 rfl rfl)
theorem dX2_begin_44 : decode cX2_begin 44 = .ok (.aload_n 1, 1) := dk_43 (dk_at dksX2_begin_1 20 rfl rfl)
theorem dX2_begin_45 : decode cX2_begin 45 = .ok (.invokespecial 58, 3) := dk_183 0 58 (dk_at dksX2_begin_1 21 rfl rfl)
theorem dX2_begin_48 : decode cX2_begin 48 = .ok (.iload_n 2, 1) := dk_28 (dk_at dksX2_begin_2 0 rfl rfl)
theorem dX2_begin_49 : decode cX2_begin 49 = .ok (.iload_n 3, 1) := dk_29 (dk_at dksX2_begin_2 1 rfl rfl)
theorem dX2_begin_50 : decode cX2_begin 50 = .ok (.iconst (-1), 1) := dk_2 (dk_at dksX2_begin_2 2 rfl rfl)
theorem dX2_begin_51 : decode cX2_begin 51 = .ok (.aconst_null, 1) := dk_1 (dk_at dksX2_begin_2 3 rfl rfl)
theorem dX2_begin_52 : decode cX2_begin 52 = .ok (.invokevirtual 61, 3) := dk_182 0 61 (dk_at dksX2_begin_2 4 rfl rfl)
theorem dX2_begin_55 : decode cX2_begin 55 = .ok (.putfield 50, 3) := dk_181 0 50 (dk_at dksX2_begin_2 7 rfl rfl)
theorem dX2_begin_58 : decode cX2_begin 58 = .ok (.aload_n 0, 1) := dk_42 (dk_at dksX2_begin_2 10 rfl rfl)
theorem dX2_begin_59 : decode cX2_begin 59 = .ok (.bipush 114, 2) := dk_16 114 (dk_at dksX2_begin_2 11 rfl rfl)
theorem dX2_begin_61 : decode cX2_begin 61 = .ok (.putfield 28, 3) := dk_181 0 28 (dk_at dksX2_begin_2 13 rfl rfl)
theorem dX2_begin_64 : decode cX2_begin 64 = .ok (.goto 31, 3) := dk_167 0 31 (dk_at dksX2_begin_2 16 rfl rfl)
theorem dX2_begin_67 : decode cX2_begin 67 = .ok (.astore 5, 2) := dk_58 5 (dk_at dksX2_begin_2 19 rfl rfl)
theorem dX2_begin_69 : decode cX2_begin 69 = .ok (.aload_n 0, 1) := dk_42 (dk_at dksX2_begin_2 21 rfl rfl)
theorem dX2_begin_70 : decode cX2_begin 70 = .ok (.aload 5, 2) := dk_25 5 (dk_at dksX2_begin_2 22 rfl rfl)
theorem dX2_begin_72 : decode cX2_begin 72 = .ok (.getfield 67, 3) := dk_180 0 67 (dk_at dksX2_begin_3 0 rfl rfl)
theorem dX2_begin_75 : decode cX2_begin 75 = .ok (.putfield 50, 3) := dk_181 0 50 (dk_at dksX2_begin_3 3 rfl rfl)
theorem dX2_begin_78 : decode cX2_begin 78 = .ok (.aload_n 0, 1) := dk_42 (dk_at dksX2_begin_3 6 rfl rfl)
theorem dX2_begin_79 : decode cX2_begin 79 = .ok (.bipush 120, 2) := dk_16 120 (dk_at dksX2_begin_3 7 rfl rfl)
theorem dX2_begin_81 : decode cX2_begin 81 = .ok (.putfield 28, 3) := dk_181 0 28 (dk_at dksX2_begin_3 9 rfl rfl)
theorem dX2_begin_84 : decode cX2_begin 84 = .ok (.goto 11, 3) := dk_167 0 11 (dk_at dksX2_begin_3 12 rfl rfl)
theorem dX2_begin_87 : decode cX2_begin 87 = .ok (.astore 5, 2) := dk_58 5 (dk_at dksX2_begin_3 15 rfl rfl)
theorem dX2_begin_89 : decode cX2_begin 89 = .ok (.aload_n 0, 1) := dk_42 (dk_at dksX2_begin_3 17 rfl rfl)
theorem dX2_begin_90 : decode cX2_begin 90 = .ok (.bipush 108, 2) := dk_16 108 (dk_at dksX2_begin_3 18 rfl rfl)
theorem dX2_begin_92 : decode cX2_begin 92 = .ok (.putfield 28, 3) := dk_181 0 28 (dk_at dksX2_begin_3 20 rfl rfl)
theorem dX2_begin_95 : decode cX2_begin 95 = .ok (.return_, 1) := dk_177 (dk_at dksX2_begin_3 23 rfl rfl)
abbrev cX2_order : ByteArray := prog_14_method_3_code
def yX2_order : MethodName := ⟨RX2, "order", "()V"⟩
def dkwX2_order_3 : List UInt8 := [182, 0, 86, 192, 0, 22, 83, 132, 1, 1, 132, 4, 1, 167, 255, 192, 132, 2, 1, 167, 255, 169, 177]
abbrev dktX2_order_3 : List UInt8 := dkwX2_order_3 ++ []
def dkwX2_order_2 : List UInt8 := [192, 0, 22, 180, 0, 90, 29, 160, 0, 27, 42, 180, 0, 24, 27, 42, 180, 0, 3, 180, 0, 76, 21, 4]
abbrev dktX2_order_2 : List UInt8 := dkwX2_order_2 ++ dktX2_order_3
def dkwX2_order_1 : List UInt8 := [180, 0, 3, 180, 0, 76, 182, 0, 80, 162, 0, 55, 42, 180, 0, 3, 180, 0, 76, 21, 4, 182, 0, 86]
abbrev dktX2_order_1 : List UInt8 := dkwX2_order_1 ++ dktX2_order_2
def dkwX2_order_0 : List UInt8 := [3, 60, 3, 61, 28, 7, 162, 0, 88, 42, 180, 0, 3, 28, 182, 0, 72, 62, 3, 54, 4, 21, 4, 42]
abbrev dktX2_order_0 : List UInt8 := dkwX2_order_0 ++ dktX2_order_1
theorem dksX2_order_0 : cX2_order.data.toList.drop 0 = dktX2_order_0 := by decide +kernel
theorem dksX2_order_1 : cX2_order.data.toList.drop 24 = dktX2_order_1 := dk_seg dksX2_order_0 24 rfl rfl
theorem dksX2_order_2 : cX2_order.data.toList.drop 48 = dktX2_order_2 := dk_seg dksX2_order_1 24 rfl rfl
theorem dksX2_order_3 : cX2_order.data.toList.drop 72 = dktX2_order_3 := dk_seg dksX2_order_2 24 rfl rfl
theorem dX2_order_0 : decode cX2_order 0 = .ok (.iconst 0, 1) := dk_3 (dk_at dksX2_order_0 0 rfl rfl)
theorem dX2_order_1 : decode cX2_order 1 = .ok (.istore_n 1, 1) := dk_60 (dk_at dksX2_order_0 1 rfl rfl)
theorem dX2_order_2 : decode cX2_order 2 = .ok (.iconst 0, 1) := dk_3 (dk_at dksX2_order_0 2 rfl rfl)
theorem dX2_order_3 : decode cX2_order 3 = .ok (.istore_n 2, 1) := dk_61 (dk_at dksX2_order_0 3 rfl rfl)
theorem dX2_order_4 : decode cX2_order 4 = .ok (.iload_n 2, 1) := dk_28 (dk_at dksX2_order_0 4 rfl rfl)
theorem dX2_order_5 : decode cX2_order 5 = .ok (.iconst 4, 1) := dk_7 (dk_at dksX2_order_0 5 rfl rfl)
theorem dX2_order_6 : decode cX2_order 6 = .ok (.if_icmp .ge 88, 3) := dk_162 0 88 (dk_at dksX2_order_0 6 rfl rfl)
theorem dX2_order_9 : decode cX2_order 9 = .ok (.aload_n 0, 1) := dk_42 (dk_at dksX2_order_0 9 rfl rfl)
theorem dX2_order_10 : decode cX2_order 10 = .ok (.getfield 3, 3) := dk_180 0 3 (dk_at dksX2_order_0 10 rfl rfl)
theorem dX2_order_13 : decode cX2_order 13 = .ok (.iload_n 2, 1) := dk_28 (dk_at dksX2_order_0 13 rfl rfl)
theorem dX2_order_14 : decode cX2_order 14 = .ok (.invokevirtual 72, 3) := dk_182 0 72 (dk_at dksX2_order_0 14 rfl rfl)
theorem dX2_order_17 : decode cX2_order 17 = .ok (.istore_n 3, 1) := dk_62 (dk_at dksX2_order_0 17 rfl rfl)
theorem dX2_order_18 : decode cX2_order 18 = .ok (.iconst 0, 1) := dk_3 (dk_at dksX2_order_0 18 rfl rfl)
theorem dX2_order_19 : decode cX2_order 19 = .ok (.istore 4, 2) := dk_54 4 (dk_at dksX2_order_0 19 rfl rfl)
theorem dX2_order_21 : decode cX2_order 21 = .ok (.iload 4, 2) := dk_21 4 (dk_at dksX2_order_0 21 rfl rfl)
theorem dX2_order_23 : decode cX2_order 23 = .ok (.aload_n 0, 1) := dk_42 (dk_at dksX2_order_0 23 rfl rfl)
theorem dX2_order_24 : decode cX2_order 24 = .ok (.getfield 3, 3) := dk_180 0 3 (dk_at dksX2_order_1 0 rfl rfl)
theorem dX2_order_27 : decode cX2_order 27 = .ok (.getfield 76, 3) := dk_180 0 76 (dk_at dksX2_order_1 3 rfl rfl)
theorem dX2_order_30 : decode cX2_order 30 = .ok (.invokevirtual 80, 3) := dk_182 0 80 (dk_at dksX2_order_1 6 rfl rfl)
theorem dX2_order_33 : decode cX2_order 33 = .ok (.if_icmp .ge 55, 3) := dk_162 0 55 (dk_at dksX2_order_1 9 rfl rfl)
theorem dX2_order_36 : decode cX2_order 36 = .ok (.aload_n 0, 1) := dk_42 (dk_at dksX2_order_1 12 rfl rfl)
theorem dX2_order_37 : decode cX2_order 37 = .ok (.getfield 3, 3) := dk_180 0 3 (dk_at dksX2_order_1 13 rfl rfl)
theorem dX2_order_40 : decode cX2_order 40 = .ok (.getfield 76, 3) := dk_180 0 76 (dk_at dksX2_order_1 16 rfl rfl)
theorem dX2_order_43 : decode cX2_order 43 = .ok (.iload 4, 2) := dk_21 4 (dk_at dksX2_order_1 19 rfl rfl)
theorem dX2_order_45 : decode cX2_order 45 = .ok (.invokevirtual 86, 3) := dk_182 0 86 (dk_at dksX2_order_1 21 rfl rfl)
theorem dX2_order_48 : decode cX2_order 48 = .ok (.checkcast 22, 3) := dk_192 0 22 (dk_at dksX2_order_2 0 rfl rfl)
theorem dX2_order_51 : decode cX2_order 51 = .ok (.getfield 90, 3) := dk_180 0 90 (dk_at dksX2_order_2 3 rfl rfl)
theorem dX2_order_54 : decode cX2_order 54 = .ok (.iload_n 3, 1) := dk_29 (dk_at dksX2_order_2 6 rfl rfl)
theorem dX2_order_55 : decode cX2_order 55 = .ok (.if_icmp .ne 27, 3) := dk_160 0 27 (dk_at dksX2_order_2 7 rfl rfl)
theorem dX2_order_58 : decode cX2_order 58 = .ok (.aload_n 0, 1) := dk_42 (dk_at dksX2_order_2 10 rfl rfl)
theorem dX2_order_59 : decode cX2_order 59 = .ok (.getfield 24, 3) := dk_180 0 24 (dk_at dksX2_order_2 11 rfl rfl)
theorem dX2_order_62 : decode cX2_order 62 = .ok (.iload_n 1, 1) := dk_27 (dk_at dksX2_order_2 14 rfl rfl)
theorem dX2_order_63 : decode cX2_order 63 = .ok (.aload_n 0, 1) := dk_42 (dk_at dksX2_order_2 15 rfl rfl)
theorem dX2_order_64 : decode cX2_order 64 = .ok (.getfield 3, 3) := dk_180 0 3 (dk_at dksX2_order_2 16 rfl rfl)
theorem dX2_order_67 : decode cX2_order 67 = .ok (.getfield 76, 3) := dk_180 0 76 (dk_at dksX2_order_2 19 rfl rfl)
theorem dX2_order_70 : decode cX2_order 70 = .ok (.iload 4, 2) := dk_21 4 (dk_at dksX2_order_2 22 rfl rfl)
theorem dX2_order_72 : decode cX2_order 72 = .ok (.invokevirtual 86, 3) := dk_182 0 86 (dk_at dksX2_order_3 0 rfl rfl)
theorem dX2_order_75 : decode cX2_order 75 = .ok (.checkcast 22, 3) := dk_192 0 22 (dk_at dksX2_order_3 3 rfl rfl)
theorem dX2_order_78 : decode cX2_order 78 = .ok (.aastore, 1) := dk_83 (dk_at dksX2_order_3 6 rfl rfl)
theorem dX2_order_79 : decode cX2_order 79 = .ok (.iinc 1 1, 3) := dk_132 1 1 (dk_at dksX2_order_3 7 rfl rfl)
theorem dX2_order_82 : decode cX2_order 82 = .ok (.iinc 4 1, 3) := dk_132 4 1 (dk_at dksX2_order_3 10 rfl rfl)
theorem dX2_order_85 : decode cX2_order 85 = .ok (.goto (-64), 3) := dk_167 255 192 (dk_at dksX2_order_3 13 rfl rfl)
theorem dX2_order_88 : decode cX2_order 88 = .ok (.iinc 2 1, 3) := dk_132 2 1 (dk_at dksX2_order_3 16 rfl rfl)
theorem dX2_order_91 : decode cX2_order 91 = .ok (.goto (-87), 3) := dk_167 255 169 (dk_at dksX2_order_3 19 rfl rfl)
theorem dX2_order_94 : decode cX2_order 94 = .ok (.return_, 1) := dk_177 (dk_at dksX2_order_3 22 rfl rfl)
abbrev cX2_call : ByteArray := prog_14_method_9_code
def yX2_call : MethodName := ⟨RX2, "call", "(LWeaversgate$Thing;IIILWeaversgate$Place;)I"⟩
def dkwX2_call_1 : List UInt8 := [172]
abbrev dktX2_call_1 : List UInt8 := dkwX2_call_1 ++ []
def dkwX2_call_0 : List UInt8 := [42, 16, 99, 28, 43, 180, 0, 156, 29, 25, 5, 21, 4, 42, 43, 28, 186, 0, 160, 0, 0, 182, 0, 163]
abbrev dktX2_call_0 : List UInt8 := dkwX2_call_0 ++ dktX2_call_1
theorem dksX2_call_0 : cX2_call.data.toList.drop 0 = dktX2_call_0 := by decide +kernel
theorem dksX2_call_1 : cX2_call.data.toList.drop 24 = dktX2_call_1 := dk_seg dksX2_call_0 24 rfl rfl
theorem dX2_call_0 : decode cX2_call 0 = .ok (.aload_n 0, 1) := dk_42 (dk_at dksX2_call_0 0 rfl rfl)
theorem dX2_call_1 : decode cX2_call 1 = .ok (.bipush 99, 2) := dk_16 99 (dk_at dksX2_call_0 1 rfl rfl)
theorem dX2_call_3 : decode cX2_call 3 = .ok (.iload_n 2, 1) := dk_28 (dk_at dksX2_call_0 3 rfl rfl)
theorem dX2_call_4 : decode cX2_call 4 = .ok (.aload_n 1, 1) := dk_43 (dk_at dksX2_call_0 4 rfl rfl)
theorem dX2_call_5 : decode cX2_call 5 = .ok (.getfield 156, 3) := dk_180 0 156 (dk_at dksX2_call_0 5 rfl rfl)
theorem dX2_call_8 : decode cX2_call 8 = .ok (.iload_n 3, 1) := dk_29 (dk_at dksX2_call_0 8 rfl rfl)
theorem dX2_call_9 : decode cX2_call 9 = .ok (.aload 5, 2) := dk_25 5 (dk_at dksX2_call_0 9 rfl rfl)
theorem dX2_call_11 : decode cX2_call 11 = .ok (.iload 4, 2) := dk_21 4 (dk_at dksX2_call_0 11 rfl rfl)
theorem dX2_call_13 : decode cX2_call 13 = .ok (.aload_n 0, 1) := dk_42 (dk_at dksX2_call_0 13 rfl rfl)
theorem dX2_call_14 : decode cX2_call 14 = .ok (.aload_n 1, 1) := dk_43 (dk_at dksX2_call_0 14 rfl rfl)
theorem dX2_call_15 : decode cX2_call 15 = .ok (.iload_n 2, 1) := dk_28 (dk_at dksX2_call_0 15 rfl rfl)
theorem dX2_call_16 : decode cX2_call 16 = .ok (.invokedynamic 160, 5) := by decide +kernel
theorem dX2_call_21 : decode cX2_call 21 = .ok (.invokevirtual 163, 3) := dk_182 0 163 (dk_at dksX2_call_0 21 rfl rfl)
theorem dX2_call_24 : decode cX2_call 24 = .ok (.ireturn, 1) := dk_172 (dk_at dksX2_call_1 0 rfl rfl)
abbrev cX2_lambda_call_0 : ByteArray := prog_14_method_20_code
def yX2_lambda_call_0 : MethodName := ⟨RX2, "lambda$call$0", "(LWeaversgate$Thing;II)I"⟩
def dkwX2_lambda_call_0_0 : List UInt8 := [42, 43, 28, 29, 182, 0, 254, 172]
abbrev dktX2_lambda_call_0_0 : List UInt8 := dkwX2_lambda_call_0_0 ++ []
theorem dksX2_lambda_call_0_0 : cX2_lambda_call_0.data.toList.drop 0 = dktX2_lambda_call_0_0 := by decide +kernel
theorem dX2_lambda_call_0_0 : decode cX2_lambda_call_0 0 = .ok (.aload_n 0, 1) := dk_42 (dk_at dksX2_lambda_call_0_0 0 rfl rfl)
theorem dX2_lambda_call_0_1 : decode cX2_lambda_call_0 1 = .ok (.aload_n 1, 1) := dk_43 (dk_at dksX2_lambda_call_0_0 1 rfl rfl)
theorem dX2_lambda_call_0_2 : decode cX2_lambda_call_0 2 = .ok (.iload_n 2, 1) := dk_28 (dk_at dksX2_lambda_call_0_0 2 rfl rfl)
theorem dX2_lambda_call_0_3 : decode cX2_lambda_call_0 3 = .ok (.iload_n 3, 1) := dk_29 (dk_at dksX2_lambda_call_0_0 3 rfl rfl)
theorem dX2_lambda_call_0_4 : decode cX2_lambda_call_0 4 = .ok (.invokevirtual 254, 3) := dk_182 0 254 (dk_at dksX2_lambda_call_0_0 4 rfl rfl)
theorem dX2_lambda_call_0_7 : decode cX2_lambda_call_0 7 = .ok (.ireturn, 1) := dk_172 (dk_at dksX2_lambda_call_0_0 7 rfl rfl)
abbrev cX2_body : ByteArray := prog_14_method_10_code
def yX2_body : MethodName := ⟨RX2, "body", "(LWeaversgate$Thing;II)I"⟩
def dkwX2_body_3 : List UInt8 := [186, 0, 181, 0, 0, 182, 0, 163, 172]
abbrev dktX2_body_3 : List UInt8 := dkwX2_body_3 ++ []
def dkwX2_body_2 : List UInt8 := [42, 16, 101, 28, 43, 180, 0, 156, 29, 25, 5, 25, 4, 180, 0, 180, 42, 43, 25, 4, 28]
abbrev dktX2_body_2 : List UInt8 := dkwX2_body_2 ++ dktX2_body_3
def dkwX2_body_1 : List UInt8 := [42, 180, 0, 42, 153, 0, 17, 42, 180, 0, 3, 25, 4, 28, 3, 182, 0, 176, 167, 0, 4, 1, 58, 5]
abbrev dktX2_body_1 : List UInt8 := dkwX2_body_1 ++ dktX2_body_2
def dkwX2_body_0 : List UInt8 := [43, 180, 0, 156, 28, 182, 0, 167, 58, 4, 25, 4, 199, 0, 12, 187, 0, 65, 89, 7, 183, 0, 173, 191]
abbrev dktX2_body_0 : List UInt8 := dkwX2_body_0 ++ dktX2_body_1
theorem dksX2_body_0 : cX2_body.data.toList.drop 0 = dktX2_body_0 := by decide +kernel
theorem dksX2_body_1 : cX2_body.data.toList.drop 24 = dktX2_body_1 := dk_seg dksX2_body_0 24 rfl rfl
theorem dksX2_body_2 : cX2_body.data.toList.drop 48 = dktX2_body_2 := dk_seg dksX2_body_1 24 rfl rfl
theorem dksX2_body_3 : cX2_body.data.toList.drop 69 = dktX2_body_3 := dk_seg dksX2_body_2 21 rfl rfl
theorem dX2_body_0 : decode cX2_body 0 = .ok (.aload_n 1, 1) := dk_43 (dk_at dksX2_body_0 0 rfl rfl)
theorem dX2_body_1 : decode cX2_body 1 = .ok (.getfield 156, 3) := dk_180 0 156 (dk_at dksX2_body_0 1 rfl rfl)
theorem dX2_body_4 : decode cX2_body 4 = .ok (.iload_n 2, 1) := dk_28 (dk_at dksX2_body_0 4 rfl rfl)
theorem dX2_body_5 : decode cX2_body 5 = .ok (.invokevirtual 167, 3) := dk_182 0 167 (dk_at dksX2_body_0 5 rfl rfl)
theorem dX2_body_8 : decode cX2_body 8 = .ok (.astore 4, 2) := dk_58 4 (dk_at dksX2_body_0 8 rfl rfl)
theorem dX2_body_10 : decode cX2_body 10 = .ok (.aload 4, 2) := dk_25 4 (dk_at dksX2_body_0 10 rfl rfl)
theorem dX2_body_12 : decode cX2_body 12 = .ok (.ifnonnull 12, 3) := dk_199 0 12 (dk_at dksX2_body_0 12 rfl rfl)
theorem dX2_body_15 : decode cX2_body 15 = .ok (.new 65, 3) := dk_187 0 65 (dk_at dksX2_body_0 15 rfl rfl)
theorem dX2_body_18 : decode cX2_body 18 = .ok (.dup, 1) := dk_89 (dk_at dksX2_body_0 18 rfl rfl)
theorem dX2_body_19 : decode cX2_body 19 = .ok (.iconst 4, 1) := dk_7 (dk_at dksX2_body_0 19 rfl rfl)
theorem dX2_body_20 : decode cX2_body 20 = .ok (.invokespecial 173, 3) := dk_183 0 173 (dk_at dksX2_body_0 20 rfl rfl)
theorem dX2_body_23 : decode cX2_body 23 = .ok (.athrow, 1) := dk_191 (dk_at dksX2_body_0 23 rfl rfl)
theorem dX2_body_24 : decode cX2_body 24 = .ok (.aload_n 0, 1) := dk_42 (dk_at dksX2_body_1 0 rfl rfl)
theorem dX2_body_25 : decode cX2_body 25 = .ok (.getfield 42, 3) := dk_180 0 42 (dk_at dksX2_body_1 1 rfl rfl)
theorem dX2_body_28 : decode cX2_body 28 = .ok (.ifCond .eq 17, 3) := dk_153 0 17 (dk_at dksX2_body_1 4 rfl rfl)
theorem dX2_body_31 : decode cX2_body 31 = .ok (.aload_n 0, 1) := dk_42 (dk_at dksX2_body_1 7 rfl rfl)
theorem dX2_body_32 : decode cX2_body 32 = .ok (.getfield 3, 3) := dk_180 0 3 (dk_at dksX2_body_1 8 rfl rfl)
theorem dX2_body_35 : decode cX2_body 35 = .ok (.aload 4, 2) := dk_25 4 (dk_at dksX2_body_1 11 rfl rfl)
theorem dX2_body_37 : decode cX2_body 37 = .ok (.iload_n 2, 1) := dk_28 (dk_at dksX2_body_1 13 rfl rfl)
theorem dX2_body_38 : decode cX2_body 38 = .ok (.iconst 0, 1) := dk_3 (dk_at dksX2_body_1 14 rfl rfl)
theorem dX2_body_39 : decode cX2_body 39 = .ok (.invokevirtual 176, 3) := dk_182 0 176 (dk_at dksX2_body_1 15 rfl rfl)
theorem dX2_body_42 : decode cX2_body 42 = .ok (.goto 4, 3) := dk_167 0 4 (dk_at dksX2_body_1 18 rfl rfl)
theorem dX2_body_45 : decode cX2_body 45 = .ok (.aconst_null, 1) := dk_1 (dk_at dksX2_body_1 21 rfl rfl)
theorem dX2_body_46 : decode cX2_body 46 = .ok (.astore 5, 2) := dk_58 5 (dk_at dksX2_body_1 22 rfl rfl)
theorem dX2_body_48 : decode cX2_body 48 = .ok (.aload_n 0, 1) := dk_42 (dk_at dksX2_body_2 0 rfl rfl)
theorem dX2_body_49 : decode cX2_body 49 = .ok (.bipush 101, 2) := dk_16 101 (dk_at dksX2_body_2 1 rfl rfl)
theorem dX2_body_51 : decode cX2_body 51 = .ok (.iload_n 2, 1) := dk_28 (dk_at dksX2_body_2 3 rfl rfl)
theorem dX2_body_52 : decode cX2_body 52 = .ok (.aload_n 1, 1) := dk_43 (dk_at dksX2_body_2 4 rfl rfl)
theorem dX2_body_53 : decode cX2_body 53 = .ok (.getfield 156, 3) := dk_180 0 156 (dk_at dksX2_body_2 5 rfl rfl)
theorem dX2_body_56 : decode cX2_body 56 = .ok (.iload_n 3, 1) := dk_29 (dk_at dksX2_body_2 8 rfl rfl)
theorem dX2_body_57 : decode cX2_body 57 = .ok (.aload 5, 2) := dk_25 5 (dk_at dksX2_body_2 9 rfl rfl)
theorem dX2_body_59 : decode cX2_body 59 = .ok (.aload 4, 2) := dk_25 4 (dk_at dksX2_body_2 11 rfl rfl)
theorem dX2_body_61 : decode cX2_body 61 = .ok (.getfield 180, 3) := dk_180 0 180 (dk_at dksX2_body_2 13 rfl rfl)
theorem dX2_body_64 : decode cX2_body 64 = .ok (.aload_n 0, 1) := dk_42 (dk_at dksX2_body_2 16 rfl rfl)
theorem dX2_body_65 : decode cX2_body 65 = .ok (.aload_n 1, 1) := dk_43 (dk_at dksX2_body_2 17 rfl rfl)
theorem dX2_body_66 : decode cX2_body 66 = .ok (.aload 4, 2) := dk_25 4 (dk_at dksX2_body_2 18 rfl rfl)
theorem dX2_body_68 : decode cX2_body 68 = .ok (.iload_n 2, 1) := dk_28 (dk_at dksX2_body_2 20 rfl rfl)
theorem dX2_body_69 : decode cX2_body 69 = .ok (.invokedynamic 181, 5) := by decide +kernel
theorem dX2_body_74 : decode cX2_body 74 = .ok (.invokevirtual 163, 3) := dk_182 0 163 (dk_at dksX2_body_3 5 rfl rfl)
theorem dX2_body_77 : decode cX2_body 77 = .ok (.ireturn, 1) := dk_172 (dk_at dksX2_body_3 8 rfl rfl)
abbrev cX2_lambda_body_1 : ByteArray := prog_14_method_19_code
def yX2_lambda_body_1 : MethodName := ⟨RX2, "lambda$body$1", "(LWeaversgate$Thing;LWeaversgate$Type;II)I"⟩
def dkwX2_lambda_body_1_0 : List UInt8 := [42, 43, 44, 29, 21, 4, 182, 0, 250, 172]
abbrev dktX2_lambda_body_1_0 : List UInt8 := dkwX2_lambda_body_1_0 ++ []
theorem dksX2_lambda_body_1_0 : cX2_lambda_body_1.data.toList.drop 0 = dktX2_lambda_body_1_0 := by decide +kernel
theorem dX2_lambda_body_1_0 : decode cX2_lambda_body_1 0 = .ok (.aload_n 0, 1) := dk_42 (dk_at dksX2_lambda_body_1_0 0 rfl rfl)
theorem dX2_lambda_body_1_1 : decode cX2_lambda_body_1 1 = .ok (.aload_n 1, 1) := dk_43 (dk_at dksX2_lambda_body_1_0 1 rfl rfl)
theorem dX2_lambda_body_1_2 : decode cX2_lambda_body_1 2 = .ok (.aload_n 2, 1) := dk_44 (dk_at dksX2_lambda_body_1_0 2 rfl rfl)
theorem dX2_lambda_body_1_3 : decode cX2_lambda_body_1 3 = .ok (.iload_n 3, 1) := dk_29 (dk_at dksX2_lambda_body_1_0 3 rfl rfl)
theorem dX2_lambda_body_1_4 : decode cX2_lambda_body_1 4 = .ok (.iload 4, 2) := dk_21 4 (dk_at dksX2_lambda_body_1_0 4 rfl rfl)
theorem dX2_lambda_body_1_6 : decode cX2_lambda_body_1 6 = .ok (.invokevirtual 250, 3) := dk_182 0 250 (dk_at dksX2_lambda_body_1_0 6 rfl rfl)
theorem dX2_lambda_body_1_9 : decode cX2_lambda_body_1 9 = .ok (.ireturn, 1) := dk_172 (dk_at dksX2_lambda_body_1_0 9 rfl rfl)
abbrev cX2_steps : ByteArray := prog_14_method_11_code
def yX2_steps : MethodName := ⟨RX2, "steps", "(LWeaversgate$Thing;LWeaversgate$Type;II)I"⟩
def dkwX2_steps_4 : List UInt8 := [21, 6, 172]
abbrev dktX2_steps_4 : List UInt8 := dkwX2_steps_4 ++ []
def dkwX2_steps_3 : List UInt8 := [25, 10, 182, 0, 193, 54, 6, 21, 7, 25, 9, 182, 0, 197, 96, 54, 7, 132, 8, 1, 167, 255, 188]
abbrev dktX2_steps_3 : List UInt8 := dkwX2_steps_3 ++ dktX2_steps_4
def dkwX2_steps_2 : List UInt8 := [44, 29, 25, 9, 21, 7, 21, 6, 182, 0, 189, 54, 6, 167, 0, 18, 58, 10, 42, 43, 44, 29, 21, 8]
abbrev dktX2_steps_2 : List UInt8 := dkwX2_steps_2 ++ dktX2_steps_3
def dkwX2_steps_1 : List UInt8 := [21, 8, 25, 5, 182, 0, 80, 162, 0, 64, 25, 5, 21, 8, 182, 0, 86, 192, 0, 187, 58, 9, 42, 43]
abbrev dktX2_steps_1 : List UInt8 := dkwX2_steps_1 ++ dktX2_steps_2
def dkwX2_steps_0 : List UInt8 := [44, 180, 0, 184, 29, 182, 0, 86, 192, 0, 81, 58, 5, 21, 4, 54, 6, 4, 54, 7, 3, 54, 8]
abbrev dktX2_steps_0 : List UInt8 := dkwX2_steps_0 ++ dktX2_steps_1
theorem dksX2_steps_0 : cX2_steps.data.toList.drop 0 = dktX2_steps_0 := by decide +kernel
theorem dksX2_steps_1 : cX2_steps.data.toList.drop 23 = dktX2_steps_1 := dk_seg dksX2_steps_0 23 rfl rfl
theorem dksX2_steps_2 : cX2_steps.data.toList.drop 47 = dktX2_steps_2 := dk_seg dksX2_steps_1 24 rfl rfl
theorem dksX2_steps_3 : cX2_steps.data.toList.drop 71 = dktX2_steps_3 := dk_seg dksX2_steps_2 24 rfl rfl
theorem dksX2_steps_4 : cX2_steps.data.toList.drop 94 = dktX2_steps_4 := dk_seg dksX2_steps_3 23 rfl rfl
theorem dX2_steps_0 : decode cX2_steps 0 = .ok (.aload_n 2, 1) := dk_44 (dk_at dksX2_steps_0 0 rfl rfl)
theorem dX2_steps_1 : decode cX2_steps 1 = .ok (.getfield 184, 3) := dk_180 0 184 (dk_at dksX2_steps_0 1 rfl rfl)
theorem dX2_steps_4 : decode cX2_steps 4 = .ok (.iload_n 3, 1) := dk_29 (dk_at dksX2_steps_0 4 rfl rfl)
theorem dX2_steps_5 : decode cX2_steps 5 = .ok (.invokevirtual 86, 3) := dk_182 0 86 (dk_at dksX2_steps_0 5 rfl rfl)
theorem dX2_steps_8 : decode cX2_steps 8 = .ok (.checkcast 81, 3) := dk_192 0 81 (dk_at dksX2_steps_0 8 rfl rfl)
theorem dX2_steps_11 : decode cX2_steps 11 = .ok (.astore 5, 2) := dk_58 5 (dk_at dksX2_steps_0 11 rfl rfl)
theorem dX2_steps_13 : decode cX2_steps 13 = .ok (.iload 4, 2) := dk_21 4 (dk_at dksX2_steps_0 13 rfl rfl)
theorem dX2_steps_15 : decode cX2_steps 15 = .ok (.istore 6, 2) := dk_54 6 (dk_at dksX2_steps_0 15 rfl rfl)
theorem dX2_steps_17 : decode cX2_steps 17 = .ok (.iconst 1, 1) := dk_4 (dk_at dksX2_steps_0 17 rfl rfl)
theorem dX2_steps_18 : decode cX2_steps 18 = .ok (.istore 7, 2) := dk_54 7 (dk_at dksX2_steps_0 18 rfl rfl)
theorem dX2_steps_20 : decode cX2_steps 20 = .ok (.iconst 0, 1) := dk_3 (dk_at dksX2_steps_0 20 rfl rfl)
theorem dX2_steps_21 : decode cX2_steps 21 = .ok (.istore 8, 2) := dk_54 8 (dk_at dksX2_steps_0 21 rfl rfl)
theorem dX2_steps_23 : decode cX2_steps 23 = .ok (.iload 8, 2) := dk_21 8 (dk_at dksX2_steps_1 0 rfl rfl)
theorem dX2_steps_25 : decode cX2_steps 25 = .ok (.aload 5, 2) := dk_25 5 (dk_at dksX2_steps_1 2 rfl rfl)
theorem dX2_steps_27 : decode cX2_steps 27 = .ok (.invokevirtual 80, 3) := dk_182 0 80 (dk_at dksX2_steps_1 4 rfl rfl)
theorem dX2_steps_30 : decode cX2_steps 30 = .ok (.if_icmp .ge 64, 3) := dk_162 0 64 (dk_at dksX2_steps_1 7 rfl rfl)
theorem dX2_steps_33 : decode cX2_steps 33 = .ok (.aload 5, 2) := dk_25 5 (dk_at dksX2_steps_1 10 rfl rfl)
theorem dX2_steps_35 : decode cX2_steps 35 = .ok (.iload 8, 2) := dk_21 8 (dk_at dksX2_steps_1 12 rfl rfl)
theorem dX2_steps_37 : decode cX2_steps 37 = .ok (.invokevirtual 86, 3) := dk_182 0 86 (dk_at dksX2_steps_1 14 rfl rfl)
theorem dX2_steps_40 : decode cX2_steps 40 = .ok (.checkcast 187, 3) := dk_192 0 187 (dk_at dksX2_steps_1 17 rfl rfl)
theorem dX2_steps_43 : decode cX2_steps 43 = .ok (.astore 9, 2) := dk_58 9 (dk_at dksX2_steps_1 20 rfl rfl)
theorem dX2_steps_45 : decode cX2_steps 45 = .ok (.aload_n 0, 1) := dk_42 (dk_at dksX2_steps_1 22 rfl rfl)
theorem dX2_steps_46 : decode cX2_steps 46 = .ok (.aload_n 1, 1) := dk_43 (dk_at dksX2_steps_1 23 rfl rfl)
theorem dX2_steps_47 : decode cX2_steps 47 = .ok (.aload_n 2, 1) := dk_44 (dk_at dksX2_steps_2 0 rfl rfl)
theorem dX2_steps_48 : decode cX2_steps 48 = .ok (.iload_n 3, 1) := dk_29 (dk_at dksX2_steps_2 1 rfl rfl)
theorem dX2_steps_49 : decode cX2_steps 49 = .ok (.aload 9, 2) := dk_25 9 (dk_at dksX2_steps_2 2 rfl rfl)
theorem dX2_steps_51 : decode cX2_steps 51 = .ok (.iload 7, 2) := dk_21 7 (dk_at dksX2_steps_2 4 rfl rfl)
theorem dX2_steps_53 : decode cX2_steps 53 = .ok (.iload 6, 2) := dk_21 6 (dk_at dksX2_steps_2 6 rfl rfl)
theorem dX2_steps_55 : decode cX2_steps 55 = .ok (.invokevirtual 189, 3) := dk_182 0 189 (dk_at dksX2_steps_2 8 rfl rfl)
theorem dX2_steps_58 : decode cX2_steps 58 = .ok (.istore 6, 2) := dk_54 6 (dk_at dksX2_steps_2 11 rfl rfl)
theorem dX2_steps_60 : decode cX2_steps 60 = .ok (.goto 18, 3) := dk_167 0 18 (dk_at dksX2_steps_2 13 rfl rfl)
theorem dX2_steps_63 : decode cX2_steps 63 = .ok (.astore 10, 2) := dk_58 10 (dk_at dksX2_steps_2 16 rfl rfl)
theorem dX2_steps_65 : decode cX2_steps 65 = .ok (.aload_n 0, 1) := dk_42 (dk_at dksX2_steps_2 18 rfl rfl)
theorem dX2_steps_66 : decode cX2_steps 66 = .ok (.aload_n 1, 1) := dk_43 (dk_at dksX2_steps_2 19 rfl rfl)
theorem dX2_steps_67 : decode cX2_steps 67 = .ok (.aload_n 2, 1) := dk_44 (dk_at dksX2_steps_2 20 rfl rfl)
theorem dX2_steps_68 : decode cX2_steps 68 = .ok (.iload_n 3, 1) := dk_29 (dk_at dksX2_steps_2 21 rfl rfl)
theorem dX2_steps_69 : decode cX2_steps 69 = .ok (.iload 8, 2) := dk_21 8 (dk_at dksX2_steps_2 22 rfl rfl)
theorem dX2_steps_71 : decode cX2_steps 71 = .ok (.aload 10, 2) := dk_25 10 (dk_at dksX2_steps_3 0 rfl rfl)
theorem dX2_steps_73 : decode cX2_steps 73 = .ok (.invokevirtual 193, 3) := dk_182 0 193 (dk_at dksX2_steps_3 2 rfl rfl)
theorem dX2_steps_76 : decode cX2_steps 76 = .ok (.istore 6, 2) := dk_54 6 (dk_at dksX2_steps_3 5 rfl rfl)
theorem dX2_steps_78 : decode cX2_steps 78 = .ok (.iload 7, 2) := dk_21 7 (dk_at dksX2_steps_3 7 rfl rfl)
theorem dX2_steps_80 : decode cX2_steps 80 = .ok (.aload 9, 2) := dk_25 9 (dk_at dksX2_steps_3 9 rfl rfl)
theorem dX2_steps_82 : decode cX2_steps 82 = .ok (.invokevirtual 197, 3) := dk_182 0 197 (dk_at dksX2_steps_3 11 rfl rfl)
theorem dX2_steps_85 : decode cX2_steps 85 = .ok (.iadd, 1) := dk_96 (dk_at dksX2_steps_3 14 rfl rfl)
theorem dX2_steps_86 : decode cX2_steps 86 = .ok (.istore 7, 2) := dk_54 7 (dk_at dksX2_steps_3 15 rfl rfl)
theorem dX2_steps_88 : decode cX2_steps 88 = .ok (.iinc 8 1, 3) := dk_132 8 1 (dk_at dksX2_steps_3 17 rfl rfl)
theorem dX2_steps_91 : decode cX2_steps 91 = .ok (.goto (-68), 3) := dk_167 255 188 (dk_at dksX2_steps_3 20 rfl rfl)
theorem dX2_steps_94 : decode cX2_steps 94 = .ok (.iload 6, 2) := dk_21 6 (dk_at dksX2_steps_4 0 rfl rfl)
theorem dX2_steps_96 : decode cX2_steps 96 = .ok (.ireturn, 1) := dk_172 (dk_at dksX2_steps_4 2 rfl rfl)
abbrev cX2_done : ByteArray := prog_14_method_12_code
def yX2_done : MethodName := ⟨RX2, "done", "(LWeaversgate$Thing;LWeaversgate$Type;ILWeaversgate$Step;II)I"⟩
def dkwX2_done_19 : List UInt8 := [21, 6, 172]
abbrev dktX2_done_19 : List UInt8 := dkwX2_done_19 ++ []
def dkwX2_done_18 : List UInt8 := [25, 4, 180, 0, 231, 164, 0, 16, 187, 0, 65, 89, 25, 4, 180, 0, 222, 183, 0, 173, 191, 21, 6, 172]
abbrev dktX2_done_18 : List UInt8 := dkwX2_done_18 ++ dktX2_done_19
def dkwX2_done_17 : List UInt8 := [180, 0, 156, 21, 6, 25, 8, 21, 7, 42, 43, 25, 4, 186, 0, 237, 0, 0, 182, 0, 163, 172, 21, 6]
abbrev dktX2_done_17 : List UInt8 := dkwX2_done_17 ++ dktX2_done_18
def dkwX2_done_16 : List UInt8 := [21, 7, 43, 25, 4, 186, 0, 234, 0, 0, 182, 0, 163, 172, 42, 16, 115, 25, 4, 180, 0, 222, 43]
abbrev dktX2_done_16 : List UInt8 := dkwX2_done_16 ++ dktX2_done_17
def dkwX2_done_15 : List UInt8 := [167, 0, 4, 1, 182, 0, 61, 172, 42, 16, 103, 25, 4, 180, 0, 222, 43, 180, 0, 156, 21, 6, 25, 8]
abbrev dktX2_done_15 : List UInt8 := dkwX2_done_15 ++ dktX2_done_16
def dkwX2_done_14 : List UInt8 := [21, 7, 42, 180, 0, 42, 153, 0, 19, 42, 180, 0, 3, 44, 29, 21, 5, 4, 96, 182, 0, 176]
abbrev dktX2_done_14 : List UInt8 := dkwX2_done_14 ++ dktX2_done_15
def dkwX2_done_13 : List UInt8 := [25, 8, 21, 7, 186, 0, 228, 0, 0, 182, 0, 163, 54, 12, 42, 25, 11, 25, 4, 180, 0, 231, 21, 12]
abbrev dktX2_done_13 : List UInt8 := dkwX2_done_13 ++ dktX2_done_14
def dkwX2_done_12 : List UInt8 := [192, 0, 168, 183, 0, 58, 58, 11, 42, 16, 109, 25, 4, 180, 0, 222, 25, 11, 180, 0, 156, 21, 6]
abbrev dktX2_done_12 : List UInt8 := dkwX2_done_12 ++ dktX2_done_13
def dkwX2_done_11 : List UInt8 := [182, 0, 61, 172, 187, 0, 56, 89, 42, 180, 0, 3, 180, 0, 225, 25, 4, 180, 0, 222, 182, 0, 86]
abbrev dktX2_done_11 : List UInt8 := dkwX2_done_11 ++ dktX2_done_12
def dkwX2_done_10 : List UInt8 := [21, 6, 25, 4, 180, 0, 222, 96, 172, 42, 43, 25, 4, 180, 0, 222, 21, 6, 21, 7, 25, 8]
abbrev dktX2_done_10 : List UInt8 := dkwX2_done_10 ++ dktX2_done_11
def dkwX2_done_9 : List UInt8 := [170, 0, 0, 0, 246, 0, 0, 0, 0, 0, 0, 0, 5, 0, 0, 0, 37, 0, 0, 0, 46, 0, 0, 0, 63, 0, 0, 0, 159, 0, 0, 0, 189, 0, 0, 0, 220]
abbrev dktX2_done_9 : List UInt8 := dkwX2_done_9 ++ dktX2_done_10
def dkwX2_done_8 : List UInt8 := [54, 10, 21, 10]
abbrev dktX2_done_8 : List UInt8 := dkwX2_done_8 ++ dktX2_done_9
def dkwX2_done_7 : List UInt8 := [182, 0, 210, 153, 0, 22, 7, 54, 10, 167, 0, 16, 25, 9, 18, 220, 182, 0, 210, 153, 0, 6, 8]
abbrev dktX2_done_7 : List UInt8 := dkwX2_done_7 ++ dktX2_done_8
def dkwX2_done_6 : List UInt8 := [167, 0, 48, 25, 9, 18, 217, 182, 0, 210, 153, 0, 38, 6, 54, 10, 167, 0, 32, 25, 9, 18, 218]
abbrev dktX2_done_6 : List UInt8 := dkwX2_done_6 ++ dktX2_done_7
def dkwX2_done_5 : List UInt8 := [153, 0, 70, 4, 54, 10, 167, 0, 64, 25, 9, 18, 215, 182, 0, 210, 153, 0, 54, 5, 54, 10]
abbrev dktX2_done_5 : List UInt8 := dkwX2_done_5 ++ dktX2_done_6
def dkwX2_done_4 : List UInt8 := [25, 9, 18, 209, 182, 0, 210, 153, 0, 86, 3, 54, 10, 167, 0, 80, 25, 9, 18, 214, 182, 0, 210]
abbrev dktX2_done_4 : List UInt8 := dkwX2_done_4 ++ dktX2_done_5
def dkwX2_done_3 : List UInt8 := [171, 0, 0, 0, 0, 0, 152, 0, 0, 0, 6, 0, 1, 120, 161, 0, 0, 0, 59, 0, 1, 143, 86, 0, 0, 0, 107, 0, 1, 188, 98, 0, 0, 0, 123, 0, 46, 122, 94, 0, 0, 0, 75, 0, 51, 5, 238, 0, 0, 0, 91, 6, 147, 166, 230, 0, 0, 0, 139]
abbrev dktX2_done_3 : List UInt8 := dkwX2_done_3 ++ dktX2_done_4
def dkwX2_done_2 : List UInt8 := [54, 10, 25, 9, 182, 0, 204]
abbrev dktX2_done_2 : List UInt8 := dkwX2_done_2 ++ dktX2_done_3
def dkwX2_done_1 : List UInt8 := [180, 0, 3, 44, 29, 21, 5, 182, 0, 176, 167, 0, 4, 1, 58, 8, 25, 4, 182, 0, 200, 58, 9, 2]
abbrev dktX2_done_1 : List UInt8 := dkwX2_done_1 ++ dktX2_done_2
def dkwX2_done_0 : List UInt8 := [44, 180, 0, 180, 54, 7, 42, 180, 0, 42, 153, 0, 25, 25, 4, 182, 0, 197, 158, 0, 17, 42]
abbrev dktX2_done_0 : List UInt8 := dkwX2_done_0 ++ dktX2_done_1
theorem dksX2_done_0 : cX2_done.data.toList.drop 0 = dktX2_done_0 := by decide +kernel
theorem dksX2_done_1 : cX2_done.data.toList.drop 22 = dktX2_done_1 := dk_seg dksX2_done_0 22 rfl rfl
theorem dksX2_done_2 : cX2_done.data.toList.drop 46 = dktX2_done_2 := dk_seg dksX2_done_1 24 rfl rfl
theorem dksX2_done_3 : cX2_done.data.toList.drop 53 = dktX2_done_3 := dk_seg dksX2_done_2 7 rfl rfl
theorem dksX2_done_4 : cX2_done.data.toList.drop 112 = dktX2_done_4 := dk_seg dksX2_done_3 59 rfl rfl
theorem dksX2_done_5 : cX2_done.data.toList.drop 135 = dktX2_done_5 := dk_seg dksX2_done_4 23 rfl rfl
theorem dksX2_done_6 : cX2_done.data.toList.drop 157 = dktX2_done_6 := dk_seg dksX2_done_5 22 rfl rfl
theorem dksX2_done_7 : cX2_done.data.toList.drop 180 = dktX2_done_7 := dk_seg dksX2_done_6 23 rfl rfl
theorem dksX2_done_8 : cX2_done.data.toList.drop 203 = dktX2_done_8 := dk_seg dksX2_done_7 23 rfl rfl
theorem dksX2_done_9 : cX2_done.data.toList.drop 207 = dktX2_done_9 := dk_seg dksX2_done_8 4 rfl rfl
theorem dksX2_done_10 : cX2_done.data.toList.drop 244 = dktX2_done_10 := dk_seg dksX2_done_9 37 rfl rfl
theorem dksX2_done_11 : cX2_done.data.toList.drop 266 = dktX2_done_11 := dk_seg dksX2_done_10 22 rfl rfl
theorem dksX2_done_12 : cX2_done.data.toList.drop 289 = dktX2_done_12 := dk_seg dksX2_done_11 23 rfl rfl
theorem dksX2_done_13 : cX2_done.data.toList.drop 312 = dktX2_done_13 := dk_seg dksX2_done_12 23 rfl rfl
theorem dksX2_done_14 : cX2_done.data.toList.drop 336 = dktX2_done_14 := dk_seg dksX2_done_13 24 rfl rfl
theorem dksX2_done_15 : cX2_done.data.toList.drop 358 = dktX2_done_15 := dk_seg dksX2_done_14 22 rfl rfl
theorem dksX2_done_16 : cX2_done.data.toList.drop 382 = dktX2_done_16 := dk_seg dksX2_done_15 24 rfl rfl
theorem dksX2_done_17 : cX2_done.data.toList.drop 405 = dktX2_done_17 := dk_seg dksX2_done_16 23 rfl rfl
theorem dksX2_done_18 : cX2_done.data.toList.drop 429 = dktX2_done_18 := dk_seg dksX2_done_17 24 rfl rfl
theorem dksX2_done_19 : cX2_done.data.toList.drop 453 = dktX2_done_19 := dk_seg dksX2_done_18 24 rfl rfl
theorem dX2_done_0 : decode cX2_done 0 = .ok (.aload_n 2, 1) := dk_44 (dk_at dksX2_done_0 0 rfl rfl)
theorem dX2_done_1 : decode cX2_done 1 = .ok (.getfield 180, 3) := dk_180 0 180 (dk_at dksX2_done_0 1 rfl rfl)
theorem dX2_done_4 : decode cX2_done 4 = .ok (.istore 7, 2) := dk_54 7 (dk_at dksX2_done_0 4 rfl rfl)
theorem dX2_done_6 : decode cX2_done 6 = .ok (.aload_n 0, 1) := dk_42 (dk_at dksX2_done_0 6 rfl rfl)
theorem dX2_done_7 : decode cX2_done 7 = .ok (.getfield 42, 3) := dk_180 0 42 (dk_at dksX2_done_0 7 rfl rfl)
theorem dX2_done_10 : decode cX2_done 10 = .ok (.ifCond .eq 25, 3) := dk_153 0 25 (dk_at dksX2_done_0 10 rfl rfl)
theorem dX2_done_13 : decode cX2_done 13 = .ok (.aload 4, 2) := dk_25 4 (dk_at dksX2_done_0 13 rfl rfl)
theorem dX2_done_15 : decode cX2_done 15 = .ok (.invokevirtual 197, 3) := dk_182 0 197 (dk_at dksX2_done_0 15 rfl rfl)
theorem dX2_done_18 : decode cX2_done 18 = .ok (.ifCond .le 17, 3) := dk_158 0 17 (dk_at dksX2_done_0 18 rfl rfl)
theorem dX2_done_21 : decode cX2_done 21 = .ok (.aload_n 0, 1) := dk_42 (dk_at dksX2_done_0 21 rfl rfl)
theorem dX2_done_22 : decode cX2_done 22 = .ok (.getfield 3, 3) := dk_180 0 3 (dk_at dksX2_done_1 0 rfl rfl)
theorem dX2_done_25 : decode cX2_done 25 = .ok (.aload_n 2, 1) := dk_44 (dk_at dksX2_done_1 3 rfl rfl)
theorem dX2_done_26 : decode cX2_done 26 = .ok (.iload_n 3, 1) := dk_29 (dk_at dksX2_done_1 4 rfl rfl)
theorem dX2_done_27 : decode cX2_done 27 = .ok (.iload 5, 2) := dk_21 5 (dk_at dksX2_done_1 5 rfl rfl)
theorem dX2_done_29 : decode cX2_done 29 = .ok (.invokevirtual 176, 3) := dk_182 0 176 (dk_at dksX2_done_1 7 rfl rfl)
theorem dX2_done_32 : decode cX2_done 32 = .ok (.goto 4, 3) := dk_167 0 4 (dk_at dksX2_done_1 10 rfl rfl)
theorem dX2_done_35 : decode cX2_done 35 = .ok (.aconst_null, 1) := dk_1 (dk_at dksX2_done_1 13 rfl rfl)
theorem dX2_done_36 : decode cX2_done 36 = .ok (.astore 8, 2) := dk_58 8 (dk_at dksX2_done_1 14 rfl rfl)
theorem dX2_done_38 : decode cX2_done 38 = .ok (.aload 4, 2) := dk_25 4 (dk_at dksX2_done_1 16 rfl rfl)
theorem dX2_done_40 : decode cX2_done 40 = .ok (.invokevirtual 200, 3) := dk_182 0 200 (dk_at dksX2_done_1 18 rfl rfl)
theorem dX2_done_43 : decode cX2_done 43 = .ok (.astore 9, 2) := dk_58 9 (dk_at dksX2_done_1 21 rfl rfl)
theorem dX2_done_45 : decode cX2_done 45 = .ok (.iconst (-1), 1) := dk_2 (dk_at dksX2_done_1 23 rfl rfl)
theorem dX2_done_46 : decode cX2_done 46 = .ok (.istore 10, 2) := dk_54 10 (dk_at dksX2_done_2 0 rfl rfl)
theorem dX2_done_48 : decode cX2_done 48 = .ok (.aload 9, 2) := dk_25 9 (dk_at dksX2_done_2 2 rfl rfl)
theorem dX2_done_50 : decode cX2_done 50 = .ok (.invokevirtual 204, 3) := dk_182 0 204 (dk_at dksX2_done_2 4 rfl rfl)
theorem dX2_done_53 : decode cX2_done 53 = .ok (.lookupswitch 152 #[(96417, 59), (102230, 107), (113762, 123), (3045982, 75), (3343854, 91), (110339814, 139)], 59) := by decide +kernel
theorem dX2_done_112 : decode cX2_done 112 = .ok (.aload 9, 2) := dk_25 9 (dk_at dksX2_done_4 0 rfl rfl)
theorem dX2_done_114 : decode cX2_done 114 = .ok (.ldc 209, 2) := dk_18 209 (dk_at dksX2_done_4 2 rfl rfl)
theorem dX2_done_116 : decode cX2_done 116 = .ok (.invokevirtual 210, 3) := dk_182 0 210 (dk_at dksX2_done_4 4 rfl rfl)
theorem dX2_done_119 : decode cX2_done 119 = .ok (.ifCond .eq 86, 3) := dk_153 0 86 (dk_at dksX2_done_4 7 rfl rfl)
theorem dX2_done_122 : decode cX2_done 122 = .ok (.iconst 0, 1) := dk_3 (dk_at dksX2_done_4 10 rfl rfl)
theorem dX2_done_123 : decode cX2_done 123 = .ok (.istore 10, 2) := dk_54 10 (dk_at dksX2_done_4 11 rfl rfl)
theorem dX2_done_125 : decode cX2_done 125 = .ok (.goto 80, 3) := dk_167 0 80 (dk_at dksX2_done_4 13 rfl rfl)
theorem dX2_done_128 : decode cX2_done 128 = .ok (.aload 9, 2) := dk_25 9 (dk_at dksX2_done_4 16 rfl rfl)
theorem dX2_done_130 : decode cX2_done 130 = .ok (.ldc 214, 2) := dk_18 214 (dk_at dksX2_done_4 18 rfl rfl)
theorem dX2_done_132 : decode cX2_done 132 = .ok (.invokevirtual 210, 3) := dk_182 0 210 (dk_at dksX2_done_4 20 rfl rfl)
theorem dX2_done_135 : decode cX2_done 135 = .ok (.ifCond .eq 70, 3) := dk_153 0 70 (dk_at dksX2_done_5 0 rfl rfl)
theorem dX2_done_138 : decode cX2_done 138 = .ok (.iconst 1, 1) := dk_4 (dk_at dksX2_done_5 3 rfl rfl)
theorem dX2_done_139 : decode cX2_done 139 = .ok (.istore 10, 2) := dk_54 10 (dk_at dksX2_done_5 4 rfl rfl)
theorem dX2_done_141 : decode cX2_done 141 = .ok (.goto 64, 3) := dk_167 0 64 (dk_at dksX2_done_5 6 rfl rfl)
theorem dX2_done_144 : decode cX2_done 144 = .ok (.aload 9, 2) := dk_25 9 (dk_at dksX2_done_5 9 rfl rfl)
theorem dX2_done_146 : decode cX2_done 146 = .ok (.ldc 215, 2) := dk_18 215 (dk_at dksX2_done_5 11 rfl rfl)
theorem dX2_done_148 : decode cX2_done 148 = .ok (.invokevirtual 210, 3) := dk_182 0 210 (dk_at dksX2_done_5 13 rfl rfl)
theorem dX2_done_151 : decode cX2_done 151 = .ok (.ifCond .eq 54, 3) := dk_153 0 54 (dk_at dksX2_done_5 16 rfl rfl)
theorem dX2_done_154 : decode cX2_done 154 = .ok (.iconst 2, 1) := dk_5 (dk_at dksX2_done_5 19 rfl rfl)
theorem dX2_done_155 : decode cX2_done 155 = .ok (.istore 10, 2) := dk_54 10 (dk_at dksX2_done_5 20 rfl rfl)
theorem dX2_done_157 : decode cX2_done 157 = .ok (.goto 48, 3) := dk_167 0 48 (dk_at dksX2_done_6 0 rfl rfl)
theorem dX2_done_160 : decode cX2_done 160 = .ok (.aload 9, 2) := dk_25 9 (dk_at dksX2_done_6 3 rfl rfl)
theorem dX2_done_162 : decode cX2_done 162 = .ok (.ldc 217, 2) := dk_18 217 (dk_at dksX2_done_6 5 rfl rfl)
theorem dX2_done_164 : decode cX2_done 164 = .ok (.invokevirtual 210, 3) := dk_182 0 210 (dk_at dksX2_done_6 7 rfl rfl)
theorem dX2_done_167 : decode cX2_done 167 = .ok (.ifCond .eq 38, 3) := dk_153 0 38 (dk_at dksX2_done_6 10 rfl rfl)
theorem dX2_done_170 : decode cX2_done 170 = .ok (.iconst 3, 1) := dk_6 (dk_at dksX2_done_6 13 rfl rfl)
theorem dX2_done_171 : decode cX2_done 171 = .ok (.istore 10, 2) := dk_54 10 (dk_at dksX2_done_6 14 rfl rfl)
theorem dX2_done_173 : decode cX2_done 173 = .ok (.goto 32, 3) := dk_167 0 32 (dk_at dksX2_done_6 16 rfl rfl)
theorem dX2_done_176 : decode cX2_done 176 = .ok (.aload 9, 2) := dk_25 9 (dk_at dksX2_done_6 19 rfl rfl)
theorem dX2_done_178 : decode cX2_done 178 = .ok (.ldc 218, 2) := dk_18 218 (dk_at dksX2_done_6 21 rfl rfl)
theorem dX2_done_180 : decode cX2_done 180 = .ok (.invokevirtual 210, 3) := dk_182 0 210 (dk_at dksX2_done_7 0 rfl rfl)
theorem dX2_done_183 : decode cX2_done 183 = .ok (.ifCond .eq 22, 3) := dk_153 0 22 (dk_at dksX2_done_7 3 rfl rfl)
theorem dX2_done_186 : decode cX2_done 186 = .ok (.iconst 4, 1) := dk_7 (dk_at dksX2_done_7 6 rfl rfl)
theorem dX2_done_187 : decode cX2_done 187 = .ok (.istore 10, 2) := dk_54 10 (dk_at dksX2_done_7 7 rfl rfl)
theorem dX2_done_189 : decode cX2_done 189 = .ok (.goto 16, 3) := dk_167 0 16 (dk_at dksX2_done_7 9 rfl rfl)
theorem dX2_done_192 : decode cX2_done 192 = .ok (.aload 9, 2) := dk_25 9 (dk_at dksX2_done_7 12 rfl rfl)
theorem dX2_done_194 : decode cX2_done 194 = .ok (.ldc 220, 2) := dk_18 220 (dk_at dksX2_done_7 14 rfl rfl)
theorem dX2_done_196 : decode cX2_done 196 = .ok (.invokevirtual 210, 3) := dk_182 0 210 (dk_at dksX2_done_7 16 rfl rfl)
theorem dX2_done_199 : decode cX2_done 199 = .ok (.ifCond .eq 6, 3) := dk_153 0 6 (dk_at dksX2_done_7 19 rfl rfl)
theorem dX2_done_202 : decode cX2_done 202 = .ok (.iconst 5, 1) := dk_8 (dk_at dksX2_done_7 22 rfl rfl)
theorem dX2_done_203 : decode cX2_done 203 = .ok (.istore 10, 2) := dk_54 10 (dk_at dksX2_done_8 0 rfl rfl)
theorem dX2_done_205 : decode cX2_done 205 = .ok (.iload 10, 2) := dk_21 10 (dk_at dksX2_done_8 2 rfl rfl)
theorem dX2_done_207 : decode cX2_done 207 = .ok (.tableswitch 246 0 5 #[37, 46, 63, 159, 189, 220], 37) := by decide +kernel
theorem dX2_done_244 : decode cX2_done 244 = .ok (.iload 6, 2) := dk_21 6 (dk_at dksX2_done_10 0 rfl rfl)
theorem dX2_done_246 : decode cX2_done 246 = .ok (.aload 4, 2) := dk_25 4 (dk_at dksX2_done_10 2 rfl rfl)
theorem dX2_done_248 : decode cX2_done 248 = .ok (.getfield 222, 3) := dk_180 0 222 (dk_at dksX2_done_10 4 rfl rfl)
theorem dX2_done_251 : decode cX2_done 251 = .ok (.iadd, 1) := dk_96 (dk_at dksX2_done_10 7 rfl rfl)
theorem dX2_done_252 : decode cX2_done 252 = .ok (.ireturn, 1) := dk_172 (dk_at dksX2_done_10 8 rfl rfl)
theorem dX2_done_253 : decode cX2_done 253 = .ok (.aload_n 0, 1) := dk_42 (dk_at dksX2_done_10 9 rfl rfl)
theorem dX2_done_254 : decode cX2_done 254 = .ok (.aload_n 1, 1) := dk_43 (dk_at dksX2_done_10 10 rfl rfl)
theorem dX2_done_255 : decode cX2_done 255 = .ok (.aload 4, 2) := dk_25 4 (dk_at dksX2_done_10 11 rfl rfl)
theorem dX2_done_257 : decode cX2_done 257 = .ok (.getfield 222, 3) := dk_180 0 222 (dk_at dksX2_done_10 13 rfl rfl)
theorem dX2_done_260 : decode cX2_done 260 = .ok (.iload 6, 2) := dk_21 6 (dk_at dksX2_done_10 16 rfl rfl)
theorem dX2_done_262 : decode cX2_done 262 = .ok (.iload 7, 2) := dk_21 7 (dk_at dksX2_done_10 18 rfl rfl)
theorem dX2_done_264 : decode cX2_done 264 = .ok (.aload 8, 2) := dk_25 8 (dk_at dksX2_done_10 20 rfl rfl)
theorem dX2_done_266 : decode cX2_done 266 = .ok (.invokevirtual 61, 3) := dk_182 0 61 (dk_at dksX2_done_11 0 rfl rfl)
theorem dX2_done_269 : decode cX2_done 269 = .ok (.ireturn, 1) := dk_172 (dk_at dksX2_done_11 3 rfl rfl)
theorem dX2_done_270 : decode cX2_done 270 = .ok (.new 56, 3) := dk_187 0 56 (dk_at dksX2_done_11 4 rfl rfl)
theorem dX2_done_273 : decode cX2_done 273 = .ok (.dup, 1) := dk_89 (dk_at dksX2_done_11 7 rfl rfl)
theorem dX2_done_274 : decode cX2_done 274 = .ok (.aload_n 0, 1) := dk_42 (dk_at dksX2_done_11 8 rfl rfl)
theorem dX2_done_275 : decode cX2_done 275 = .ok (.getfield 3, 3) := dk_180 0 3 (dk_at dksX2_done_11 9 rfl rfl)
theorem dX2_done_278 : decode cX2_done 278 = .ok (.getfield 225, 3) := dk_180 0 225 (dk_at dksX2_done_11 12 rfl rfl)
theorem dX2_done_281 : decode cX2_done 281 = .ok (.aload 4, 2) := dk_25 4 (dk_at dksX2_done_11 15 rfl rfl)
theorem dX2_done_283 : decode cX2_done 283 = .ok (.getfield 222, 3) := dk_180 0 222 (dk_at dksX2_done_11 17 rfl rfl)
theorem dX2_done_286 : decode cX2_done 286 = .ok (.invokevirtual 86, 3) := dk_182 0 86 (dk_at dksX2_done_11 20 rfl rfl)
theorem dX2_done_289 : decode cX2_done 289 = .ok (.checkcast 168, 3) := dk_192 0 168 (dk_at dksX2_done_12 0 rfl rfl)
theorem dX2_done_292 : decode cX2_done 292 = .ok (.invokespecial 58, 3) := dk_183 0 58 (dk_at dksX2_done_12 3 rfl rfl)
theorem dX2_done_295 : decode cX2_done 295 = .ok (.astore 11, 2) := dk_58 11 (dk_at dksX2_done_12 6 rfl rfl)
theorem dX2_done_297 : decode cX2_done 297 = .ok (.aload_n 0, 1) := dk_42 (dk_at dksX2_done_12 8 rfl rfl)
theorem dX2_done_298 : decode cX2_done 298 = .ok (.bipush 109, 2) := dk_16 109 (dk_at dksX2_done_12 9 rfl rfl)
theorem dX2_done_300 : decode cX2_done 300 = .ok (.aload 4, 2) := dk_25 4 (dk_at dksX2_done_12 11 rfl rfl)
theorem dX2_done_302 : decode cX2_done 302 = .ok (.getfield 222, 3) := dk_180 0 222 (dk_at dksX2_done_12 13 rfl rfl)
theorem dX2_done_305 : decode cX2_done 305 = .ok (.aload 11, 2) := dk_25 11 (dk_at dksX2_done_12 16 rfl rfl)
theorem dX2_done_307 : decode cX2_done 307 = .ok (.getfield 156, 3) := dk_180 0 156 (dk_at dksX2_done_12 18 rfl rfl)
theorem dX2_done_310 : decode cX2_done 310 = .ok (.iload 6, 2) := dk_21 6 (dk_at dksX2_done_12 21 rfl rfl)
theorem dX2_done_312 : decode cX2_done 312 = .ok (.aload 8, 2) := dk_25 8 (dk_at dksX2_done_13 0 rfl rfl)
theorem dX2_done_314 : decode cX2_done 314 = .ok (.iload 7, 2) := dk_21 7 (dk_at dksX2_done_13 2 rfl rfl)
theorem dX2_done_316 : decode cX2_done 316 = .ok (.invokedynamic 228, 5) := by decide +kernel
theorem dX2_done_321 : decode cX2_done 321 = .ok (.invokevirtual 163, 3) := dk_182 0 163 (dk_at dksX2_done_13 9 rfl rfl)
theorem dX2_done_324 : decode cX2_done 324 = .ok (.istore 12, 2) := dk_54 12 (dk_at dksX2_done_13 12 rfl rfl)
theorem dX2_done_326 : decode cX2_done 326 = .ok (.aload_n 0, 1) := dk_42 (dk_at dksX2_done_13 14 rfl rfl)
theorem dX2_done_327 : decode cX2_done 327 = .ok (.aload 11, 2) := dk_25 11 (dk_at dksX2_done_13 15 rfl rfl)
theorem dX2_done_329 : decode cX2_done 329 = .ok (.aload 4, 2) := dk_25 4 (dk_at dksX2_done_13 17 rfl rfl)
theorem dX2_done_331 : decode cX2_done 331 = .ok (.getfield 231, 3) := dk_180 0 231 (dk_at dksX2_done_13 19 rfl rfl)
theorem dX2_done_334 : decode cX2_done 334 = .ok (.iload 12, 2) := dk_21 12 (dk_at dksX2_done_13 22 rfl rfl)
theorem dX2_done_336 : decode cX2_done 336 = .ok (.iload 7, 2) := dk_21 7 (dk_at dksX2_done_14 0 rfl rfl)
theorem dX2_done_338 : decode cX2_done 338 = .ok (.aload_n 0, 1) := dk_42 (dk_at dksX2_done_14 2 rfl rfl)
theorem dX2_done_339 : decode cX2_done 339 = .ok (.getfield 42, 3) := dk_180 0 42 (dk_at dksX2_done_14 3 rfl rfl)
theorem dX2_done_342 : decode cX2_done 342 = .ok (.ifCond .eq 19, 3) := dk_153 0 19 (dk_at dksX2_done_14 6 rfl rfl)
theorem dX2_done_345 : decode cX2_done 345 = .ok (.aload_n 0, 1) := dk_42 (dk_at dksX2_done_14 9 rfl rfl)
theorem dX2_done_346 : decode cX2_done 346 = .ok (.getfield 3, 3) := dk_180 0 3 (dk_at dksX2_done_14 10 rfl rfl)
theorem dX2_done_349 : decode cX2_done 349 = .ok (.aload_n 2, 1) := dk_44 (dk_at dksX2_done_14 13 rfl rfl)
theorem dX2_done_350 : decode cX2_done 350 = .ok (.iload_n 3, 1) := dk_29 (dk_at dksX2_done_14 14 rfl rfl)
theorem dX2_done_351 : decode cX2_done 351 = .ok (.iload 5, 2) := dk_21 5 (dk_at dksX2_done_14 15 rfl rfl)
theorem dX2_done_353 : decode cX2_done 353 = .ok (.iconst 1, 1) := dk_4 (dk_at dksX2_done_14 17 rfl rfl)
theorem dX2_done_354 : decode cX2_done 354 = .ok (.iadd, 1) := dk_96 (dk_at dksX2_done_14 18 rfl rfl)
theorem dX2_done_355 : decode cX2_done 355 = .ok (.invokevirtual 176, 3) := dk_182 0 176 (dk_at dksX2_done_14 19 rfl rfl)
theorem dX2_done_358 : decode cX2_done 358 = .ok (.goto 4, 3) := dk_167 0 4 (dk_at dksX2_done_15 0 rfl rfl)
theorem dX2_done_361 : decode cX2_done 361 = .ok (.aconst_null, 1) := dk_1 (dk_at dksX2_done_15 3 rfl rfl)
theorem dX2_done_362 : decode cX2_done 362 = .ok (.invokevirtual 61, 3) := dk_182 0 61 (dk_at dksX2_done_15 4 rfl rfl)
theorem dX2_done_365 : decode cX2_done 365 = .ok (.ireturn, 1) := dk_172 (dk_at dksX2_done_15 7 rfl rfl)
theorem dX2_done_366 : decode cX2_done 366 = .ok (.aload_n 0, 1) := dk_42 (dk_at dksX2_done_15 8 rfl rfl)
theorem dX2_done_367 : decode cX2_done 367 = .ok (.bipush 103, 2) := dk_16 103 (dk_at dksX2_done_15 9 rfl rfl)
theorem dX2_done_369 : decode cX2_done 369 = .ok (.aload 4, 2) := dk_25 4 (dk_at dksX2_done_15 11 rfl rfl)
theorem dX2_done_371 : decode cX2_done 371 = .ok (.getfield 222, 3) := dk_180 0 222 (dk_at dksX2_done_15 13 rfl rfl)
theorem dX2_done_374 : decode cX2_done 374 = .ok (.aload_n 1, 1) := dk_43 (dk_at dksX2_done_15 16 rfl rfl)
theorem dX2_done_375 : decode cX2_done 375 = .ok (.getfield 156, 3) := dk_180 0 156 (dk_at dksX2_done_15 17 rfl rfl)
theorem dX2_done_378 : decode cX2_done 378 = .ok (.iload 6, 2) := dk_21 6 (dk_at dksX2_done_15 20 rfl rfl)
theorem dX2_done_380 : decode cX2_done 380 = .ok (.aload 8, 2) := dk_25 8 (dk_at dksX2_done_15 22 rfl rfl)
theorem dX2_done_382 : decode cX2_done 382 = .ok (.iload 7, 2) := dk_21 7 (dk_at dksX2_done_16 0 rfl rfl)
theorem dX2_done_384 : decode cX2_done 384 = .ok (.aload_n 1, 1) := dk_43 (dk_at dksX2_done_16 2 rfl rfl)
theorem dX2_done_385 : decode cX2_done 385 = .ok (.aload 4, 2) := dk_25 4 (dk_at dksX2_done_16 3 rfl rfl)
theorem dX2_done_387 : decode cX2_done 387 = .ok (.invokedynamic 234, 5) := by decide +kernel
theorem dX2_done_392 : decode cX2_done 392 = .ok (.invokevirtual 163, 3) := dk_182 0 163 (dk_at dksX2_done_16 10 rfl rfl)
theorem dX2_done_395 : decode cX2_done 395 = .ok (.ireturn, 1) := dk_172 (dk_at dksX2_done_16 13 rfl rfl)
theorem dX2_done_396 : decode cX2_done 396 = .ok (.aload_n 0, 1) := dk_42 (dk_at dksX2_done_16 14 rfl rfl)
theorem dX2_done_397 : decode cX2_done 397 = .ok (.bipush 115, 2) := dk_16 115 (dk_at dksX2_done_16 15 rfl rfl)
theorem dX2_done_399 : decode cX2_done 399 = .ok (.aload 4, 2) := dk_25 4 (dk_at dksX2_done_16 17 rfl rfl)
theorem dX2_done_401 : decode cX2_done 401 = .ok (.getfield 222, 3) := dk_180 0 222 (dk_at dksX2_done_16 19 rfl rfl)
theorem dX2_done_404 : decode cX2_done 404 = .ok (.aload_n 1, 1) := dk_43 (dk_at dksX2_done_16 22 rfl rfl)
theorem dX2_done_405 : decode cX2_done 405 = .ok (.getfield 156, 3) := dk_180 0 156 (dk_at dksX2_done_17 0 rfl rfl)
theorem dX2_done_408 : decode cX2_done 408 = .ok (.iload 6, 2) := dk_21 6 (dk_at dksX2_done_17 3 rfl rfl)
theorem dX2_done_410 : decode cX2_done 410 = .ok (.aload 8, 2) := dk_25 8 (dk_at dksX2_done_17 5 rfl rfl)
theorem dX2_done_412 : decode cX2_done 412 = .ok (.iload 7, 2) := dk_21 7 (dk_at dksX2_done_17 7 rfl rfl)
theorem dX2_done_414 : decode cX2_done 414 = .ok (.aload_n 0, 1) := dk_42 (dk_at dksX2_done_17 9 rfl rfl)
theorem dX2_done_415 : decode cX2_done 415 = .ok (.aload_n 1, 1) := dk_43 (dk_at dksX2_done_17 10 rfl rfl)
theorem dX2_done_416 : decode cX2_done 416 = .ok (.aload 4, 2) := dk_25 4 (dk_at dksX2_done_17 11 rfl rfl)
theorem dX2_done_418 : decode cX2_done 418 = .ok (.invokedynamic 237, 5) := by decide +kernel
theorem dX2_done_423 : decode cX2_done 423 = .ok (.invokevirtual 163, 3) := dk_182 0 163 (dk_at dksX2_done_17 18 rfl rfl)
theorem dX2_done_426 : decode cX2_done 426 = .ok (.ireturn, 1) := dk_172 (dk_at dksX2_done_17 21 rfl rfl)
theorem dX2_done_427 : decode cX2_done 427 = .ok (.iload 6, 2) := dk_21 6 (dk_at dksX2_done_17 22 rfl rfl)
theorem dX2_done_429 : decode cX2_done 429 = .ok (.aload 4, 2) := dk_25 4 (dk_at dksX2_done_18 0 rfl rfl)
theorem dX2_done_431 : decode cX2_done 431 = .ok (.getfield 231, 3) := dk_180 0 231 (dk_at dksX2_done_18 2 rfl rfl)
theorem dX2_done_434 : decode cX2_done 434 = .ok (.if_icmp .le 16, 3) := dk_164 0 16 (dk_at dksX2_done_18 5 rfl rfl)
theorem dX2_done_437 : decode cX2_done 437 = .ok (.new 65, 3) := dk_187 0 65 (dk_at dksX2_done_18 8 rfl rfl)
theorem dX2_done_440 : decode cX2_done 440 = .ok (.dup, 1) := dk_89 (dk_at dksX2_done_18 11 rfl rfl)
theorem dX2_done_441 : decode cX2_done 441 = .ok (.aload 4, 2) := dk_25 4 (dk_at dksX2_done_18 12 rfl rfl)
theorem dX2_done_443 : decode cX2_done 443 = .ok (.getfield 222, 3) := dk_180 0 222 (dk_at dksX2_done_18 14 rfl rfl)
theorem dX2_done_446 : decode cX2_done 446 = .ok (.invokespecial 173, 3) := dk_183 0 173 (dk_at dksX2_done_18 17 rfl rfl)
theorem dX2_done_449 : decode cX2_done 449 = .ok (.athrow, 1) := dk_191 (dk_at dksX2_done_18 20 rfl rfl)
theorem dX2_done_450 : decode cX2_done 450 = .ok (.iload 6, 2) := dk_21 6 (dk_at dksX2_done_18 21 rfl rfl)
theorem dX2_done_452 : decode cX2_done 452 = .ok (.ireturn, 1) := dk_172 (dk_at dksX2_done_18 23 rfl rfl)
theorem dX2_done_453 : decode cX2_done 453 = .ok (.iload 6, 2) := dk_21 6 (dk_at dksX2_done_19 0 rfl rfl)
theorem dX2_done_455 : decode cX2_done 455 = .ok (.ireturn, 1) := dk_172 (dk_at dksX2_done_19 2 rfl rfl)
abbrev cX2_lambda_done_2 : ByteArray := prog_14_method_18_code
def yX2_lambda_done_2 : MethodName := ⟨RX2, "lambda$done$2", "(I)I"⟩
theorem dX2_lambda_done_2_0 : decode cX2_lambda_done_2 0 = .ok (.iload_n 0, 1) := by decide +kernel
theorem dX2_lambda_done_2_1 : decode cX2_lambda_done_2 1 = .ok (.ireturn, 1) := by decide +kernel
abbrev cX2_point : ByteArray := prog_14_method_5_code
def yX2_point : MethodName := ⟨RX2, "point", "(CILWeaversgate$Type;ILWeaversgate$Place;ILWeaversgate$Act;)I"⟩
def dkwX2_point_4 : List UInt8 := [42, 25, 8, 181, 0, 46, 21, 10, 172, 58, 11, 42, 25, 8, 181, 0, 46, 25, 11, 191]
abbrev dktX2_point_4 : List UInt8 := dkwX2_point_4 ++ []
def dkwX2_point_3 : List UInt8 := [42, 180, 0, 46, 25, 5, 182, 0, 123, 54, 9, 42, 21, 9, 3, 21, 4, 25, 7, 182, 0, 127, 54, 10]
abbrev dktX2_point_3 : List UInt8 := dkwX2_point_3 ++ dktX2_point_4
def dkwX2_point_2 : List UInt8 := [181, 0, 36, 42, 187, 0, 115, 89, 27, 28, 45, 21, 6, 21, 4, 25, 8, 183, 0, 120, 181, 0, 46, 42]
abbrev dktX2_point_2 : List UInt8 := dkwX2_point_2 ++ dktX2_point_3
def dkwX2_point_1 : List UInt8 := [182, 0, 114, 16, 20, 160, 0, 11, 187, 0, 70, 89, 183, 0, 119, 191, 42, 89, 180, 0, 36, 4, 96]
abbrev dktX2_point_1 : List UInt8 := dkwX2_point_1 ++ dktX2_point_2
def dkwX2_point_0 : List UInt8 := [42, 180, 0, 46, 58, 8, 42, 180, 0, 36, 16, 120, 159, 0, 18, 25, 8, 198, 0, 21, 25, 8]
abbrev dktX2_point_0 : List UInt8 := dkwX2_point_0 ++ dktX2_point_1
theorem dksX2_point_0 : cX2_point.data.toList.drop 0 = dktX2_point_0 := by decide +kernel
theorem dksX2_point_1 : cX2_point.data.toList.drop 22 = dktX2_point_1 := dk_seg dksX2_point_0 22 rfl rfl
theorem dksX2_point_2 : cX2_point.data.toList.drop 45 = dktX2_point_2 := dk_seg dksX2_point_1 23 rfl rfl
theorem dksX2_point_3 : cX2_point.data.toList.drop 69 = dktX2_point_3 := dk_seg dksX2_point_2 24 rfl rfl
theorem dksX2_point_4 : cX2_point.data.toList.drop 93 = dktX2_point_4 := dk_seg dksX2_point_3 24 rfl rfl
theorem dX2_point_0 : decode cX2_point 0 = .ok (.aload_n 0, 1) := dk_42 (dk_at dksX2_point_0 0 rfl rfl)
theorem dX2_point_1 : decode cX2_point 1 = .ok (.getfield 46, 3) := dk_180 0 46 (dk_at dksX2_point_0 1 rfl rfl)
theorem dX2_point_4 : decode cX2_point 4 = .ok (.astore 8, 2) := dk_58 8 (dk_at dksX2_point_0 4 rfl rfl)
theorem dX2_point_6 : decode cX2_point 6 = .ok (.aload_n 0, 1) := dk_42 (dk_at dksX2_point_0 6 rfl rfl)
theorem dX2_point_7 : decode cX2_point 7 = .ok (.getfield 36, 3) := dk_180 0 36 (dk_at dksX2_point_0 7 rfl rfl)
theorem dX2_point_10 : decode cX2_point 10 = .ok (.bipush 120, 2) := dk_16 120 (dk_at dksX2_point_0 10 rfl rfl)
theorem dX2_point_12 : decode cX2_point 12 = .ok (.if_icmp .eq 18, 3) := dk_159 0 18 (dk_at dksX2_point_0 12 rfl rfl)
theorem dX2_point_15 : decode cX2_point 15 = .ok (.aload 8, 2) := dk_25 8 (dk_at dksX2_point_0 15 rfl rfl)
theorem dX2_point_17 : decode cX2_point 17 = .ok (.ifnull 21, 3) := dk_198 0 21 (dk_at dksX2_point_0 17 rfl rfl)
theorem dX2_point_20 : decode cX2_point 20 = .ok (.aload 8, 2) := dk_25 8 (dk_at dksX2_point_0 20 rfl rfl)
theorem dX2_point_22 : decode cX2_point 22 = .ok (.invokevirtual 114, 3) := dk_182 0 114 (dk_at dksX2_point_1 0 rfl rfl)
theorem dX2_point_25 : decode cX2_point 25 = .ok (.bipush 20, 2) := dk_16 20 (dk_at dksX2_point_1 3 rfl rfl)
theorem dX2_point_27 : decode cX2_point 27 = .ok (.if_icmp .ne 11, 3) := dk_160 0 11 (dk_at dksX2_point_1 5 rfl rfl)
theorem dX2_point_30 : decode cX2_point 30 = .ok (.new 70, 3) := dk_187 0 70 (dk_at dksX2_point_1 8 rfl rfl)
theorem dX2_point_33 : decode cX2_point 33 = .ok (.dup, 1) := dk_89 (dk_at dksX2_point_1 11 rfl rfl)
theorem dX2_point_34 : decode cX2_point 34 = .ok (.invokespecial 119, 3) := dk_183 0 119 (dk_at dksX2_point_1 12 rfl rfl)
theorem dX2_point_37 : decode cX2_point 37 = .ok (.athrow, 1) := dk_191 (dk_at dksX2_point_1 15 rfl rfl)
theorem dX2_point_38 : decode cX2_point 38 = .ok (.aload_n 0, 1) := dk_42 (dk_at dksX2_point_1 16 rfl rfl)
theorem dX2_point_39 : decode cX2_point 39 = .ok (.dup, 1) := dk_89 (dk_at dksX2_point_1 17 rfl rfl)
theorem dX2_point_40 : decode cX2_point 40 = .ok (.getfield 36, 3) := dk_180 0 36 (dk_at dksX2_point_1 18 rfl rfl)
theorem dX2_point_43 : decode cX2_point 43 = .ok (.iconst 1, 1) := dk_4 (dk_at dksX2_point_1 21 rfl rfl)
theorem dX2_point_44 : decode cX2_point 44 = .ok (.iadd, 1) := dk_96 (dk_at dksX2_point_1 22 rfl rfl)
theorem dX2_point_45 : decode cX2_point 45 = .ok (.putfield 36, 3) := dk_181 0 36 (dk_at dksX2_point_2 0 rfl rfl)
theorem dX2_point_48 : decode cX2_point 48 = .ok (.aload_n 0, 1) := dk_42 (dk_at dksX2_point_2 3 rfl rfl)
theorem dX2_point_49 : decode cX2_point 49 = .ok (.new 115, 3) := dk_187 0 115 (dk_at dksX2_point_2 4 rfl rfl)
theorem dX2_point_52 : decode cX2_point 52 = .ok (.dup, 1) := dk_89 (dk_at dksX2_point_2 7 rfl rfl)
theorem dX2_point_53 : decode cX2_point 53 = .ok (.iload_n 1, 1) := dk_27 (dk_at dksX2_point_2 8 rfl rfl)
theorem dX2_point_54 : decode cX2_point 54 = .ok (.iload_n 2, 1) := dk_28 (dk_at dksX2_point_2 9 rfl rfl)
theorem dX2_point_55 : decode cX2_point 55 = .ok (.aload_n 3, 1) := dk_45 (dk_at dksX2_point_2 10 rfl rfl)
theorem dX2_point_56 : decode cX2_point 56 = .ok (.iload 6, 2) := dk_21 6 (dk_at dksX2_point_2 11 rfl rfl)
theorem dX2_point_58 : decode cX2_point 58 = .ok (.iload 4, 2) := dk_21 4 (dk_at dksX2_point_2 13 rfl rfl)
theorem dX2_point_60 : decode cX2_point 60 = .ok (.aload 8, 2) := dk_25 8 (dk_at dksX2_point_2 15 rfl rfl)
theorem dX2_point_62 : decode cX2_point 62 = .ok (.invokespecial 120, 3) := dk_183 0 120 (dk_at dksX2_point_2 17 rfl rfl)
theorem dX2_point_65 : decode cX2_point 65 = .ok (.putfield 46, 3) := dk_181 0 46 (dk_at dksX2_point_2 20 rfl rfl)
theorem dX2_point_68 : decode cX2_point 68 = .ok (.aload_n 0, 1) := dk_42 (dk_at dksX2_point_2 23 rfl rfl)
theorem dX2_point_69 : decode cX2_point 69 = .ok (.aload_n 0, 1) := dk_42 (dk_at dksX2_point_3 0 rfl rfl)
theorem dX2_point_70 : decode cX2_point 70 = .ok (.getfield 46, 3) := dk_180 0 46 (dk_at dksX2_point_3 1 rfl rfl)
theorem dX2_point_73 : decode cX2_point 73 = .ok (.aload 5, 2) := dk_25 5 (dk_at dksX2_point_3 4 rfl rfl)
theorem dX2_point_75 : decode cX2_point 75 = .ok (.invokevirtual 123, 3) := dk_182 0 123 (dk_at dksX2_point_3 6 rfl rfl)
theorem dX2_point_78 : decode cX2_point 78 = .ok (.istore 9, 2) := dk_54 9 (dk_at dksX2_point_3 9 rfl rfl)
theorem dX2_point_80 : decode cX2_point 80 = .ok (.aload_n 0, 1) := dk_42 (dk_at dksX2_point_3 11 rfl rfl)
theorem dX2_point_81 : decode cX2_point 81 = .ok (.iload 9, 2) := dk_21 9 (dk_at dksX2_point_3 12 rfl rfl)
theorem dX2_point_83 : decode cX2_point 83 = .ok (.iconst 0, 1) := dk_3 (dk_at dksX2_point_3 14 rfl rfl)
theorem dX2_point_84 : decode cX2_point 84 = .ok (.iload 4, 2) := dk_21 4 (dk_at dksX2_point_3 15 rfl rfl)
theorem dX2_point_86 : decode cX2_point 86 = .ok (.aload 7, 2) := dk_25 7 (dk_at dksX2_point_3 17 rfl rfl)
theorem dX2_point_88 : decode cX2_point 88 = .ok (.invokevirtual 127, 3) := dk_182 0 127 (dk_at dksX2_point_3 19 rfl rfl)
theorem dX2_point_91 : decode cX2_point 91 = .ok (.istore 10, 2) := dk_54 10 (dk_at dksX2_point_3 22 rfl rfl)
theorem dX2_point_93 : decode cX2_point 93 = .ok (.aload_n 0, 1) := dk_42 (dk_at dksX2_point_4 0 rfl rfl)
theorem dX2_point_94 : decode cX2_point 94 = .ok (.aload 8, 2) := dk_25 8 (dk_at dksX2_point_4 1 rfl rfl)
theorem dX2_point_96 : decode cX2_point 96 = .ok (.putfield 46, 3) := dk_181 0 46 (dk_at dksX2_point_4 3 rfl rfl)
theorem dX2_point_99 : decode cX2_point 99 = .ok (.iload 10, 2) := dk_21 10 (dk_at dksX2_point_4 6 rfl rfl)
theorem dX2_point_101 : decode cX2_point 101 = .ok (.ireturn, 1) := dk_172 (dk_at dksX2_point_4 8 rfl rfl)
theorem dX2_point_102 : decode cX2_point 102 = .ok (.astore 11, 2) := dk_58 11 (dk_at dksX2_point_4 9 rfl rfl)
theorem dX2_point_104 : decode cX2_point 104 = .ok (.aload_n 0, 1) := dk_42 (dk_at dksX2_point_4 11 rfl rfl)
theorem dX2_point_105 : decode cX2_point 105 = .ok (.aload 8, 2) := dk_25 8 (dk_at dksX2_point_4 12 rfl rfl)
theorem dX2_point_107 : decode cX2_point 107 = .ok (.putfield 46, 3) := dk_181 0 46 (dk_at dksX2_point_4 14 rfl rfl)
theorem dX2_point_110 : decode cX2_point 110 = .ok (.aload 11, 2) := dk_25 11 (dk_at dksX2_point_4 17 rfl rfl)
theorem dX2_point_112 : decode cX2_point 112 = .ok (.athrow, 1) := dk_191 (dk_at dksX2_point_4 19 rfl rfl)
abbrev cX2_chosen : ByteArray := prog_14_method_4_code
def yX2_chosen : MethodName := ⟨RX2, "chosen", "(LWeaversgate$Point;LWeaversgate$Place;)I"⟩
def dkwX2_chosen_6 : List UInt8 := [153, 0, 10, 4, 21, 4, 120, 167, 0, 4, 3, 128, 62, 132, 4, 1, 167, 255, 105, 29, 172]
abbrev dktX2_chosen_6 : List UInt8 := dkwX2_chosen_6 ++ []
def dkwX2_chosen_5 : List UInt8 := [180, 0, 93, 43, 185, 0, 110, 2, 0, 153, 0, 7, 4, 167, 0, 4, 3, 54, 7, 29, 21, 7]
abbrev dktX2_chosen_5 : List UInt8 := dkwX2_chosen_5 ++ dktX2_chosen_6
def dkwX2_chosen_4 : List UInt8 := [153, 0, 22, 25, 5, 180, 0, 93, 44, 185, 0, 106, 2, 0, 16, 121, 160, 0, 24, 167, 0, 17, 25, 5]
abbrev dktX2_chosen_4 : List UInt8 := dkwX2_chosen_4 ++ dktX2_chosen_5
def dkwX2_chosen_3 : List UInt8 := [21, 6, 154, 0, 7, 4, 167, 0, 4, 3, 96, 181, 0, 39, 25, 5, 180, 0, 103, 153, 0, 45, 21, 6]
abbrev dktX2_chosen_3 : List UInt8 := dkwX2_chosen_3 ++ dktX2_chosen_4
def dkwX2_chosen_2 : List UInt8 := [154, 0, 7, 4, 167, 0, 4, 3, 54, 6, 42, 89, 180, 0, 39, 25, 5, 180, 0, 103, 153, 0, 12]
abbrev dktX2_chosen_2 : List UInt8 := dkwX2_chosen_2 ++ dktX2_chosen_3
def dkwX2_chosen_1 : List UInt8 := [21, 4, 50, 58, 5, 42, 180, 0, 42, 153, 0, 21, 25, 5, 180, 0, 93, 44, 185, 0, 97, 2, 0]
abbrev dktX2_chosen_1 : List UInt8 := dkwX2_chosen_1 ++ dktX2_chosen_2
def dkwX2_chosen_0 : List UInt8 := [3, 62, 3, 54, 4, 21, 4, 42, 180, 0, 3, 180, 0, 76, 182, 0, 80, 162, 0, 142, 42, 180, 0, 24]
abbrev dktX2_chosen_0 : List UInt8 := dkwX2_chosen_0 ++ dktX2_chosen_1
theorem dksX2_chosen_0 : cX2_chosen.data.toList.drop 0 = dktX2_chosen_0 := by decide +kernel
theorem dksX2_chosen_1 : cX2_chosen.data.toList.drop 24 = dktX2_chosen_1 := dk_seg dksX2_chosen_0 24 rfl rfl
theorem dksX2_chosen_2 : cX2_chosen.data.toList.drop 47 = dktX2_chosen_2 := dk_seg dksX2_chosen_1 23 rfl rfl
theorem dksX2_chosen_3 : cX2_chosen.data.toList.drop 70 = dktX2_chosen_3 := dk_seg dksX2_chosen_2 23 rfl rfl
theorem dksX2_chosen_4 : cX2_chosen.data.toList.drop 94 = dktX2_chosen_4 := dk_seg dksX2_chosen_3 24 rfl rfl
theorem dksX2_chosen_5 : cX2_chosen.data.toList.drop 118 = dktX2_chosen_5 := dk_seg dksX2_chosen_4 24 rfl rfl
theorem dksX2_chosen_6 : cX2_chosen.data.toList.drop 140 = dktX2_chosen_6 := dk_seg dksX2_chosen_5 22 rfl rfl
theorem dX2_chosen_0 : decode cX2_chosen 0 = .ok (.iconst 0, 1) := dk_3 (dk_at dksX2_chosen_0 0 rfl rfl)
theorem dX2_chosen_1 : decode cX2_chosen 1 = .ok (.istore_n 3, 1) := dk_62 (dk_at dksX2_chosen_0 1 rfl rfl)
theorem dX2_chosen_2 : decode cX2_chosen 2 = .ok (.iconst 0, 1) := dk_3 (dk_at dksX2_chosen_0 2 rfl rfl)
theorem dX2_chosen_3 : decode cX2_chosen 3 = .ok (.istore 4, 2) := dk_54 4 (dk_at dksX2_chosen_0 3 rfl rfl)
theorem dX2_chosen_5 : decode cX2_chosen 5 = .ok (.iload 4, 2) := dk_21 4 (dk_at dksX2_chosen_0 5 rfl rfl)
theorem dX2_chosen_7 : decode cX2_chosen 7 = .ok (.aload_n 0, 1) := dk_42 (dk_at dksX2_chosen_0 7 rfl rfl)
theorem dX2_chosen_8 : decode cX2_chosen 8 = .ok (.getfield 3, 3) := dk_180 0 3 (dk_at dksX2_chosen_0 8 rfl rfl)
theorem dX2_chosen_11 : decode cX2_chosen 11 = .ok (.getfield 76, 3) := dk_180 0 76 (dk_at dksX2_chosen_0 11 rfl rfl)
theorem dX2_chosen_14 : decode cX2_chosen 14 = .ok (.invokevirtual 80, 3) := dk_182 0 80 (dk_at dksX2_chosen_0 14 rfl rfl)
theorem dX2_chosen_17 : decode cX2_chosen 17 = .ok (.if_icmp .ge 142, 3) := dk_162 0 142 (dk_at dksX2_chosen_0 17 rfl rfl)
theorem dX2_chosen_20 : decode cX2_chosen 20 = .ok (.aload_n 0, 1) := dk_42 (dk_at dksX2_chosen_0 20 rfl rfl)
theorem dX2_chosen_21 : decode cX2_chosen 21 = .ok (.getfield 24, 3) := dk_180 0 24 (dk_at dksX2_chosen_0 21 rfl rfl)
theorem dX2_chosen_24 : decode cX2_chosen 24 = .ok (.iload 4, 2) := dk_21 4 (dk_at dksX2_chosen_1 0 rfl rfl)
theorem dX2_chosen_26 : decode cX2_chosen 26 = .ok (.aaload, 1) := dk_50 (dk_at dksX2_chosen_1 2 rfl rfl)
theorem dX2_chosen_27 : decode cX2_chosen 27 = .ok (.astore 5, 2) := dk_58 5 (dk_at dksX2_chosen_1 3 rfl rfl)
theorem dX2_chosen_29 : decode cX2_chosen 29 = .ok (.aload_n 0, 1) := dk_42 (dk_at dksX2_chosen_1 5 rfl rfl)
theorem dX2_chosen_30 : decode cX2_chosen 30 = .ok (.getfield 42, 3) := dk_180 0 42 (dk_at dksX2_chosen_1 6 rfl rfl)
theorem dX2_chosen_33 : decode cX2_chosen 33 = .ok (.ifCond .eq 21, 3) := dk_153 0 21 (dk_at dksX2_chosen_1 9 rfl rfl)
theorem dX2_chosen_36 : decode cX2_chosen 36 = .ok (.aload 5, 2) := dk_25 5 (dk_at dksX2_chosen_1 12 rfl rfl)
theorem dX2_chosen_38 : decode cX2_chosen 38 = .ok (.getfield 93, 3) := dk_180 0 93 (dk_at dksX2_chosen_1 14 rfl rfl)
theorem dX2_chosen_41 : decode cX2_chosen 41 = .ok (.aload_n 2, 1) := dk_44 (dk_at dksX2_chosen_1 17 rfl rfl)
theorem dX2_chosen_42 : decode cX2_chosen 42 = .ok (.invokeinterface 97 2, 5) := by decide +kernel
theorem dX2_chosen_47 : decode cX2_chosen 47 = .ok (.ifCond .ne 7, 3) := dk_154 0 7 (dk_at dksX2_chosen_2 0 rfl rfl)
theorem dX2_chosen_50 : decode cX2_chosen 50 = .ok (.iconst 1, 1) := dk_4 (dk_at dksX2_chosen_2 3 rfl rfl)
theorem dX2_chosen_51 : decode cX2_chosen 51 = .ok (.goto 4, 3) := dk_167 0 4 (dk_at dksX2_chosen_2 4 rfl rfl)
theorem dX2_chosen_54 : decode cX2_chosen 54 = .ok (.iconst 0, 1) := dk_3 (dk_at dksX2_chosen_2 7 rfl rfl)
theorem dX2_chosen_55 : decode cX2_chosen 55 = .ok (.istore 6, 2) := dk_54 6 (dk_at dksX2_chosen_2 8 rfl rfl)
theorem dX2_chosen_57 : decode cX2_chosen 57 = .ok (.aload_n 0, 1) := dk_42 (dk_at dksX2_chosen_2 10 rfl rfl)
theorem dX2_chosen_58 : decode cX2_chosen 58 = .ok (.dup, 1) := dk_89 (dk_at dksX2_chosen_2 11 rfl rfl)
theorem dX2_chosen_59 : decode cX2_chosen 59 = .ok (.getfield 39, 3) := dk_180 0 39 (dk_at dksX2_chosen_2 12 rfl rfl)
theorem dX2_chosen_62 : decode cX2_chosen 62 = .ok (.aload 5, 2) := dk_25 5 (dk_at dksX2_chosen_2 15 rfl rfl)
theorem dX2_chosen_64 : decode cX2_chosen 64 = .ok (.getfield 103, 3) := dk_180 0 103 (dk_at dksX2_chosen_2 17 rfl rfl)
theorem dX2_chosen_67 : decode cX2_chosen 67 = .ok (.ifCond .eq 12, 3) := dk_153 0 12 (dk_at dksX2_chosen_2 20 rfl rfl)
theorem dX2_chosen_70 : decode cX2_chosen 70 = .ok (.iload 6, 2) := dk_21 6 (dk_at dksX2_chosen_3 0 rfl rfl)
theorem dX2_chosen_72 : decode cX2_chosen 72 = .ok (.ifCond .ne 7, 3) := dk_154 0 7 (dk_at dksX2_chosen_3 2 rfl rfl)
theorem dX2_chosen_75 : decode cX2_chosen 75 = .ok (.iconst 1, 1) := dk_4 (dk_at dksX2_chosen_3 5 rfl rfl)
theorem dX2_chosen_76 : decode cX2_chosen 76 = .ok (.goto 4, 3) := dk_167 0 4 (dk_at dksX2_chosen_3 6 rfl rfl)
theorem dX2_chosen_79 : decode cX2_chosen 79 = .ok (.iconst 0, 1) := dk_3 (dk_at dksX2_chosen_3 9 rfl rfl)
theorem dX2_chosen_80 : decode cX2_chosen 80 = .ok (.iadd, 1) := dk_96 (dk_at dksX2_chosen_3 10 rfl rfl)
theorem dX2_chosen_81 : decode cX2_chosen 81 = .ok (.putfield 39, 3) := dk_181 0 39 (dk_at dksX2_chosen_3 11 rfl rfl)
theorem dX2_chosen_84 : decode cX2_chosen 84 = .ok (.aload 5, 2) := dk_25 5 (dk_at dksX2_chosen_3 14 rfl rfl)
theorem dX2_chosen_86 : decode cX2_chosen 86 = .ok (.getfield 103, 3) := dk_180 0 103 (dk_at dksX2_chosen_3 16 rfl rfl)
theorem dX2_chosen_89 : decode cX2_chosen 89 = .ok (.ifCond .eq 45, 3) := dk_153 0 45 (dk_at dksX2_chosen_3 19 rfl rfl)
theorem dX2_chosen_92 : decode cX2_chosen 92 = .ok (.iload 6, 2) := dk_21 6 (dk_at dksX2_chosen_3 22 rfl rfl)
theorem dX2_chosen_94 : decode cX2_chosen 94 = .ok (.ifCond .eq 22, 3) := dk_153 0 22 (dk_at dksX2_chosen_4 0 rfl rfl)
theorem dX2_chosen_97 : decode cX2_chosen 97 = .ok (.aload 5, 2) := dk_25 5 (dk_at dksX2_chosen_4 3 rfl rfl)
theorem dX2_chosen_99 : decode cX2_chosen 99 = .ok (.getfield 93, 3) := dk_180 0 93 (dk_at dksX2_chosen_4 5 rfl rfl)
theorem dX2_chosen_102 : decode cX2_chosen 102 = .ok (.aload_n 2, 1) := dk_44 (dk_at dksX2_chosen_4 8 rfl rfl)
theorem dX2_chosen_103 : decode cX2_chosen 103 = .ok (.invokeinterface 106 2, 5) := by decide +kernel
theorem dX2_chosen_108 : decode cX2_chosen 108 = .ok (.bipush 121, 2) := dk_16 121 (dk_at dksX2_chosen_4 14 rfl rfl)
theorem dX2_chosen_110 : decode cX2_chosen 110 = .ok (.if_icmp .ne 24, 3) := dk_160 0 24 (dk_at dksX2_chosen_4 16 rfl rfl)
theorem dX2_chosen_113 : decode cX2_chosen 113 = .ok (.goto 17, 3) := dk_167 0 17 (dk_at dksX2_chosen_4 19 rfl rfl)
theorem dX2_chosen_116 : decode cX2_chosen 116 = .ok (.aload 5, 2) := dk_25 5 (dk_at dksX2_chosen_4 22 rfl rfl)
theorem dX2_chosen_118 : decode cX2_chosen 118 = .ok (.getfield 93, 3) := dk_180 0 93 (dk_at dksX2_chosen_5 0 rfl rfl)
theorem dX2_chosen_121 : decode cX2_chosen 121 = .ok (.aload_n 1, 1) := dk_43 (dk_at dksX2_chosen_5 3 rfl rfl)
theorem dX2_chosen_122 : decode cX2_chosen 122 = .ok (.invokeinterface 110 2, 5) := by decide +kernel
theorem dX2_chosen_127 : decode cX2_chosen 127 = .ok (.ifCond .eq 7, 3) := dk_153 0 7 (dk_at dksX2_chosen_5 9 rfl rfl)
theorem dX2_chosen_130 : decode cX2_chosen 130 = .ok (.iconst 1, 1) := dk_4 (dk_at dksX2_chosen_5 12 rfl rfl)
theorem dX2_chosen_131 : decode cX2_chosen 131 = .ok (.goto 4, 3) := dk_167 0 4 (dk_at dksX2_chosen_5 13 rfl rfl)
theorem dX2_chosen_134 : decode cX2_chosen 134 = .ok (.iconst 0, 1) := dk_3 (dk_at dksX2_chosen_5 16 rfl rfl)
theorem dX2_chosen_135 : decode cX2_chosen 135 = .ok (.istore 7, 2) := dk_54 7 (dk_at dksX2_chosen_5 17 rfl rfl)
theorem dX2_chosen_137 : decode cX2_chosen 137 = .ok (.iload_n 3, 1) := dk_29 (dk_at dksX2_chosen_5 19 rfl rfl)
theorem dX2_chosen_138 : decode cX2_chosen 138 = .ok (.iload 7, 2) := dk_21 7 (dk_at dksX2_chosen_5 20 rfl rfl)
theorem dX2_chosen_140 : decode cX2_chosen 140 = .ok (.ifCond .eq 10, 3) := dk_153 0 10 (dk_at dksX2_chosen_6 0 rfl rfl)
theorem dX2_chosen_143 : decode cX2_chosen 143 = .ok (.iconst 1, 1) := dk_4 (dk_at dksX2_chosen_6 3 rfl rfl)
theorem dX2_chosen_144 : decode cX2_chosen 144 = .ok (.iload 4, 2) := dk_21 4 (dk_at dksX2_chosen_6 4 rfl rfl)
theorem dX2_chosen_146 : decode cX2_chosen 146 = .ok (.ishl, 1) := dk_120 (dk_at dksX2_chosen_6 6 rfl rfl)
theorem dX2_chosen_147 : decode cX2_chosen 147 = .ok (.goto 4, 3) := dk_167 0 4 (dk_at dksX2_chosen_6 7 rfl rfl)
theorem dX2_chosen_150 : decode cX2_chosen 150 = .ok (.iconst 0, 1) := dk_3 (dk_at dksX2_chosen_6 10 rfl rfl)
theorem dX2_chosen_151 : decode cX2_chosen 151 = .ok (.ior, 1) := dk_128 (dk_at dksX2_chosen_6 11 rfl rfl)
theorem dX2_chosen_152 : decode cX2_chosen 152 = .ok (.istore_n 3, 1) := dk_62 (dk_at dksX2_chosen_6 12 rfl rfl)
theorem dX2_chosen_153 : decode cX2_chosen 153 = .ok (.iinc 4 1, 3) := dk_132 4 1 (dk_at dksX2_chosen_6 13 rfl rfl)
theorem dX2_chosen_156 : decode cX2_chosen 156 = .ok (.goto (-151), 3) := dk_167 255 105 (dk_at dksX2_chosen_6 16 rfl rfl)
theorem dX2_chosen_159 : decode cX2_chosen 159 = .ok (.iload_n 3, 1) := dk_29 (dk_at dksX2_chosen_6 19 rfl rfl)
theorem dX2_chosen_160 : decode cX2_chosen 160 = .ok (.ireturn, 1) := dk_172 (dk_at dksX2_chosen_6 20 rfl rfl)
abbrev cX2_goOn : ByteArray := prog_14_method_6_code
def yX2_goOn : MethodName := ⟨RX2, "goOn", "(IIILWeaversgate$Act;)I"⟩
def dkwX2_goOn_5 : List UInt8 := [182, 0, 127, 172, 42, 25, 6, 27, 21, 5, 29, 25, 4, 182, 0, 147, 172]
abbrev dktX2_goOn_5 : List UInt8 := dkwX2_goOn_5 ++ []
def dkwX2_goOn_4 : List UInt8 := [16, 98, 160, 0, 26, 42, 180, 0, 18, 25, 6, 29, 182, 0, 143, 42, 27, 21, 5, 4, 96, 29, 25, 4]
abbrev dktX2_goOn_4 : List UInt8 := dkwX2_goOn_4 ++ dktX2_goOn_5
def dkwX2_goOn_3 : List UInt8 := [16, 114, 160, 0, 16, 42, 25, 6, 27, 21, 5, 29, 25, 4, 182, 0, 139, 172, 25, 6, 180, 0, 136]
abbrev dktX2_goOn_3 : List UInt8 := dkwX2_goOn_3 ++ dktX2_goOn_4
def dkwX2_goOn_2 : List UInt8 := [25, 4, 29, 185, 0, 131, 2, 0, 172, 42, 180, 0, 24, 21, 5, 50, 58, 6, 25, 6, 180, 0, 136]
abbrev dktX2_goOn_2 : List UInt8 := dkwX2_goOn_2 ++ dktX2_goOn_3
def dkwX2_goOn_1 : List UInt8 := [154, 0, 9, 132, 5, 1, 167, 255, 229, 21, 5, 42, 180, 0, 3, 180, 0, 76, 182, 0, 80, 160, 0, 12]
abbrev dktX2_goOn_1 : List UInt8 := dkwX2_goOn_1 ++ dktX2_goOn_2
def dkwX2_goOn_0 : List UInt8 := [28, 54, 5, 21, 5, 42, 180, 0, 3, 180, 0, 76, 182, 0, 80, 162, 0, 18, 27, 21, 5, 122, 4, 126]
abbrev dktX2_goOn_0 : List UInt8 := dkwX2_goOn_0 ++ dktX2_goOn_1
theorem dksX2_goOn_0 : cX2_goOn.data.toList.drop 0 = dktX2_goOn_0 := by decide +kernel
theorem dksX2_goOn_1 : cX2_goOn.data.toList.drop 24 = dktX2_goOn_1 := dk_seg dksX2_goOn_0 24 rfl rfl
theorem dksX2_goOn_2 : cX2_goOn.data.toList.drop 48 = dktX2_goOn_2 := dk_seg dksX2_goOn_1 24 rfl rfl
theorem dksX2_goOn_3 : cX2_goOn.data.toList.drop 71 = dktX2_goOn_3 := dk_seg dksX2_goOn_2 23 rfl rfl
theorem dksX2_goOn_4 : cX2_goOn.data.toList.drop 94 = dktX2_goOn_4 := dk_seg dksX2_goOn_3 23 rfl rfl
theorem dksX2_goOn_5 : cX2_goOn.data.toList.drop 118 = dktX2_goOn_5 := dk_seg dksX2_goOn_4 24 rfl rfl
theorem dX2_goOn_0 : decode cX2_goOn 0 = .ok (.iload_n 2, 1) := dk_28 (dk_at dksX2_goOn_0 0 rfl rfl)
theorem dX2_goOn_1 : decode cX2_goOn 1 = .ok (.istore 5, 2) := dk_54 5 (dk_at dksX2_goOn_0 1 rfl rfl)
theorem dX2_goOn_3 : decode cX2_goOn 3 = .ok (.iload 5, 2) := dk_21 5 (dk_at dksX2_goOn_0 3 rfl rfl)
theorem dX2_goOn_5 : decode cX2_goOn 5 = .ok (.aload_n 0, 1) := dk_42 (dk_at dksX2_goOn_0 5 rfl rfl)
theorem dX2_goOn_6 : decode cX2_goOn 6 = .ok (.getfield 3, 3) := dk_180 0 3 (dk_at dksX2_goOn_0 6 rfl rfl)
theorem dX2_goOn_9 : decode cX2_goOn 9 = .ok (.getfield 76, 3) := dk_180 0 76 (dk_at dksX2_goOn_0 9 rfl rfl)
theorem dX2_goOn_12 : decode cX2_goOn 12 = .ok (.invokevirtual 80, 3) := dk_182 0 80 (dk_at dksX2_goOn_0 12 rfl rfl)
theorem dX2_goOn_15 : decode cX2_goOn 15 = .ok (.if_icmp .ge 18, 3) := dk_162 0 18 (dk_at dksX2_goOn_0 15 rfl rfl)
theorem dX2_goOn_18 : decode cX2_goOn 18 = .ok (.iload_n 1, 1) := dk_27 (dk_at dksX2_goOn_0 18 rfl rfl)
theorem dX2_goOn_19 : decode cX2_goOn 19 = .ok (.iload 5, 2) := dk_21 5 (dk_at dksX2_goOn_0 19 rfl rfl)
theorem dX2_goOn_21 : decode cX2_goOn 21 = .ok (.ishr, 1) := dk_122 (dk_at dksX2_goOn_0 21 rfl rfl)
theorem dX2_goOn_22 : decode cX2_goOn 22 = .ok (.iconst 1, 1) := dk_4 (dk_at dksX2_goOn_0 22 rfl rfl)
theorem dX2_goOn_23 : decode cX2_goOn 23 = .ok (.iand, 1) := dk_126 (dk_at dksX2_goOn_0 23 rfl rfl)
theorem dX2_goOn_24 : decode cX2_goOn 24 = .ok (.ifCond .ne 9, 3) := dk_154 0 9 (dk_at dksX2_goOn_1 0 rfl rfl)
theorem dX2_goOn_27 : decode cX2_goOn 27 = .ok (.iinc 5 1, 3) := dk_132 5 1 (dk_at dksX2_goOn_1 3 rfl rfl)
theorem dX2_goOn_30 : decode cX2_goOn 30 = .ok (.goto (-27), 3) := dk_167 255 229 (dk_at dksX2_goOn_1 6 rfl rfl)
theorem dX2_goOn_33 : decode cX2_goOn 33 = .ok (.iload 5, 2) := dk_21 5 (dk_at dksX2_goOn_1 9 rfl rfl)
theorem dX2_goOn_35 : decode cX2_goOn 35 = .ok (.aload_n 0, 1) := dk_42 (dk_at dksX2_goOn_1 11 rfl rfl)
theorem dX2_goOn_36 : decode cX2_goOn 36 = .ok (.getfield 3, 3) := dk_180 0 3 (dk_at dksX2_goOn_1 12 rfl rfl)
theorem dX2_goOn_39 : decode cX2_goOn 39 = .ok (.getfield 76, 3) := dk_180 0 76 (dk_at dksX2_goOn_1 15 rfl rfl)
theorem dX2_goOn_42 : decode cX2_goOn 42 = .ok (.invokevirtual 80, 3) := dk_182 0 80 (dk_at dksX2_goOn_1 18 rfl rfl)
theorem dX2_goOn_45 : decode cX2_goOn 45 = .ok (.if_icmp .ne 12, 3) := dk_160 0 12 (dk_at dksX2_goOn_1 21 rfl rfl)
theorem dX2_goOn_48 : decode cX2_goOn 48 = .ok (.aload 4, 2) := dk_25 4 (dk_at dksX2_goOn_2 0 rfl rfl)
theorem dX2_goOn_50 : decode cX2_goOn 50 = .ok (.iload_n 3, 1) := dk_29 (dk_at dksX2_goOn_2 2 rfl rfl)
theorem dX2_goOn_51 : decode cX2_goOn 51 = .ok (.invokeinterface 131 2, 5) := by decide +kernel
theorem dX2_goOn_56 : decode cX2_goOn 56 = .ok (.ireturn, 1) := dk_172 (dk_at dksX2_goOn_2 8 rfl rfl)
theorem dX2_goOn_57 : decode cX2_goOn 57 = .ok (.aload_n 0, 1) := dk_42 (dk_at dksX2_goOn_2 9 rfl rfl)
theorem dX2_goOn_58 : decode cX2_goOn 58 = .ok (.getfield 24, 3) := dk_180 0 24 (dk_at dksX2_goOn_2 10 rfl rfl)
theorem dX2_goOn_61 : decode cX2_goOn 61 = .ok (.iload 5, 2) := dk_21 5 (dk_at dksX2_goOn_2 13 rfl rfl)
theorem dX2_goOn_63 : decode cX2_goOn 63 = .ok (.aaload, 1) := dk_50 (dk_at dksX2_goOn_2 15 rfl rfl)
theorem dX2_goOn_64 : decode cX2_goOn 64 = .ok (.astore 6, 2) := dk_58 6 (dk_at dksX2_goOn_2 16 rfl rfl)
theorem dX2_goOn_66 : decode cX2_goOn 66 = .ok (.aload 6, 2) := dk_25 6 (dk_at dksX2_goOn_2 18 rfl rfl)
theorem dX2_goOn_68 : decode cX2_goOn 68 = .ok (.getfield 136, 3) := dk_180 0 136 (dk_at dksX2_goOn_2 20 rfl rfl)
theorem dX2_goOn_71 : decode cX2_goOn 71 = .ok (.bipush 114, 2) := dk_16 114 (dk_at dksX2_goOn_3 0 rfl rfl)
theorem dX2_goOn_73 : decode cX2_goOn 73 = .ok (.if_icmp .ne 16, 3) := dk_160 0 16 (dk_at dksX2_goOn_3 2 rfl rfl)
theorem dX2_goOn_76 : decode cX2_goOn 76 = .ok (.aload_n 0, 1) := dk_42 (dk_at dksX2_goOn_3 5 rfl rfl)
theorem dX2_goOn_77 : decode cX2_goOn 77 = .ok (.aload 6, 2) := dk_25 6 (dk_at dksX2_goOn_3 6 rfl rfl)
theorem dX2_goOn_79 : decode cX2_goOn 79 = .ok (.iload_n 1, 1) := dk_27 (dk_at dksX2_goOn_3 8 rfl rfl)
theorem dX2_goOn_80 : decode cX2_goOn 80 = .ok (.iload 5, 2) := dk_21 5 (dk_at dksX2_goOn_3 9 rfl rfl)
theorem dX2_goOn_82 : decode cX2_goOn 82 = .ok (.iload_n 3, 1) := dk_29 (dk_at dksX2_goOn_3 11 rfl rfl)
theorem dX2_goOn_83 : decode cX2_goOn 83 = .ok (.aload 4, 2) := dk_25 4 (dk_at dksX2_goOn_3 12 rfl rfl)
theorem dX2_goOn_85 : decode cX2_goOn 85 = .ok (.invokevirtual 139, 3) := dk_182 0 139 (dk_at dksX2_goOn_3 14 rfl rfl)
theorem dX2_goOn_88 : decode cX2_goOn 88 = .ok (.ireturn, 1) := dk_172 (dk_at dksX2_goOn_3 17 rfl rfl)
theorem dX2_goOn_89 : decode cX2_goOn 89 = .ok (.aload 6, 2) := dk_25 6 (dk_at dksX2_goOn_3 18 rfl rfl)
theorem dX2_goOn_91 : decode cX2_goOn 91 = .ok (.getfield 136, 3) := dk_180 0 136 (dk_at dksX2_goOn_3 20 rfl rfl)
theorem dX2_goOn_94 : decode cX2_goOn 94 = .ok (.bipush 98, 2) := dk_16 98 (dk_at dksX2_goOn_4 0 rfl rfl)
theorem dX2_goOn_96 : decode cX2_goOn 96 = .ok (.if_icmp .ne 26, 3) := dk_160 0 26 (dk_at dksX2_goOn_4 2 rfl rfl)
theorem dX2_goOn_99 : decode cX2_goOn 99 = .ok (.aload_n 0, 1) := dk_42 (dk_at dksX2_goOn_4 5 rfl rfl)
theorem dX2_goOn_100 : decode cX2_goOn 100 = .ok (.getfield 18, 3) := dk_180 0 18 (dk_at dksX2_goOn_4 6 rfl rfl)
theorem dX2_goOn_103 : decode cX2_goOn 103 = .ok (.aload 6, 2) := dk_25 6 (dk_at dksX2_goOn_4 9 rfl rfl)
theorem dX2_goOn_105 : decode cX2_goOn 105 = .ok (.iload_n 3, 1) := dk_29 (dk_at dksX2_goOn_4 11 rfl rfl)
theorem dX2_goOn_106 : decode cX2_goOn 106 = .ok (.invokevirtual 143, 3) := dk_182 0 143 (dk_at dksX2_goOn_4 12 rfl rfl)
theorem dX2_goOn_109 : decode cX2_goOn 109 = .ok (.aload_n 0, 1) := dk_42 (dk_at dksX2_goOn_4 15 rfl rfl)
theorem dX2_goOn_110 : decode cX2_goOn 110 = .ok (.iload_n 1, 1) := dk_27 (dk_at dksX2_goOn_4 16 rfl rfl)
theorem dX2_goOn_111 : decode cX2_goOn 111 = .ok (.iload 5, 2) := dk_21 5 (dk_at dksX2_goOn_4 17 rfl rfl)
theorem dX2_goOn_113 : decode cX2_goOn 113 = .ok (.iconst 1, 1) := dk_4 (dk_at dksX2_goOn_4 19 rfl rfl)
theorem dX2_goOn_114 : decode cX2_goOn 114 = .ok (.iadd, 1) := dk_96 (dk_at dksX2_goOn_4 20 rfl rfl)
theorem dX2_goOn_115 : decode cX2_goOn 115 = .ok (.iload_n 3, 1) := dk_29 (dk_at dksX2_goOn_4 21 rfl rfl)
theorem dX2_goOn_116 : decode cX2_goOn 116 = .ok (.aload 4, 2) := dk_25 4 (dk_at dksX2_goOn_4 22 rfl rfl)
theorem dX2_goOn_118 : decode cX2_goOn 118 = .ok (.invokevirtual 127, 3) := dk_182 0 127 (dk_at dksX2_goOn_5 0 rfl rfl)
theorem dX2_goOn_121 : decode cX2_goOn 121 = .ok (.ireturn, 1) := dk_172 (dk_at dksX2_goOn_5 3 rfl rfl)
theorem dX2_goOn_122 : decode cX2_goOn 122 = .ok (.aload_n 0, 1) := dk_42 (dk_at dksX2_goOn_5 4 rfl rfl)
theorem dX2_goOn_123 : decode cX2_goOn 123 = .ok (.aload 6, 2) := dk_25 6 (dk_at dksX2_goOn_5 5 rfl rfl)
theorem dX2_goOn_125 : decode cX2_goOn 125 = .ok (.iload_n 1, 1) := dk_27 (dk_at dksX2_goOn_5 7 rfl rfl)
theorem dX2_goOn_126 : decode cX2_goOn 126 = .ok (.iload 5, 2) := dk_21 5 (dk_at dksX2_goOn_5 8 rfl rfl)
theorem dX2_goOn_128 : decode cX2_goOn 128 = .ok (.iload_n 3, 1) := dk_29 (dk_at dksX2_goOn_5 10 rfl rfl)
theorem dX2_goOn_129 : decode cX2_goOn 129 = .ok (.aload 4, 2) := dk_25 4 (dk_at dksX2_goOn_5 11 rfl rfl)
theorem dX2_goOn_131 : decode cX2_goOn 131 = .ok (.invokevirtual 147, 3) := dk_182 0 147 (dk_at dksX2_goOn_5 13 rfl rfl)
theorem dX2_goOn_134 : decode cX2_goOn 134 = .ok (.ireturn, 1) := dk_172 (dk_at dksX2_goOn_5 16 rfl rfl)
abbrev cX2_around : ByteArray := prog_14_method_7_code
def yX2_around : MethodName := ⟨RX2, "around", "(LWeaversgate$Advice;IIILWeaversgate$Act;)I"⟩
def dkwX2_around_2 : List UInt8 := [132, 7, 1, 167, 255, 225, 21, 6, 172]
abbrev dktX2_around_2 : List UInt8 := dkwX2_around_2 ++ []
def dkwX2_around_1 : List UInt8 := [162, 0, 28, 42, 28, 29, 4, 96, 21, 6, 43, 180, 0, 153, 96, 25, 5, 182, 0, 127, 54, 6]
abbrev dktX2_around_1 : List UInt8 := dkwX2_around_1 ++ dktX2_around_2
def dkwX2_around_0 : List UInt8 := [42, 180, 0, 18, 43, 21, 4, 182, 0, 143, 21, 4, 54, 6, 3, 54, 7, 21, 7, 43, 180, 0, 150]
abbrev dktX2_around_0 : List UInt8 := dkwX2_around_0 ++ dktX2_around_1
theorem dksX2_around_0 : cX2_around.data.toList.drop 0 = dktX2_around_0 := by decide +kernel
theorem dksX2_around_1 : cX2_around.data.toList.drop 23 = dktX2_around_1 := dk_seg dksX2_around_0 23 rfl rfl
theorem dksX2_around_2 : cX2_around.data.toList.drop 45 = dktX2_around_2 := dk_seg dksX2_around_1 22 rfl rfl
theorem dX2_around_0 : decode cX2_around 0 = .ok (.aload_n 0, 1) := dk_42 (dk_at dksX2_around_0 0 rfl rfl)
theorem dX2_around_1 : decode cX2_around 1 = .ok (.getfield 18, 3) := dk_180 0 18 (dk_at dksX2_around_0 1 rfl rfl)
theorem dX2_around_4 : decode cX2_around 4 = .ok (.aload_n 1, 1) := dk_43 (dk_at dksX2_around_0 4 rfl rfl)
theorem dX2_around_5 : decode cX2_around 5 = .ok (.iload 4, 2) := dk_21 4 (dk_at dksX2_around_0 5 rfl rfl)
theorem dX2_around_7 : decode cX2_around 7 = .ok (.invokevirtual 143, 3) := dk_182 0 143 (dk_at dksX2_around_0 7 rfl rfl)
theorem dX2_around_10 : decode cX2_around 10 = .ok (.iload 4, 2) := dk_21 4 (dk_at dksX2_around_0 10 rfl rfl)
theorem dX2_around_12 : decode cX2_around 12 = .ok (.istore 6, 2) := dk_54 6 (dk_at dksX2_around_0 12 rfl rfl)
theorem dX2_around_14 : decode cX2_around 14 = .ok (.iconst 0, 1) := dk_3 (dk_at dksX2_around_0 14 rfl rfl)
theorem dX2_around_15 : decode cX2_around 15 = .ok (.istore 7, 2) := dk_54 7 (dk_at dksX2_around_0 15 rfl rfl)
theorem dX2_around_17 : decode cX2_around 17 = .ok (.iload 7, 2) := dk_21 7 (dk_at dksX2_around_0 17 rfl rfl)
theorem dX2_around_19 : decode cX2_around 19 = .ok (.aload_n 1, 1) := dk_43 (dk_at dksX2_around_0 19 rfl rfl)
theorem dX2_around_20 : decode cX2_around 20 = .ok (.getfield 150, 3) := dk_180 0 150 (dk_at dksX2_around_0 20 rfl rfl)
theorem dX2_around_23 : decode cX2_around 23 = .ok (.if_icmp .ge 28, 3) := dk_162 0 28 (dk_at dksX2_around_1 0 rfl rfl)
theorem dX2_around_26 : decode cX2_around 26 = .ok (.aload_n 0, 1) := dk_42 (dk_at dksX2_around_1 3 rfl rfl)
theorem dX2_around_27 : decode cX2_around 27 = .ok (.iload_n 2, 1) := dk_28 (dk_at dksX2_around_1 4 rfl rfl)
theorem dX2_around_28 : decode cX2_around 28 = .ok (.iload_n 3, 1) := dk_29 (dk_at dksX2_around_1 5 rfl rfl)
theorem dX2_around_29 : decode cX2_around 29 = .ok (.iconst 1, 1) := dk_4 (dk_at dksX2_around_1 6 rfl rfl)
theorem dX2_around_30 : decode cX2_around 30 = .ok (.iadd, 1) := dk_96 (dk_at dksX2_around_1 7 rfl rfl)
theorem dX2_around_31 : decode cX2_around 31 = .ok (.iload 6, 2) := dk_21 6 (dk_at dksX2_around_1 8 rfl rfl)
theorem dX2_around_33 : decode cX2_around 33 = .ok (.aload_n 1, 1) := dk_43 (dk_at dksX2_around_1 10 rfl rfl)
theorem dX2_around_34 : decode cX2_around 34 = .ok (.getfield 153, 3) := dk_180 0 153 (dk_at dksX2_around_1 11 rfl rfl)
theorem dX2_around_37 : decode cX2_around 37 = .ok (.iadd, 1) := dk_96 (dk_at dksX2_around_1 14 rfl rfl)
theorem dX2_around_38 : decode cX2_around 38 = .ok (.aload 5, 2) := dk_25 5 (dk_at dksX2_around_1 15 rfl rfl)
theorem dX2_around_40 : decode cX2_around 40 = .ok (.invokevirtual 127, 3) := dk_182 0 127 (dk_at dksX2_around_1 17 rfl rfl)
theorem dX2_around_43 : decode cX2_around 43 = .ok (.istore 6, 2) := dk_54 6 (dk_at dksX2_around_1 20 rfl rfl)
theorem dX2_around_45 : decode cX2_around 45 = .ok (.iinc 7 1, 3) := dk_132 7 1 (dk_at dksX2_around_2 0 rfl rfl)
theorem dX2_around_48 : decode cX2_around 48 = .ok (.goto (-31), 3) := dk_167 255 225 (dk_at dksX2_around_2 3 rfl rfl)
theorem dX2_around_51 : decode cX2_around 51 = .ok (.iload 6, 2) := dk_21 6 (dk_at dksX2_around_2 6 rfl rfl)
theorem dX2_around_53 : decode cX2_around 53 = .ok (.ireturn, 1) := dk_172 (dk_at dksX2_around_2 8 rfl rfl)
abbrev cX2_behind : ByteArray := prog_14_method_8_code
def yX2_behind : MethodName := ⟨RX2, "behind", "(LWeaversgate$Advice;IIILWeaversgate$Act;)I"⟩
def dkwX2_behind_2 : List UInt8 := [180, 0, 136, 16, 120, 159, 0, 13, 42, 180, 0, 18, 43, 21, 6, 182, 0, 143, 21, 6, 172]
abbrev dktX2_behind_2 : List UInt8 := dkwX2_behind_2 ++ []
def dkwX2_behind_1 : List UInt8 := [16, 97, 159, 0, 16, 42, 180, 0, 18, 43, 25, 7, 180, 0, 67, 182, 0, 143, 25, 7, 191, 43]
abbrev dktX2_behind_1 : List UInt8 := dkwX2_behind_1 ++ dktX2_behind_2
def dkwX2_behind_0 : List UInt8 := [42, 28, 29, 4, 96, 21, 4, 25, 5, 182, 0, 127, 54, 6, 167, 0, 30, 58, 7, 43, 180, 0, 136]
abbrev dktX2_behind_0 : List UInt8 := dkwX2_behind_0 ++ dktX2_behind_1
theorem dksX2_behind_0 : cX2_behind.data.toList.drop 0 = dktX2_behind_0 := by decide +kernel
theorem dksX2_behind_1 : cX2_behind.data.toList.drop 23 = dktX2_behind_1 := dk_seg dksX2_behind_0 23 rfl rfl
theorem dksX2_behind_2 : cX2_behind.data.toList.drop 45 = dktX2_behind_2 := dk_seg dksX2_behind_1 22 rfl rfl
theorem dX2_behind_0 : decode cX2_behind 0 = .ok (.aload_n 0, 1) := dk_42 (dk_at dksX2_behind_0 0 rfl rfl)
theorem dX2_behind_1 : decode cX2_behind 1 = .ok (.iload_n 2, 1) := dk_28 (dk_at dksX2_behind_0 1 rfl rfl)
theorem dX2_behind_2 : decode cX2_behind 2 = .ok (.iload_n 3, 1) := dk_29 (dk_at dksX2_behind_0 2 rfl rfl)
theorem dX2_behind_3 : decode cX2_behind 3 = .ok (.iconst 1, 1) := dk_4 (dk_at dksX2_behind_0 3 rfl rfl)
theorem dX2_behind_4 : decode cX2_behind 4 = .ok (.iadd, 1) := dk_96 (dk_at dksX2_behind_0 4 rfl rfl)
theorem dX2_behind_5 : decode cX2_behind 5 = .ok (.iload 4, 2) := dk_21 4 (dk_at dksX2_behind_0 5 rfl rfl)
theorem dX2_behind_7 : decode cX2_behind 7 = .ok (.aload 5, 2) := dk_25 5 (dk_at dksX2_behind_0 7 rfl rfl)
theorem dX2_behind_9 : decode cX2_behind 9 = .ok (.invokevirtual 127, 3) := dk_182 0 127 (dk_at dksX2_behind_0 9 rfl rfl)
theorem dX2_behind_12 : decode cX2_behind 12 = .ok (.istore 6, 2) := dk_54 6 (dk_at dksX2_behind_0 12 rfl rfl)
theorem dX2_behind_14 : decode cX2_behind 14 = .ok (.goto 30, 3) := dk_167 0 30 (dk_at dksX2_behind_0 14 rfl rfl)
theorem dX2_behind_17 : decode cX2_behind 17 = .ok (.astore 7, 2) := dk_58 7 (dk_at dksX2_behind_0 17 rfl rfl)
theorem dX2_behind_19 : decode cX2_behind 19 = .ok (.aload_n 1, 1) := dk_43 (dk_at dksX2_behind_0 19 rfl rfl)
theorem dX2_behind_20 : decode cX2_behind 20 = .ok (.getfield 136, 3) := dk_180 0 136 (dk_at dksX2_behind_0 20 rfl rfl)
theorem dX2_behind_23 : decode cX2_behind 23 = .ok (.bipush 97, 2) := dk_16 97 (dk_at dksX2_behind_1 0 rfl rfl)
theorem dX2_behind_25 : decode cX2_behind 25 = .ok (.if_icmp .eq 16, 3) := dk_159 0 16 (dk_at dksX2_behind_1 2 rfl rfl)
theorem dX2_behind_28 : decode cX2_behind 28 = .ok (.aload_n 0, 1) := dk_42 (dk_at dksX2_behind_1 5 rfl rfl)
theorem dX2_behind_29 : decode cX2_behind 29 = .ok (.getfield 18, 3) := dk_180 0 18 (dk_at dksX2_behind_1 6 rfl rfl)
theorem dX2_behind_32 : decode cX2_behind 32 = .ok (.aload_n 1, 1) := dk_43 (dk_at dksX2_behind_1 9 rfl rfl)
theorem dX2_behind_33 : decode cX2_behind 33 = .ok (.aload 7, 2) := dk_25 7 (dk_at dksX2_behind_1 10 rfl rfl)
theorem dX2_behind_35 : decode cX2_behind 35 = .ok (.getfield 67, 3) := dk_180 0 67 (dk_at dksX2_behind_1 12 rfl rfl)
theorem dX2_behind_38 : decode cX2_behind 38 = .ok (.invokevirtual 143, 3) := dk_182 0 143 (dk_at dksX2_behind_1 15 rfl rfl)
theorem dX2_behind_41 : decode cX2_behind 41 = .ok (.aload 7, 2) := dk_25 7 (dk_at dksX2_behind_1 18 rfl rfl)
theorem dX2_behind_43 : decode cX2_behind 43 = .ok (.athrow, 1) := dk_191 (dk_at dksX2_behind_1 20 rfl rfl)
theorem dX2_behind_44 : decode cX2_behind 44 = .ok (.aload_n 1, 1) := dk_43 (dk_at dksX2_behind_1 21 rfl rfl)
theorem dX2_behind_45 : decode cX2_behind 45 = .ok (.getfield 136, 3) := dk_180 0 136 (dk_at dksX2_behind_2 0 rfl rfl)
theorem dX2_behind_48 : decode cX2_behind 48 = .ok (.bipush 120, 2) := dk_16 120 (dk_at dksX2_behind_2 3 rfl rfl)
theorem dX2_behind_50 : decode cX2_behind 50 = .ok (.if_icmp .eq 13, 3) := dk_159 0 13 (dk_at dksX2_behind_2 5 rfl rfl)
theorem dX2_behind_53 : decode cX2_behind 53 = .ok (.aload_n 0, 1) := dk_42 (dk_at dksX2_behind_2 8 rfl rfl)
theorem dX2_behind_54 : decode cX2_behind 54 = .ok (.getfield 18, 3) := dk_180 0 18 (dk_at dksX2_behind_2 9 rfl rfl)
theorem dX2_behind_57 : decode cX2_behind 57 = .ok (.aload_n 1, 1) := dk_43 (dk_at dksX2_behind_2 12 rfl rfl)
theorem dX2_behind_58 : decode cX2_behind 58 = .ok (.iload 6, 2) := dk_21 6 (dk_at dksX2_behind_2 13 rfl rfl)
theorem dX2_behind_60 : decode cX2_behind 60 = .ok (.invokevirtual 143, 3) := dk_182 0 143 (dk_at dksX2_behind_2 15 rfl rfl)
theorem dX2_behind_63 : decode cX2_behind 63 = .ok (.iload 6, 2) := dk_21 6 (dk_at dksX2_behind_2 18 rfl rfl)
theorem dX2_behind_65 : decode cX2_behind 65 = .ok (.ireturn, 1) := dk_172 (dk_at dksX2_behind_2 20 rfl rfl)
abbrev cX2_lambda_done_3 : ByteArray := prog_14_method_17_code
def yX2_lambda_done_3 : MethodName := ⟨RX2, "lambda$done$3", "(LWeaversgate$Thing;LWeaversgate$Step;I)I"⟩
def dkwX2_lambda_done_3_0 : List UInt8 := [28, 42, 180, 0, 240, 43, 180, 0, 222, 46, 96, 172]
abbrev dktX2_lambda_done_3_0 : List UInt8 := dkwX2_lambda_done_3_0 ++ []
theorem dksX2_lambda_done_3_0 : cX2_lambda_done_3.data.toList.drop 0 = dktX2_lambda_done_3_0 := by decide +kernel
theorem dX2_lambda_done_3_0 : decode cX2_lambda_done_3 0 = .ok (.iload_n 2, 1) := dk_28 (dk_at dksX2_lambda_done_3_0 0 rfl rfl)
theorem dX2_lambda_done_3_1 : decode cX2_lambda_done_3 1 = .ok (.aload_n 0, 1) := dk_42 (dk_at dksX2_lambda_done_3_0 1 rfl rfl)
theorem dX2_lambda_done_3_2 : decode cX2_lambda_done_3 2 = .ok (.getfield 240, 3) := dk_180 0 240 (dk_at dksX2_lambda_done_3_0 2 rfl rfl)
theorem dX2_lambda_done_3_5 : decode cX2_lambda_done_3 5 = .ok (.aload_n 1, 1) := dk_43 (dk_at dksX2_lambda_done_3_0 5 rfl rfl)
theorem dX2_lambda_done_3_6 : decode cX2_lambda_done_3 6 = .ok (.getfield 222, 3) := dk_180 0 222 (dk_at dksX2_lambda_done_3_0 6 rfl rfl)
theorem dX2_lambda_done_3_9 : decode cX2_lambda_done_3 9 = .ok (.iaload, 1) := dk_46 (dk_at dksX2_lambda_done_3_0 9 rfl rfl)
theorem dX2_lambda_done_3_10 : decode cX2_lambda_done_3 10 = .ok (.iadd, 1) := dk_96 (dk_at dksX2_lambda_done_3_0 10 rfl rfl)
theorem dX2_lambda_done_3_11 : decode cX2_lambda_done_3 11 = .ok (.ireturn, 1) := dk_172 (dk_at dksX2_lambda_done_3_0 11 rfl rfl)
abbrev cX2_lambda_done_4 : ByteArray := prog_14_method_16_code
def yX2_lambda_done_4 : MethodName := ⟨RX2, "lambda$done$4", "(LWeaversgate$Thing;LWeaversgate$Step;I)I"⟩
def dkwX2_lambda_done_4_0 : List UInt8 := [42, 43, 44, 180, 0, 222, 29, 182, 0, 246, 172]
abbrev dktX2_lambda_done_4_0 : List UInt8 := dkwX2_lambda_done_4_0 ++ []
theorem dksX2_lambda_done_4_0 : cX2_lambda_done_4.data.toList.drop 0 = dktX2_lambda_done_4_0 := by decide +kernel
theorem dX2_lambda_done_4_0 : decode cX2_lambda_done_4 0 = .ok (.aload_n 0, 1) := dk_42 (dk_at dksX2_lambda_done_4_0 0 rfl rfl)
theorem dX2_lambda_done_4_1 : decode cX2_lambda_done_4 1 = .ok (.aload_n 1, 1) := dk_43 (dk_at dksX2_lambda_done_4_0 1 rfl rfl)
theorem dX2_lambda_done_4_2 : decode cX2_lambda_done_4 2 = .ok (.aload_n 2, 1) := dk_44 (dk_at dksX2_lambda_done_4_0 2 rfl rfl)
theorem dX2_lambda_done_4_3 : decode cX2_lambda_done_4 3 = .ok (.getfield 222, 3) := dk_180 0 222 (dk_at dksX2_lambda_done_4_0 3 rfl rfl)
theorem dX2_lambda_done_4_6 : decode cX2_lambda_done_4 6 = .ok (.iload_n 3, 1) := dk_29 (dk_at dksX2_lambda_done_4_0 6 rfl rfl)
theorem dX2_lambda_done_4_7 : decode cX2_lambda_done_4 7 = .ok (.invokevirtual 246, 3) := dk_182 0 246 (dk_at dksX2_lambda_done_4_0 7 rfl rfl)
theorem dX2_lambda_done_4_10 : decode cX2_lambda_done_4 10 = .ok (.ireturn, 1) := dk_172 (dk_at dksX2_lambda_done_4_0 10 rfl rfl)
abbrev cX2_put : ByteArray := prog_14_method_13_code
def yX2_put : MethodName := ⟨RX2, "put", "(LWeaversgate$Thing;II)I"⟩
def dkwX2_put_0 : List UInt8 := [43, 180, 0, 240, 28, 29, 79, 29, 172]
abbrev dktX2_put_0 : List UInt8 := dkwX2_put_0 ++ []
theorem dksX2_put_0 : cX2_put.data.toList.drop 0 = dktX2_put_0 := by decide +kernel
theorem dX2_put_0 : decode cX2_put 0 = .ok (.aload_n 1, 1) := dk_43 (dk_at dksX2_put_0 0 rfl rfl)
theorem dX2_put_1 : decode cX2_put 1 = .ok (.getfield 240, 3) := dk_180 0 240 (dk_at dksX2_put_0 1 rfl rfl)
theorem dX2_put_4 : decode cX2_put 4 = .ok (.iload_n 2, 1) := dk_28 (dk_at dksX2_put_0 4 rfl rfl)
theorem dX2_put_5 : decode cX2_put 5 = .ok (.iload_n 3, 1) := dk_29 (dk_at dksX2_put_0 5 rfl rfl)
theorem dX2_put_6 : decode cX2_put 6 = .ok (.iastore, 1) := dk_79 (dk_at dksX2_put_0 6 rfl rfl)
theorem dX2_put_7 : decode cX2_put 7 = .ok (.iload_n 3, 1) := dk_29 (dk_at dksX2_put_0 7 rfl rfl)
theorem dX2_put_8 : decode cX2_put 8 = .ok (.ireturn, 1) := dk_172 (dk_at dksX2_put_0 8 rfl rfl)
abbrev cX2_handled : ByteArray := prog_14_method_14_code
def yX2_handled : MethodName := ⟨RX2, "handled", "(LWeaversgate$Thing;LWeaversgate$Type;IILWeaversgate$Thrown;)I"⟩
def dkwX2_handled_7 : List UInt8 := [172]
abbrev dktX2_handled_7 : List UInt8 := dkwX2_handled_7 ++ []
def dkwX2_handled_6 : List UInt8 := [25, 5, 180, 0, 67, 43, 180, 0, 156, 3, 25, 9, 44, 180, 0, 180, 186, 0, 245, 0, 0, 182, 0, 163]
abbrev dktX2_handled_6 : List UInt8 := dkwX2_handled_6 ++ dktX2_handled_7
def dkwX2_handled_5 : List UInt8 := [153, 0, 17, 42, 180, 0, 3, 44, 29, 21, 8, 182, 0, 176, 167, 0, 4, 1, 58, 9, 42, 16, 104]
abbrev dktX2_handled_5 : List UInt8 := dkwX2_handled_5 ++ dktX2_handled_6
def dkwX2_handled_4 : List UInt8 := [21, 9, 182, 0, 86, 192, 0, 187, 182, 0, 197, 96, 54, 8, 132, 9, 1, 167, 255, 228, 42, 180, 0, 42]
abbrev dktX2_handled_4 : List UInt8 := dkwX2_handled_4 ++ dktX2_handled_5
def dkwX2_handled_3 : List UInt8 := [156, 0, 6, 25, 5, 191, 4, 54, 8, 3, 54, 9, 21, 9, 21, 7, 162, 0, 27, 21, 8, 25, 6]
abbrev dktX2_handled_3 : List UInt8 := dkwX2_handled_3 ++ dktX2_handled_4
def dkwX2_handled_2 : List UInt8 := [25, 6, 21, 7, 182, 0, 86, 192, 0, 187, 180, 0, 222, 164, 0, 9, 132, 7, 255, 167, 255, 209, 21, 7]
abbrev dktX2_handled_2 : List UInt8 := dkwX2_handled_2 ++ dktX2_handled_3
def dkwX2_handled_1 : List UInt8 := [25, 6, 21, 7, 182, 0, 86, 192, 0, 187, 180, 0, 244, 16, 104, 160, 0, 24, 25, 5, 180, 0, 67]
abbrev dktX2_handled_1 : List UInt8 := dkwX2_handled_1 ++ dktX2_handled_2
def dkwX2_handled_0 : List UInt8 := [44, 180, 0, 184, 29, 182, 0, 86, 192, 0, 81, 58, 6, 21, 4, 4, 100, 54, 7, 21, 7, 155, 0, 48]
abbrev dktX2_handled_0 : List UInt8 := dkwX2_handled_0 ++ dktX2_handled_1
theorem dksX2_handled_0 : cX2_handled.data.toList.drop 0 = dktX2_handled_0 := by decide +kernel
theorem dksX2_handled_1 : cX2_handled.data.toList.drop 24 = dktX2_handled_1 := dk_seg dksX2_handled_0 24 rfl rfl
theorem dksX2_handled_2 : cX2_handled.data.toList.drop 47 = dktX2_handled_2 := dk_seg dksX2_handled_1 23 rfl rfl
theorem dksX2_handled_3 : cX2_handled.data.toList.drop 71 = dktX2_handled_3 := dk_seg dksX2_handled_2 24 rfl rfl
theorem dksX2_handled_4 : cX2_handled.data.toList.drop 94 = dktX2_handled_4 := dk_seg dksX2_handled_3 23 rfl rfl
theorem dksX2_handled_5 : cX2_handled.data.toList.drop 118 = dktX2_handled_5 := dk_seg dksX2_handled_4 24 rfl rfl
theorem dksX2_handled_6 : cX2_handled.data.toList.drop 141 = dktX2_handled_6 := dk_seg dksX2_handled_5 23 rfl rfl
theorem dksX2_handled_7 : cX2_handled.data.toList.drop 165 = dktX2_handled_7 := dk_seg dksX2_handled_6 24 rfl rfl
theorem dX2_handled_0 : decode cX2_handled 0 = .ok (.aload_n 2, 1) := dk_44 (dk_at dksX2_handled_0 0 rfl rfl)
theorem dX2_handled_1 : decode cX2_handled 1 = .ok (.getfield 184, 3) := dk_180 0 184 (dk_at dksX2_handled_0 1 rfl rfl)
theorem dX2_handled_4 : decode cX2_handled 4 = .ok (.iload_n 3, 1) := dk_29 (dk_at dksX2_handled_0 4 rfl rfl)
theorem dX2_handled_5 : decode cX2_handled 5 = .ok (.invokevirtual 86, 3) := dk_182 0 86 (dk_at dksX2_handled_0 5 rfl rfl)
theorem dX2_handled_8 : decode cX2_handled 8 = .ok (.checkcast 81, 3) := dk_192 0 81 (dk_at dksX2_handled_0 8 rfl rfl)
theorem dX2_handled_11 : decode cX2_handled 11 = .ok (.astore 6, 2) := dk_58 6 (dk_at dksX2_handled_0 11 rfl rfl)
theorem dX2_handled_13 : decode cX2_handled 13 = .ok (.iload 4, 2) := dk_21 4 (dk_at dksX2_handled_0 13 rfl rfl)
theorem dX2_handled_15 : decode cX2_handled 15 = .ok (.iconst 1, 1) := dk_4 (dk_at dksX2_handled_0 15 rfl rfl)
theorem dX2_handled_16 : decode cX2_handled 16 = .ok (.isub, 1) := dk_100 (dk_at dksX2_handled_0 16 rfl rfl)
theorem dX2_handled_17 : decode cX2_handled 17 = .ok (.istore 7, 2) := dk_54 7 (dk_at dksX2_handled_0 17 rfl rfl)
theorem dX2_handled_19 : decode cX2_handled 19 = .ok (.iload 7, 2) := dk_21 7 (dk_at dksX2_handled_0 19 rfl rfl)
theorem dX2_handled_21 : decode cX2_handled 21 = .ok (.ifCond .lt 48, 3) := dk_155 0 48 (dk_at dksX2_handled_0 21 rfl rfl)
theorem dX2_handled_24 : decode cX2_handled 24 = .ok (.aload 6, 2) := dk_25 6 (dk_at dksX2_handled_1 0 rfl rfl)
theorem dX2_handled_26 : decode cX2_handled 26 = .ok (.iload 7, 2) := dk_21 7 (dk_at dksX2_handled_1 2 rfl rfl)
theorem dX2_handled_28 : decode cX2_handled 28 = .ok (.invokevirtual 86, 3) := dk_182 0 86 (dk_at dksX2_handled_1 4 rfl rfl)
theorem dX2_handled_31 : decode cX2_handled 31 = .ok (.checkcast 187, 3) := dk_192 0 187 (dk_at dksX2_handled_1 7 rfl rfl)
theorem dX2_handled_34 : decode cX2_handled 34 = .ok (.getfield 244, 3) := dk_180 0 244 (dk_at dksX2_handled_1 10 rfl rfl)
theorem dX2_handled_37 : decode cX2_handled 37 = .ok (.bipush 104, 2) := dk_16 104 (dk_at dksX2_handled_1 13 rfl rfl)
theorem dX2_handled_39 : decode cX2_handled 39 = .ok (.if_icmp .ne 24, 3) := dk_160 0 24 (dk_at dksX2_handled_1 15 rfl rfl)
theorem dX2_handled_42 : decode cX2_handled 42 = .ok (.aload 5, 2) := dk_25 5 (dk_at dksX2_handled_1 18 rfl rfl)
theorem dX2_handled_44 : decode cX2_handled 44 = .ok (.getfield 67, 3) := dk_180 0 67 (dk_at dksX2_handled_1 20 rfl rfl)
theorem dX2_handled_47 : decode cX2_handled 47 = .ok (.aload 6, 2) := dk_25 6 (dk_at dksX2_handled_2 0 rfl rfl)
theorem dX2_handled_49 : decode cX2_handled 49 = .ok (.iload 7, 2) := dk_21 7 (dk_at dksX2_handled_2 2 rfl rfl)
theorem dX2_handled_51 : decode cX2_handled 51 = .ok (.invokevirtual 86, 3) := dk_182 0 86 (dk_at dksX2_handled_2 4 rfl rfl)
theorem dX2_handled_54 : decode cX2_handled 54 = .ok (.checkcast 187, 3) := dk_192 0 187 (dk_at dksX2_handled_2 7 rfl rfl)
theorem dX2_handled_57 : decode cX2_handled 57 = .ok (.getfield 222, 3) := dk_180 0 222 (dk_at dksX2_handled_2 10 rfl rfl)
theorem dX2_handled_60 : decode cX2_handled 60 = .ok (.if_icmp .le 9, 3) := dk_164 0 9 (dk_at dksX2_handled_2 13 rfl rfl)
theorem dX2_handled_63 : decode cX2_handled 63 = .ok (.iinc 7 (-1), 3) := dk_132 7 255 (dk_at dksX2_handled_2 16 rfl rfl)
theorem dX2_handled_66 : decode cX2_handled 66 = .ok (.goto (-47), 3) := dk_167 255 209 (dk_at dksX2_handled_2 19 rfl rfl)
theorem dX2_handled_69 : decode cX2_handled 69 = .ok (.iload 7, 2) := dk_21 7 (dk_at dksX2_handled_2 22 rfl rfl)
theorem dX2_handled_71 : decode cX2_handled 71 = .ok (.ifCond .ge 6, 3) := dk_156 0 6 (dk_at dksX2_handled_3 0 rfl rfl)
theorem dX2_handled_74 : decode cX2_handled 74 = .ok (.aload 5, 2) := dk_25 5 (dk_at dksX2_handled_3 3 rfl rfl)
theorem dX2_handled_76 : decode cX2_handled 76 = .ok (.athrow, 1) := dk_191 (dk_at dksX2_handled_3 5 rfl rfl)
theorem dX2_handled_77 : decode cX2_handled 77 = .ok (.iconst 1, 1) := dk_4 (dk_at dksX2_handled_3 6 rfl rfl)
theorem dX2_handled_78 : decode cX2_handled 78 = .ok (.istore 8, 2) := dk_54 8 (dk_at dksX2_handled_3 7 rfl rfl)
theorem dX2_handled_80 : decode cX2_handled 80 = .ok (.iconst 0, 1) := dk_3 (dk_at dksX2_handled_3 9 rfl rfl)
theorem dX2_handled_81 : decode cX2_handled 81 = .ok (.istore 9, 2) := dk_54 9 (dk_at dksX2_handled_3 10 rfl rfl)
theorem dX2_handled_83 : decode cX2_handled 83 = .ok (.iload 9, 2) := dk_21 9 (dk_at dksX2_handled_3 12 rfl rfl)
theorem dX2_handled_85 : decode cX2_handled 85 = .ok (.iload 7, 2) := dk_21 7 (dk_at dksX2_handled_3 14 rfl rfl)
theorem dX2_handled_87 : decode cX2_handled 87 = .ok (.if_icmp .ge 27, 3) := dk_162 0 27 (dk_at dksX2_handled_3 16 rfl rfl)
theorem dX2_handled_90 : decode cX2_handled 90 = .ok (.iload 8, 2) := dk_21 8 (dk_at dksX2_handled_3 19 rfl rfl)
theorem dX2_handled_92 : decode cX2_handled 92 = .ok (.aload 6, 2) := dk_25 6 (dk_at dksX2_handled_3 21 rfl rfl)
theorem dX2_handled_94 : decode cX2_handled 94 = .ok (.iload 9, 2) := dk_21 9 (dk_at dksX2_handled_4 0 rfl rfl)
theorem dX2_handled_96 : decode cX2_handled 96 = .ok (.invokevirtual 86, 3) := dk_182 0 86 (dk_at dksX2_handled_4 2 rfl rfl)
theorem dX2_handled_99 : decode cX2_handled 99 = .ok (.checkcast 187, 3) := dk_192 0 187 (dk_at dksX2_handled_4 5 rfl rfl)
theorem dX2_handled_102 : decode cX2_handled 102 = .ok (.invokevirtual 197, 3) := dk_182 0 197 (dk_at dksX2_handled_4 8 rfl rfl)
theorem dX2_handled_105 : decode cX2_handled 105 = .ok (.iadd, 1) := dk_96 (dk_at dksX2_handled_4 11 rfl rfl)
theorem dX2_handled_106 : decode cX2_handled 106 = .ok (.istore 8, 2) := dk_54 8 (dk_at dksX2_handled_4 12 rfl rfl)
theorem dX2_handled_108 : decode cX2_handled 108 = .ok (.iinc 9 1, 3) := dk_132 9 1 (dk_at dksX2_handled_4 14 rfl rfl)
theorem dX2_handled_111 : decode cX2_handled 111 = .ok (.goto (-28), 3) := dk_167 255 228 (dk_at dksX2_handled_4 17 rfl rfl)
theorem dX2_handled_114 : decode cX2_handled 114 = .ok (.aload_n 0, 1) := dk_42 (dk_at dksX2_handled_4 20 rfl rfl)
theorem dX2_handled_115 : decode cX2_handled 115 = .ok (.getfield 42, 3) := dk_180 0 42 (dk_at dksX2_handled_4 21 rfl rfl)
theorem dX2_handled_118 : decode cX2_handled 118 = .ok (.ifCond .eq 17, 3) := dk_153 0 17 (dk_at dksX2_handled_5 0 rfl rfl)
theorem dX2_handled_121 : decode cX2_handled 121 = .ok (.aload_n 0, 1) := dk_42 (dk_at dksX2_handled_5 3 rfl rfl)
theorem dX2_handled_122 : decode cX2_handled 122 = .ok (.getfield 3, 3) := dk_180 0 3 (dk_at dksX2_handled_5 4 rfl rfl)
theorem dX2_handled_125 : decode cX2_handled 125 = .ok (.aload_n 2, 1) := dk_44 (dk_at dksX2_handled_5 7 rfl rfl)
theorem dX2_handled_126 : decode cX2_handled 126 = .ok (.iload_n 3, 1) := dk_29 (dk_at dksX2_handled_5 8 rfl rfl)
theorem dX2_handled_127 : decode cX2_handled 127 = .ok (.iload 8, 2) := dk_21 8 (dk_at dksX2_handled_5 9 rfl rfl)
theorem dX2_handled_129 : decode cX2_handled 129 = .ok (.invokevirtual 176, 3) := dk_182 0 176 (dk_at dksX2_handled_5 11 rfl rfl)
theorem dX2_handled_132 : decode cX2_handled 132 = .ok (.goto 4, 3) := dk_167 0 4 (dk_at dksX2_handled_5 14 rfl rfl)
theorem dX2_handled_135 : decode cX2_handled 135 = .ok (.aconst_null, 1) := dk_1 (dk_at dksX2_handled_5 17 rfl rfl)
theorem dX2_handled_136 : decode cX2_handled 136 = .ok (.astore 9, 2) := dk_58 9 (dk_at dksX2_handled_5 18 rfl rfl)
theorem dX2_handled_138 : decode cX2_handled 138 = .ok (.aload_n 0, 1) := dk_42 (dk_at dksX2_handled_5 20 rfl rfl)
theorem dX2_handled_139 : decode cX2_handled 139 = .ok (.bipush 104, 2) := dk_16 104 (dk_at dksX2_handled_5 21 rfl rfl)
theorem dX2_handled_141 : decode cX2_handled 141 = .ok (.aload 5, 2) := dk_25 5 (dk_at dksX2_handled_6 0 rfl rfl)
theorem dX2_handled_143 : decode cX2_handled 143 = .ok (.getfield 67, 3) := dk_180 0 67 (dk_at dksX2_handled_6 2 rfl rfl)
theorem dX2_handled_146 : decode cX2_handled 146 = .ok (.aload_n 1, 1) := dk_43 (dk_at dksX2_handled_6 5 rfl rfl)
theorem dX2_handled_147 : decode cX2_handled 147 = .ok (.getfield 156, 3) := dk_180 0 156 (dk_at dksX2_handled_6 6 rfl rfl)
theorem dX2_handled_150 : decode cX2_handled 150 = .ok (.iconst 0, 1) := dk_3 (dk_at dksX2_handled_6 9 rfl rfl)
theorem dX2_handled_151 : decode cX2_handled 151 = .ok (.aload 9, 2) := dk_25 9 (dk_at dksX2_handled_6 10 rfl rfl)
theorem dX2_handled_153 : decode cX2_handled 153 = .ok (.aload_n 2, 1) := dk_44 (dk_at dksX2_handled_6 12 rfl rfl)
theorem dX2_handled_154 : decode cX2_handled 154 = .ok (.getfield 180, 3) := dk_180 0 180 (dk_at dksX2_handled_6 13 rfl rfl)
theorem dX2_handled_157 : decode cX2_handled 157 = .ok (.invokedynamic 245, 5) := by decide +kernel
theorem dX2_handled_162 : decode cX2_handled 162 = .ok (.invokevirtual 163, 3) := dk_182 0 163 (dk_at dksX2_handled_6 21 rfl rfl)
theorem dX2_handled_165 : decode cX2_handled 165 = .ok (.ireturn, 1) := dk_172 (dk_at dksX2_handled_7 0 rfl rfl)
abbrev cX2_lambda_handled_5 : ByteArray := prog_14_method_15_code
def yX2_lambda_handled_5 : MethodName := ⟨RX2, "lambda$handled$5", "(I)I"⟩
theorem dX2_lambda_handled_5_0 : decode cX2_lambda_handled_5 0 = .ok (.iload_n 0, 1) := by decide +kernel
theorem dX2_lambda_handled_5_1 : decode cX2_lambda_handled_5 1 = .ok (.ireturn, 1) := by decide +kernel
theorem q64 : (Jvm.Cond.initialized "Weaversgate$Run") ∈ lw_all := lw_g (lw_at lw_m1 5 rfl) rfl
theorem q159 : (Jvm.Cond.instantiable "Weaversgate$Run" (9 : Nat)) ∈ lw_all := lw_g (lw_at lw_m1 100 rfl) rfl
theorem q161 : (Jvm.Cond.instanceMethod ({ cls := "Weaversgate$Run", name := "<init>", desc := "(LWeaversgate;)V" } : Jvm.MethodName)) ∈ lw_all := lw_g (lw_at lw_m1 102 rfl) rfl
theorem q162 : (Jvm.Cond.code ({ cls := "Weaversgate$Run", name := "<init>", desc := "(LWeaversgate;)V" } : Jvm.MethodName) prog_14_method_1_code (2 : Nat) (Option.none : Option Jvm.ClassFile.FieldType)) ∈ lw_all := lw_g (lw_at lw_m1 103 rfl) rfl
theorem q163 : (Jvm.Cond.methodLink "Weaversgate$Run" (9 : Nat) ({ cls := "java/lang/Object", name := "<init>", desc := "()V" } : Jvm.MethodName)) ∈ lw_all := lw_g (lw_at lw_m1 104 rfl) rfl
theorem q164 : (Jvm.Cond.classLink "Weaversgate$Run" (15 : Nat) "Weaversgate$Trace") ∈ lw_all := lw_g (lw_at lw_m1 105 rfl) rfl
theorem q166 : (Jvm.Cond.methodLinkNest "Weaversgate$Run" (17 : Nat) ({ cls := "Weaversgate$Trace", name := "<init>", desc := "()V" } : Jvm.MethodName) "Weaversgate") ∈ lw_tbl := lw_at lw_m1 107 rfl
theorem q176 : (Jvm.Cond.fieldLinkNest "Weaversgate$Run" (32 : Nat) "Weaversgate$Trace" "many" "I" "Weaversgate") ∈ lw_tbl := lw_at lw_m1 117 rfl
theorem q189 : (Jvm.Cond.classLink "Weaversgate$Run" (22 : Nat) "Weaversgate$Advice") ∈ lw_all := lw_g (lw_at lw_m1 130 rfl) rfl
theorem q191 : (Jvm.Cond.fieldLink "Weaversgate$Run" (18 : Nat) "Weaversgate$Run" "trace" "LWeaversgate$Trace;") ∈ lw_all := lw_g (lw_at lw_m1 132 rfl) rfl
theorem q193 : (Jvm.Cond.fieldLink "Weaversgate$Run" (24 : Nat) "Weaversgate$Run" "ordered" "[LWeaversgate$Advice;") ∈ lw_all := lw_g (lw_at lw_m1 134 rfl) rfl
theorem q194 : (Jvm.Cond.fieldLink "Weaversgate$Run" (28 : Nat) "Weaversgate$Run" "how" "C") ∈ lw_all := lw_g (lw_at lw_m1 135 rfl) rfl
theorem q196 : (Jvm.Cond.fieldLink "Weaversgate$Run" (50 : Nat) "Weaversgate$Run" "result" "I") ∈ lw_all := lw_g (lw_at lw_m1 137 rfl) rfl
theorem q198 : (Jvm.Cond.fieldLink "Weaversgate$Run" (36 : Nat) "Weaversgate$Run" "points" "I") ∈ lw_all := lw_g (lw_at lw_m1 139 rfl) rfl
theorem q200 : (Jvm.Cond.fieldLink "Weaversgate$Run" (39 : Nat) "Weaversgate$Run" "asked" "I") ∈ lw_all := lw_g (lw_at lw_m1 141 rfl) rfl
theorem q202 : (Jvm.Cond.fieldLink "Weaversgate$Run" (42 : Nat) "Weaversgate$Run" "isWoven" "Z") ∈ lw_all := lw_g (lw_at lw_m1 143 rfl) rfl
theorem q203 : (Jvm.Cond.fieldLink "Weaversgate$Run" (46 : Nat) "Weaversgate$Run" "present" "LWeaversgate$Point;") ∈ lw_all := lw_g (lw_at lw_m1 144 rfl) rfl
theorem q204 : (Jvm.Cond.fieldLink "Weaversgate$Run" (3 : Nat) "Weaversgate$Run" "this$0" "LWeaversgate;") ∈ lw_all := lw_g (lw_at lw_m1 145 rfl) rfl
theorem q205 : (Jvm.Cond.laysFinal "Weaversgate$Run" "Weaversgate$Run" "trace" "LWeaversgate$Trace;") ∈ lw_all := lw_g (lw_at lw_m1 146 rfl) rfl
theorem q206 : (Jvm.Cond.soleField "Weaversgate$Run" "trace") ∈ lw_all := lw_g (lw_at lw_m1 147 rfl) rfl
theorem q207 : (Jvm.Cond.laysFinal "Weaversgate$Run" "Weaversgate$Run" "ordered" "[LWeaversgate$Advice;") ∈ lw_all := lw_g (lw_at lw_m1 148 rfl) rfl
theorem q208 : (Jvm.Cond.soleField "Weaversgate$Run" "ordered") ∈ lw_all := lw_g (lw_at lw_m1 149 rfl) rfl
theorem q209 : (Jvm.Cond.lays "Weaversgate$Run" "Weaversgate$Run" "how" "C") ∈ lw_all := lw_g (lw_at lw_m1 150 rfl) rfl
theorem q210 : (Jvm.Cond.soleField "Weaversgate$Run" "how") ∈ lw_all := lw_g (lw_at lw_m1 151 rfl) rfl
theorem q211 : (Jvm.Cond.lays "Weaversgate$Run" "Weaversgate$Run" "result" "I") ∈ lw_all := lw_g (lw_at lw_m1 152 rfl) rfl
theorem q212 : (Jvm.Cond.soleField "Weaversgate$Run" "result") ∈ lw_all := lw_g (lw_at lw_m1 153 rfl) rfl
theorem q213 : (Jvm.Cond.lays "Weaversgate$Run" "Weaversgate$Run" "points" "I") ∈ lw_all := lw_g (lw_at lw_m1 154 rfl) rfl
theorem q214 : (Jvm.Cond.soleField "Weaversgate$Run" "points") ∈ lw_all := lw_g (lw_at lw_m1 155 rfl) rfl
theorem q215 : (Jvm.Cond.lays "Weaversgate$Run" "Weaversgate$Run" "asked" "I") ∈ lw_all := lw_g (lw_at lw_m1 156 rfl) rfl
theorem q216 : (Jvm.Cond.soleField "Weaversgate$Run" "asked") ∈ lw_all := lw_g (lw_at lw_m1 157 rfl) rfl
theorem q217 : (Jvm.Cond.lays "Weaversgate$Run" "Weaversgate$Run" "isWoven" "Z") ∈ lw_all := lw_g (lw_at lw_m1 158 rfl) rfl
theorem q218 : (Jvm.Cond.soleField "Weaversgate$Run" "isWoven") ∈ lw_all := lw_g (lw_at lw_m1 159 rfl) rfl
theorem q219 : (Jvm.Cond.lays "Weaversgate$Run" "Weaversgate$Run" "present" "LWeaversgate$Point;") ∈ lw_all := lw_g (lw_at lw_m1 160 rfl) rfl
theorem q220 : (Jvm.Cond.soleField "Weaversgate$Run" "present") ∈ lw_all := lw_g (lw_at lw_m1 161 rfl) rfl
theorem q221 : (Jvm.Cond.laysFinal "Weaversgate$Run" "Weaversgate$Run" "this$0" "LWeaversgate;") ∈ lw_all := lw_g (lw_at lw_m1 162 rfl) rfl
theorem q222 : (Jvm.Cond.soleField "Weaversgate$Run" "this$0") ∈ lw_all := lw_g (lw_at lw_m1 163 rfl) rfl
theorem q223 : (Jvm.Cond.superclass "Weaversgate$Run" "java/lang/Object") ∈ lw_all := lw_g (lw_at lw_m1 164 rfl) rfl
theorem q226 : (Jvm.Cond.fieldLinkNest "Weaversgate$Run" (225 : Nat) "Weaversgate" "types" "Ljava/util/ArrayList;" "Weaversgate") ∈ lw_tbl := lw_at lw_m1 167 rfl
theorem q228 : (Jvm.Cond.fieldLinkNest "Weaversgate$Run" (76 : Nat) "Weaversgate" "advices" "Ljava/util/ArrayList;" "Weaversgate") ∈ lw_tbl := lw_at lw_m1 169 rfl
theorem q785 : (Jvm.Cond.selects "Weaversgate$Run" ({ cls := "java/lang/Object", name := "getClass", desc := "()Ljava/lang/Class;" } : Jvm.MethodName) ({ cls := "java/lang/Object", name := "getClass", desc := "()Ljava/lang/Class;" } : Jvm.MethodName)) ∈ lw_all := lw_g (lw_at lw_m4 6 rfl) rfl
theorem q940 : (Jvm.Cond.instanceMethod ({ cls := "Weaversgate$Run", name := "begin", desc := "(LWeaversgate$Type;IIZ)V" } : Jvm.MethodName)) ∈ lw_all := lw_g (lw_at lw_m4 161 rfl) rfl
theorem q941 : (Jvm.Cond.selects "Weaversgate$Run" ({ cls := "Weaversgate$Run", name := "begin", desc := "(LWeaversgate$Type;IIZ)V" } : Jvm.MethodName) ({ cls := "Weaversgate$Run", name := "begin", desc := "(LWeaversgate$Type;IIZ)V" } : Jvm.MethodName)) ∈ lw_all := lw_g (lw_at lw_m4 162 rfl) rfl
theorem q942 : (Jvm.Cond.codeWith ({ cls := "Weaversgate$Run", name := "begin", desc := "(LWeaversgate$Type;IIZ)V" } : Jvm.MethodName) prog_14_method_2_code (6 : Nat) (Option.none : Option Jvm.ClassFile.FieldType) [((38 : Nat), (64 : Nat), (67 : Nat), (65 : Nat)), ((38 : Nat), (64 : Nat), (87 : Nat), (70 : Nat))]) ∈ lw_all := lw_g (lw_at lw_m4 163 rfl) rfl
theorem q943 : (Jvm.Cond.classLink "Weaversgate$Run" (65 : Nat) "Weaversgate$Thrown") ∈ lw_all := lw_g (lw_at lw_m4 164 rfl) rfl
theorem q944 : (Jvm.Cond.classLink "Weaversgate$Run" (70 : Nat) "Weaversgate$GivenUp") ∈ lw_all := lw_g (lw_at lw_m4 165 rfl) rfl
theorem q945 : (Jvm.Cond.methodLink "Weaversgate$Run" (53 : Nat) ({ cls := "Weaversgate$Run", name := "order", desc := "()V" } : Jvm.MethodName)) ∈ lw_all := lw_g (lw_at lw_m4 166 rfl) rfl
theorem q946 : (Jvm.Cond.privateMethod ({ cls := "Weaversgate$Run", name := "order", desc := "()V" } : Jvm.MethodName)) ∈ lw_tbl := lw_at lw_m4 167 rfl
theorem q947 : (Jvm.Cond.instanceMethod ({ cls := "Weaversgate$Run", name := "order", desc := "()V" } : Jvm.MethodName)) ∈ lw_all := lw_g (lw_at lw_m4 168 rfl) rfl
theorem q948 : (Jvm.Cond.code ({ cls := "Weaversgate$Run", name := "order", desc := "()V" } : Jvm.MethodName) prog_14_method_3_code (5 : Nat) (Option.none : Option Jvm.ClassFile.FieldType)) ∈ lw_all := lw_g (lw_at lw_m4 169 rfl) rfl
theorem q949 : (Jvm.Cond.methodLinkNest "Weaversgate$Run" (72 : Nat) ({ cls := "Weaversgate", name := "aspectOf", desc := "(I)I" } : Jvm.MethodName) "Weaversgate") ∈ lw_tbl := lw_at lw_m4 170 rfl
theorem q950 : (Jvm.Cond.methodLink "Weaversgate$Run" (80 : Nat) ({ cls := "java/util/ArrayList", name := "size", desc := "()I" } : Jvm.MethodName)) ∈ lw_all := lw_g (lw_at lw_m4 171 rfl) rfl
theorem q951 : (Jvm.Cond.methodLink "Weaversgate$Run" (86 : Nat) ({ cls := "java/util/ArrayList", name := "get", desc := "(I)Ljava/lang/Object;" } : Jvm.MethodName)) ∈ lw_all := lw_g (lw_at lw_m4 172 rfl) rfl
theorem q952 : (Jvm.Cond.classLink "Weaversgate$Run" (56 : Nat) "Weaversgate$Thing") ∈ lw_all := lw_g (lw_at lw_m4 173 rfl) rfl
theorem q954 : (Jvm.Cond.methodLink "Weaversgate$Run" (58 : Nat) ({ cls := "Weaversgate$Thing", name := "<init>", desc := "(LWeaversgate$Type;)V" } : Jvm.MethodName)) ∈ lw_all := lw_g (lw_at lw_m4 175 rfl) rfl
theorem q959 : (Jvm.Cond.fieldLinkNest "Weaversgate$Run" (156 : Nat) "Weaversgate$Thing" "type" "LWeaversgate$Type;" "Weaversgate") ∈ lw_tbl := lw_at lw_m4 180 rfl
theorem q961 : (Jvm.Cond.fieldLinkNest "Weaversgate$Run" (240 : Nat) "Weaversgate$Thing" "fields" "[I" "Weaversgate") ∈ lw_tbl := lw_at lw_m4 182 rfl
theorem q967 : (Jvm.Cond.methodLink "Weaversgate$Run" (61 : Nat) ({ cls := "Weaversgate$Run", name := "call", desc := "(LWeaversgate$Thing;IIILWeaversgate$Place;)I" } : Jvm.MethodName)) ∈ lw_all := lw_g (lw_at lw_m4 188 rfl) rfl
theorem q968 : (Jvm.Cond.privateMethod ({ cls := "Weaversgate$Run", name := "call", desc := "(LWeaversgate$Thing;IIILWeaversgate$Place;)I" } : Jvm.MethodName)) ∈ lw_tbl := lw_at lw_m4 189 rfl
theorem q969 : (Jvm.Cond.instanceMethod ({ cls := "Weaversgate$Run", name := "call", desc := "(LWeaversgate$Thing;IIILWeaversgate$Place;)I" } : Jvm.MethodName)) ∈ lw_all := lw_g (lw_at lw_m4 190 rfl) rfl
theorem q970 : (Jvm.Cond.code ({ cls := "Weaversgate$Run", name := "call", desc := "(LWeaversgate$Thing;IIILWeaversgate$Place;)I" } : Jvm.MethodName) prog_14_method_9_code (6 : Nat) (Option.some Jvm.ClassFile.FieldType.int)) ∈ lw_all := lw_g (lw_at lw_m4 191 rfl) rfl
theorem q971 : (Jvm.Cond.privateMethod ({ cls := "Weaversgate$Run", name := "lambda$call$0", desc := "(LWeaversgate$Thing;II)I" } : Jvm.MethodName)) ∈ lw_tbl := lw_at lw_m4 192 rfl
theorem q972 : (Jvm.Cond.instanceMethod ({ cls := "Weaversgate$Run", name := "lambda$call$0", desc := "(LWeaversgate$Thing;II)I" } : Jvm.MethodName)) ∈ lw_all := lw_g (lw_at lw_m4 193 rfl) rfl
theorem q973 : (Jvm.Cond.code ({ cls := "Weaversgate$Run", name := "lambda$call$0", desc := "(LWeaversgate$Thing;II)I" } : Jvm.MethodName) prog_14_method_20_code (4 : Nat) (Option.some Jvm.ClassFile.FieldType.int)) ∈ lw_all := lw_g (lw_at lw_m4 194 rfl) rfl
theorem q974 : (Jvm.Cond.methodLink "Weaversgate$Run" (254 : Nat) ({ cls := "Weaversgate$Run", name := "body", desc := "(LWeaversgate$Thing;II)I" } : Jvm.MethodName)) ∈ lw_all := lw_g (lw_at lw_m4 195 rfl) rfl
theorem q975 : (Jvm.Cond.privateMethod ({ cls := "Weaversgate$Run", name := "body", desc := "(LWeaversgate$Thing;II)I" } : Jvm.MethodName)) ∈ lw_tbl := lw_at lw_m4 196 rfl
theorem q976 : (Jvm.Cond.instanceMethod ({ cls := "Weaversgate$Run", name := "body", desc := "(LWeaversgate$Thing;II)I" } : Jvm.MethodName)) ∈ lw_all := lw_g (lw_at lw_m4 197 rfl) rfl
theorem q977 : (Jvm.Cond.code ({ cls := "Weaversgate$Run", name := "body", desc := "(LWeaversgate$Thing;II)I" } : Jvm.MethodName) prog_14_method_10_code (6 : Nat) (Option.some Jvm.ClassFile.FieldType.int)) ∈ lw_all := lw_g (lw_at lw_m4 198 rfl) rfl
theorem q978 : (Jvm.Cond.methodLink "Weaversgate$Run" (167 : Nat) ({ cls := "Weaversgate$Type", name := "finder", desc := "(I)LWeaversgate$Type;" } : Jvm.MethodName)) ∈ lw_all := lw_g (lw_at lw_m4 199 rfl) rfl
theorem q987 : (Jvm.Cond.methodLink "Weaversgate$Run" (173 : Nat) ({ cls := "Weaversgate$Thrown", name := "<init>", desc := "(I)V" } : Jvm.MethodName)) ∈ lw_all := lw_g (lw_at lw_m4 208 rfl) rfl
theorem q995 : (Jvm.Cond.fieldLinkNest "Weaversgate$Run" (67 : Nat) "Weaversgate$Thrown" "number" "I" "Weaversgate") ∈ lw_tbl := lw_at lw_m4 216 rfl
theorem q1000 : (Jvm.Cond.methodLinkNest "Weaversgate$Run" (176 : Nat) ({ cls := "Weaversgate", name := "placeOf", desc := "(LWeaversgate$Type;II)LWeaversgate$Place;" } : Jvm.MethodName) "Weaversgate") ∈ lw_tbl := lw_at lw_m4 221 rfl
theorem q1001 : (Jvm.Cond.privateMethod ({ cls := "Weaversgate$Run", name := "lambda$body$1", desc := "(LWeaversgate$Thing;LWeaversgate$Type;II)I" } : Jvm.MethodName)) ∈ lw_tbl := lw_at lw_m4 222 rfl
theorem q1002 : (Jvm.Cond.instanceMethod ({ cls := "Weaversgate$Run", name := "lambda$body$1", desc := "(LWeaversgate$Thing;LWeaversgate$Type;II)I" } : Jvm.MethodName)) ∈ lw_all := lw_g (lw_at lw_m4 223 rfl) rfl
theorem q1003 : (Jvm.Cond.code ({ cls := "Weaversgate$Run", name := "lambda$body$1", desc := "(LWeaversgate$Thing;LWeaversgate$Type;II)I" } : Jvm.MethodName) prog_14_method_19_code (5 : Nat) (Option.some Jvm.ClassFile.FieldType.int)) ∈ lw_all := lw_g (lw_at lw_m4 224 rfl) rfl
theorem q1004 : (Jvm.Cond.methodLink "Weaversgate$Run" (250 : Nat) ({ cls := "Weaversgate$Run", name := "steps", desc := "(LWeaversgate$Thing;LWeaversgate$Type;II)I" } : Jvm.MethodName)) ∈ lw_all := lw_g (lw_at lw_m4 225 rfl) rfl
theorem q1005 : (Jvm.Cond.privateMethod ({ cls := "Weaversgate$Run", name := "steps", desc := "(LWeaversgate$Thing;LWeaversgate$Type;II)I" } : Jvm.MethodName)) ∈ lw_tbl := lw_at lw_m4 226 rfl
theorem q1006 : (Jvm.Cond.instanceMethod ({ cls := "Weaversgate$Run", name := "steps", desc := "(LWeaversgate$Thing;LWeaversgate$Type;II)I" } : Jvm.MethodName)) ∈ lw_all := lw_g (lw_at lw_m4 227 rfl) rfl
theorem q1007 : (Jvm.Cond.codeWith ({ cls := "Weaversgate$Run", name := "steps", desc := "(LWeaversgate$Thing;LWeaversgate$Type;II)I" } : Jvm.MethodName) prog_14_method_11_code (11 : Nat) (Option.some Jvm.ClassFile.FieldType.int) [((45 : Nat), (60 : Nat), (63 : Nat), (65 : Nat))]) ∈ lw_all := lw_g (lw_at lw_m4 228 rfl) rfl
theorem q1008 : (Jvm.Cond.classLink "Weaversgate$Run" (81 : Nat) "java/util/ArrayList") ∈ lw_all := lw_g (lw_at lw_m4 229 rfl) rfl
theorem q1009 : (Jvm.Cond.classLink "Weaversgate$Run" (187 : Nat) "Weaversgate$Step") ∈ lw_all := lw_g (lw_at lw_m4 230 rfl) rfl
theorem q1010 : (Jvm.Cond.methodLink "Weaversgate$Run" (189 : Nat) ({ cls := "Weaversgate$Run", name := "done", desc := "(LWeaversgate$Thing;LWeaversgate$Type;ILWeaversgate$Step;II)I" } : Jvm.MethodName)) ∈ lw_all := lw_g (lw_at lw_m4 231 rfl) rfl
theorem q1011 : (Jvm.Cond.privateMethod ({ cls := "Weaversgate$Run", name := "done", desc := "(LWeaversgate$Thing;LWeaversgate$Type;ILWeaversgate$Step;II)I" } : Jvm.MethodName)) ∈ lw_tbl := lw_at lw_m4 232 rfl
theorem q1012 : (Jvm.Cond.instanceMethod ({ cls := "Weaversgate$Run", name := "done", desc := "(LWeaversgate$Thing;LWeaversgate$Type;ILWeaversgate$Step;II)I" } : Jvm.MethodName)) ∈ lw_all := lw_g (lw_at lw_m4 233 rfl) rfl
theorem q1013 : (Jvm.Cond.code ({ cls := "Weaversgate$Run", name := "done", desc := "(LWeaversgate$Thing;LWeaversgate$Type;ILWeaversgate$Step;II)I" } : Jvm.MethodName) prog_14_method_12_code (13 : Nat) (Option.some Jvm.ClassFile.FieldType.int)) ∈ lw_all := lw_g (lw_at lw_m4 234 rfl) rfl
theorem q1014 : (Jvm.Cond.methodLink "Weaversgate$Run" (197 : Nat) ({ cls := "Weaversgate$Step", name := "places", desc := "()I" } : Jvm.MethodName)) ∈ lw_all := lw_g (lw_at lw_m4 235 rfl) rfl
theorem q1015 : (Jvm.Cond.methodLink "Weaversgate$Run" (200 : Nat) ({ cls := "Weaversgate$Step", name := "word", desc := "()Ljava/lang/String;" } : Jvm.MethodName)) ∈ lw_all := lw_g (lw_at lw_m4 236 rfl) rfl
theorem q1016 : (Jvm.Cond.methodLink "Weaversgate$Run" (204 : Nat) ({ cls := "java/lang/String", name := "hashCode", desc := "()I" } : Jvm.MethodName)) ∈ lw_all := lw_g (lw_at lw_m4 237 rfl) rfl
theorem q1017 : (Jvm.Cond.stringRef "Weaversgate$Run" (209 : Nat) "add") ∈ lw_tbl := lw_at lw_m4 238 rfl
theorem q1018 : (Jvm.Cond.methodLink "Weaversgate$Run" (210 : Nat) ({ cls := "java/lang/String", name := "equals", desc := "(Ljava/lang/Object;)Z" } : Jvm.MethodName)) ∈ lw_all := lw_g (lw_at lw_m4 239 rfl) rfl
theorem q1019 : (Jvm.Cond.stringRef "Weaversgate$Run" (214 : Nat) "call") ∈ lw_tbl := lw_at lw_m5 0 rfl
theorem q1020 : (Jvm.Cond.stringRef "Weaversgate$Run" (215 : Nat) "make") ∈ lw_tbl := lw_at lw_m5 1 rfl
theorem q1021 : (Jvm.Cond.stringRef "Weaversgate$Run" (217 : Nat) "get") ∈ lw_tbl := lw_at lw_m5 2 rfl
theorem q1022 : (Jvm.Cond.stringRef "Weaversgate$Run" (218 : Nat) "set") ∈ lw_tbl := lw_at lw_m5 3 rfl
theorem q1023 : (Jvm.Cond.stringRef "Weaversgate$Run" (220 : Nat) "throw") ∈ lw_tbl := lw_at lw_m5 4 rfl
theorem q1024 : (Jvm.Cond.classLink "Weaversgate$Run" (168 : Nat) "Weaversgate$Type") ∈ lw_all := lw_g (lw_at lw_m5 5 rfl) rfl
theorem q1025 : (Jvm.Cond.static ({ cls := "Weaversgate$Run", name := "lambda$done$2", desc := "(I)I" } : Jvm.MethodName)) ∈ lw_all := lw_g (lw_at lw_m5 6 rfl) rfl
theorem q1026 : (Jvm.Cond.code ({ cls := "Weaversgate$Run", name := "lambda$done$2", desc := "(I)I" } : Jvm.MethodName) prog_14_method_18_code (1 : Nat) (Option.some Jvm.ClassFile.FieldType.int)) ∈ lw_all := lw_g (lw_at lw_m5 7 rfl) rfl
theorem q1027 : (Jvm.Cond.methodLink "Weaversgate$Run" (163 : Nat) ({ cls := "Weaversgate$Run", name := "point", desc := "(CILWeaversgate$Type;ILWeaversgate$Place;ILWeaversgate$Act;)I" } : Jvm.MethodName)) ∈ lw_all := lw_g (lw_at lw_m5 8 rfl) rfl
theorem q1028 : (Jvm.Cond.privateMethod ({ cls := "Weaversgate$Run", name := "point", desc := "(CILWeaversgate$Type;ILWeaversgate$Place;ILWeaversgate$Act;)I" } : Jvm.MethodName)) ∈ lw_tbl := lw_at lw_m5 9 rfl
theorem q1029 : (Jvm.Cond.instanceMethod ({ cls := "Weaversgate$Run", name := "point", desc := "(CILWeaversgate$Type;ILWeaversgate$Place;ILWeaversgate$Act;)I" } : Jvm.MethodName)) ∈ lw_all := lw_g (lw_at lw_m5 10 rfl) rfl
theorem q1030 : (Jvm.Cond.codeWith ({ cls := "Weaversgate$Run", name := "point", desc := "(CILWeaversgate$Type;ILWeaversgate$Place;ILWeaversgate$Act;)I" } : Jvm.MethodName) prog_14_method_5_code (12 : Nat) (Option.some Jvm.ClassFile.FieldType.int) [((68 : Nat), (93 : Nat), (102 : Nat), (0 : Nat)), ((102 : Nat), (104 : Nat), (102 : Nat), (0 : Nat))]) ∈ lw_all := lw_g (lw_at lw_m5 11 rfl) rfl
theorem q1031 : (Jvm.Cond.methodLink "Weaversgate$Run" (114 : Nat) ({ cls := "Weaversgate$Point", name := "goingOn", desc := "()I" } : Jvm.MethodName)) ∈ lw_all := lw_g (lw_at lw_m5 12 rfl) rfl
theorem q1044 : (Jvm.Cond.methodLinkNest "Weaversgate$Run" (119 : Nat) ({ cls := "Weaversgate$GivenUp", name := "<init>", desc := "()V" } : Jvm.MethodName) "Weaversgate") ∈ lw_tbl := lw_at lw_m5 25 rfl
theorem q1053 : (Jvm.Cond.classLink "Weaversgate$Run" (115 : Nat) "Weaversgate$Point") ∈ lw_all := lw_g (lw_at lw_m5 34 rfl) rfl
theorem q1055 : (Jvm.Cond.methodLink "Weaversgate$Run" (120 : Nat) ({ cls := "Weaversgate$Point", name := "<init>", desc := "(CILWeaversgate$Type;IILWeaversgate$Point;)V" } : Jvm.MethodName)) ∈ lw_all := lw_g (lw_at lw_m5 36 rfl) rfl
theorem q1090 : (Jvm.Cond.methodLink "Weaversgate$Run" (123 : Nat) ({ cls := "Weaversgate$Run", name := "chosen", desc := "(LWeaversgate$Point;LWeaversgate$Place;)I" } : Jvm.MethodName)) ∈ lw_all := lw_g (lw_at lw_m5 71 rfl) rfl
theorem q1091 : (Jvm.Cond.privateMethod ({ cls := "Weaversgate$Run", name := "chosen", desc := "(LWeaversgate$Point;LWeaversgate$Place;)I" } : Jvm.MethodName)) ∈ lw_tbl := lw_at lw_m5 72 rfl
theorem q1092 : (Jvm.Cond.instanceMethod ({ cls := "Weaversgate$Run", name := "chosen", desc := "(LWeaversgate$Point;LWeaversgate$Place;)I" } : Jvm.MethodName)) ∈ lw_all := lw_g (lw_at lw_m5 73 rfl) rfl
theorem q1093 : (Jvm.Cond.code ({ cls := "Weaversgate$Run", name := "chosen", desc := "(LWeaversgate$Point;LWeaversgate$Place;)I" } : Jvm.MethodName) prog_14_method_4_code (8 : Nat) (Option.some Jvm.ClassFile.FieldType.int)) ∈ lw_all := lw_g (lw_at lw_m5 74 rfl) rfl
theorem q1094 : (Jvm.Cond.interfaceEntry "Weaversgate$Run" (97 : Nat)) ∈ lw_tbl := lw_at lw_m5 75 rfl
theorem q1095 : (Jvm.Cond.methodLink "Weaversgate$Run" (97 : Nat) ({ cls := "Weaversgate$Pattern", name := "isAsked", desc := "(LWeaversgate$Place;)Z" } : Jvm.MethodName)) ∈ lw_all := lw_g (lw_at lw_m5 76 rfl) rfl
theorem q1112 : (Jvm.Cond.interfaceEntry "Weaversgate$Run" (106 : Nat)) ∈ lw_tbl := lw_at lw_m5 93 rfl
theorem q1113 : (Jvm.Cond.methodLink "Weaversgate$Run" (106 : Nat) ({ cls := "Weaversgate$Pattern", name := "at", desc := "(LWeaversgate$Place;)C" } : Jvm.MethodName)) ∈ lw_all := lw_g (lw_at lw_m5 94 rfl) rfl
theorem q1114 : (Jvm.Cond.interfaceEntry "Weaversgate$Run" (110 : Nat)) ∈ lw_tbl := lw_at lw_m5 95 rfl
theorem q1115 : (Jvm.Cond.methodLink "Weaversgate$Run" (110 : Nat) ({ cls := "Weaversgate$Pattern", name := "holds", desc := "(LWeaversgate$Point;)Z" } : Jvm.MethodName)) ∈ lw_all := lw_g (lw_at lw_m5 96 rfl) rfl
theorem q1171 : (Jvm.Cond.methodLink "Weaversgate$Run" (127 : Nat) ({ cls := "Weaversgate$Run", name := "goOn", desc := "(IIILWeaversgate$Act;)I" } : Jvm.MethodName)) ∈ lw_all := lw_g (lw_at lw_m5 152 rfl) rfl
theorem q1172 : (Jvm.Cond.privateMethod ({ cls := "Weaversgate$Run", name := "goOn", desc := "(IIILWeaversgate$Act;)I" } : Jvm.MethodName)) ∈ lw_tbl := lw_at lw_m5 153 rfl
theorem q1173 : (Jvm.Cond.instanceMethod ({ cls := "Weaversgate$Run", name := "goOn", desc := "(IIILWeaversgate$Act;)I" } : Jvm.MethodName)) ∈ lw_all := lw_g (lw_at lw_m5 154 rfl) rfl
theorem q1174 : (Jvm.Cond.code ({ cls := "Weaversgate$Run", name := "goOn", desc := "(IIILWeaversgate$Act;)I" } : Jvm.MethodName) prog_14_method_6_code (7 : Nat) (Option.some Jvm.ClassFile.FieldType.int)) ∈ lw_all := lw_g (lw_at lw_m5 155 rfl) rfl
theorem q1175 : (Jvm.Cond.interfaceEntry "Weaversgate$Run" (131 : Nat)) ∈ lw_tbl := lw_at lw_m5 156 rfl
theorem q1176 : (Jvm.Cond.methodLink "Weaversgate$Run" (131 : Nat) ({ cls := "Weaversgate$Act", name := "with", desc := "(I)I" } : Jvm.MethodName)) ∈ lw_all := lw_g (lw_at lw_m5 157 rfl) rfl
theorem q1179 : (Jvm.Cond.methodLink "Weaversgate$Run" (139 : Nat) ({ cls := "Weaversgate$Run", name := "around", desc := "(LWeaversgate$Advice;IIILWeaversgate$Act;)I" } : Jvm.MethodName)) ∈ lw_all := lw_g (lw_at lw_m5 160 rfl) rfl
theorem q1180 : (Jvm.Cond.privateMethod ({ cls := "Weaversgate$Run", name := "around", desc := "(LWeaversgate$Advice;IIILWeaversgate$Act;)I" } : Jvm.MethodName)) ∈ lw_tbl := lw_at lw_m5 161 rfl
theorem q1181 : (Jvm.Cond.instanceMethod ({ cls := "Weaversgate$Run", name := "around", desc := "(LWeaversgate$Advice;IIILWeaversgate$Act;)I" } : Jvm.MethodName)) ∈ lw_all := lw_g (lw_at lw_m5 162 rfl) rfl
theorem q1182 : (Jvm.Cond.code ({ cls := "Weaversgate$Run", name := "around", desc := "(LWeaversgate$Advice;IIILWeaversgate$Act;)I" } : Jvm.MethodName) prog_14_method_7_code (8 : Nat) (Option.some Jvm.ClassFile.FieldType.int)) ∈ lw_all := lw_g (lw_at lw_m5 163 rfl) rfl
theorem q1183 : (Jvm.Cond.methodLink "Weaversgate$Run" (143 : Nat) ({ cls := "Weaversgate$Trace", name := "add", desc := "(LWeaversgate$Advice;I)V" } : Jvm.MethodName)) ∈ lw_all := lw_g (lw_at lw_m5 164 rfl) rfl
theorem q1189 : (Jvm.Cond.methodLink "Weaversgate$Run" (147 : Nat) ({ cls := "Weaversgate$Run", name := "behind", desc := "(LWeaversgate$Advice;IIILWeaversgate$Act;)I" } : Jvm.MethodName)) ∈ lw_all := lw_g (lw_at lw_m5 170 rfl) rfl
theorem q1190 : (Jvm.Cond.privateMethod ({ cls := "Weaversgate$Run", name := "behind", desc := "(LWeaversgate$Advice;IIILWeaversgate$Act;)I" } : Jvm.MethodName)) ∈ lw_tbl := lw_at lw_m5 171 rfl
theorem q1191 : (Jvm.Cond.instanceMethod ({ cls := "Weaversgate$Run", name := "behind", desc := "(LWeaversgate$Advice;IIILWeaversgate$Act;)I" } : Jvm.MethodName)) ∈ lw_all := lw_g (lw_at lw_m5 172 rfl) rfl
theorem q1192 : (Jvm.Cond.codeWith ({ cls := "Weaversgate$Run", name := "behind", desc := "(LWeaversgate$Advice;IIILWeaversgate$Act;)I" } : Jvm.MethodName) prog_14_method_8_code (8 : Nat) (Option.some Jvm.ClassFile.FieldType.int) [((0 : Nat), (14 : Nat), (17 : Nat), (65 : Nat))]) ∈ lw_all := lw_g (lw_at lw_m5 173 rfl) rfl
theorem q1193 : (Jvm.Cond.static ({ cls := "Weaversgate$Run", name := "lambda$done$3", desc := "(LWeaversgate$Thing;LWeaversgate$Step;I)I" } : Jvm.MethodName)) ∈ lw_all := lw_g (lw_at lw_m5 174 rfl) rfl
theorem q1194 : (Jvm.Cond.code ({ cls := "Weaversgate$Run", name := "lambda$done$3", desc := "(LWeaversgate$Thing;LWeaversgate$Step;I)I" } : Jvm.MethodName) prog_14_method_17_code (3 : Nat) (Option.some Jvm.ClassFile.FieldType.int)) ∈ lw_all := lw_g (lw_at lw_m5 175 rfl) rfl
theorem q1195 : (Jvm.Cond.privateMethod ({ cls := "Weaversgate$Run", name := "lambda$done$4", desc := "(LWeaversgate$Thing;LWeaversgate$Step;I)I" } : Jvm.MethodName)) ∈ lw_tbl := lw_at lw_m5 176 rfl
theorem q1196 : (Jvm.Cond.instanceMethod ({ cls := "Weaversgate$Run", name := "lambda$done$4", desc := "(LWeaversgate$Thing;LWeaversgate$Step;I)I" } : Jvm.MethodName)) ∈ lw_all := lw_g (lw_at lw_m5 177 rfl) rfl
theorem q1197 : (Jvm.Cond.code ({ cls := "Weaversgate$Run", name := "lambda$done$4", desc := "(LWeaversgate$Thing;LWeaversgate$Step;I)I" } : Jvm.MethodName) prog_14_method_16_code (4 : Nat) (Option.some Jvm.ClassFile.FieldType.int)) ∈ lw_all := lw_g (lw_at lw_m5 178 rfl) rfl
theorem q1198 : (Jvm.Cond.methodLink "Weaversgate$Run" (246 : Nat) ({ cls := "Weaversgate$Run", name := "put", desc := "(LWeaversgate$Thing;II)I" } : Jvm.MethodName)) ∈ lw_all := lw_g (lw_at lw_m5 179 rfl) rfl
theorem q1199 : (Jvm.Cond.privateMethod ({ cls := "Weaversgate$Run", name := "put", desc := "(LWeaversgate$Thing;II)I" } : Jvm.MethodName)) ∈ lw_tbl := lw_at lw_m5 180 rfl
theorem q1200 : (Jvm.Cond.instanceMethod ({ cls := "Weaversgate$Run", name := "put", desc := "(LWeaversgate$Thing;II)I" } : Jvm.MethodName)) ∈ lw_all := lw_g (lw_at lw_m5 181 rfl) rfl
theorem q1201 : (Jvm.Cond.code ({ cls := "Weaversgate$Run", name := "put", desc := "(LWeaversgate$Thing;II)I" } : Jvm.MethodName) prog_14_method_13_code (4 : Nat) (Option.some Jvm.ClassFile.FieldType.int)) ∈ lw_all := lw_g (lw_at lw_m5 182 rfl) rfl
theorem q1202 : (Jvm.Cond.methodLink "Weaversgate$Run" (193 : Nat) ({ cls := "Weaversgate$Run", name := "handled", desc := "(LWeaversgate$Thing;LWeaversgate$Type;IILWeaversgate$Thrown;)I" } : Jvm.MethodName)) ∈ lw_all := lw_g (lw_at lw_m5 183 rfl) rfl
theorem q1203 : (Jvm.Cond.privateMethod ({ cls := "Weaversgate$Run", name := "handled", desc := "(LWeaversgate$Thing;LWeaversgate$Type;IILWeaversgate$Thrown;)I" } : Jvm.MethodName)) ∈ lw_tbl := lw_at lw_m5 184 rfl
theorem q1204 : (Jvm.Cond.instanceMethod ({ cls := "Weaversgate$Run", name := "handled", desc := "(LWeaversgate$Thing;LWeaversgate$Type;IILWeaversgate$Thrown;)I" } : Jvm.MethodName)) ∈ lw_all := lw_g (lw_at lw_m5 185 rfl) rfl
theorem q1205 : (Jvm.Cond.code ({ cls := "Weaversgate$Run", name := "handled", desc := "(LWeaversgate$Thing;LWeaversgate$Type;IILWeaversgate$Thrown;)I" } : Jvm.MethodName) prog_14_method_14_code (10 : Nat) (Option.some Jvm.ClassFile.FieldType.int)) ∈ lw_all := lw_g (lw_at lw_m5 186 rfl) rfl
theorem q1206 : (Jvm.Cond.static ({ cls := "Weaversgate$Run", name := "lambda$handled$5", desc := "(I)I" } : Jvm.MethodName)) ∈ lw_all := lw_g (lw_at lw_m5 187 rfl) rfl
theorem q1207 : (Jvm.Cond.code ({ cls := "Weaversgate$Run", name := "lambda$handled$5", desc := "(I)I" } : Jvm.MethodName) prog_14_method_15_code (1 : Nat) (Option.some Jvm.ClassFile.FieldType.int)) ∈ lw_all := lw_g (lw_at lw_m5 188 rfl) rfl
theorem q1290 : (Jvm.Cond.fieldLinkNest "Weaversgate$Run" (180 : Nat) "Weaversgate$Type" "number" "I" "Weaversgate") ∈ lw_tbl := lw_at lw_m6 31 rfl
theorem q1294 : (Jvm.Cond.fieldLinkNest "Weaversgate$Run" (184 : Nat) "Weaversgate$Type" "bodies" "Ljava/util/ArrayList;" "Weaversgate") ∈ lw_tbl := lw_at lw_m6 35 rfl
theorem q1344 : (Jvm.Cond.fieldLinkNest "Weaversgate$Run" (244 : Nat) "Weaversgate$Step" "kind" "C" "Weaversgate") ∈ lw_tbl := lw_at lw_m6 85 rfl
theorem q1347 : (Jvm.Cond.fieldLinkNest "Weaversgate$Run" (222 : Nat) "Weaversgate$Step" "a" "I" "Weaversgate") ∈ lw_tbl := lw_at lw_m6 88 rfl
theorem q1350 : (Jvm.Cond.fieldLinkNest "Weaversgate$Run" (231 : Nat) "Weaversgate$Step" "b" "I" "Weaversgate") ∈ lw_tbl := lw_at lw_m6 91 rfl
theorem q1540 : (Jvm.Cond.fieldLinkNest "Weaversgate$Run" (90 : Nat) "Weaversgate$Advice" "aspect" "I" "Weaversgate") ∈ lw_tbl := lw_at lw_m7 41 rfl
theorem q1543 : (Jvm.Cond.fieldLinkNest "Weaversgate$Run" (136 : Nat) "Weaversgate$Advice" "kind" "C" "Weaversgate") ∈ lw_tbl := lw_at lw_m7 44 rfl
theorem q1545 : (Jvm.Cond.fieldLinkNest "Weaversgate$Run" (93 : Nat) "Weaversgate$Advice" "pattern" "LWeaversgate$Pattern;" "Weaversgate") ∈ lw_tbl := lw_at lw_m7 46 rfl
theorem q1548 : (Jvm.Cond.fieldLinkNest "Weaversgate$Run" (153 : Nat) "Weaversgate$Advice" "more" "I" "Weaversgate") ∈ lw_tbl := lw_at lw_m7 49 rfl
theorem q1550 : (Jvm.Cond.fieldLinkNest "Weaversgate$Run" (150 : Nat) "Weaversgate$Advice" "times" "I" "Weaversgate") ∈ lw_tbl := lw_at lw_m7 51 rfl
theorem q1552 : (Jvm.Cond.fieldLinkNest "Weaversgate$Run" (103 : Nat) "Weaversgate$Advice" "isOn" "Z" "Weaversgate") ∈ lw_tbl := lw_at lw_m7 53 rfl
theorem q2044 : (Jvm.Cond.selects "Weaversgate$Run" ({ cls := "java/lang/Object", name := "equals", desc := "(Ljava/lang/Object;)Z" } : Jvm.MethodName) ({ cls := "java/lang/Object", name := "equals", desc := "(Ljava/lang/Object;)Z" } : Jvm.MethodName)) ∈ lw_all := lw_g (lw_at lw_m9 65 rfl) rfl
theorem q2604 : (Jvm.Cond.castable "Weaversgate$Run" "java/lang/Object") ∈ lw_tbl := lw_at lw_m11 145 rfl
theorem in_X2 : ∀ w ∈ wsX20, w ∈ lw_all := lw_in wsX20 [205, 207, 209, 211, 213, 215, 217, 219, 221] (by decide +kernel) (by decide +kernel)

/-! Weaversgate$Trace -/
set_option maxRecDepth 100000
def RX3 : String := "Weaversgate$Trace"
def TX3 : u_T := fun k => match k with
  | 0 => ("Weaversgate$Trace", "letters", "[C", true)
  | 1 => ("Weaversgate$Trace", "values", "[I", true)
  | 2 => ("Weaversgate$Trace", "advices", "[I", true)
  | _ => ("Weaversgate$Trace", "many", "I", false)
def tyX3 : Nat → FieldType := fun k => match k with
  | 0 => .array .char
  | 1 => .array .int
  | 2 => .array .int
  | _ => .int
abbrev wsX30 : List Cond := u_ws RX3 TX3 4
theorem nmX3 : ∀ a, a < 4 → ∀ b, b < 4 → a ≠ b → (TX3 a).2.1 ≠ (TX3 b).2.1 := by decide +kernel
theorem tyX3_ok : ∀ k, k < 4 → parseFieldDescriptor (TX3 k).2.2.1 = some (tyX3 k) := by decide +kernel
abbrev cX3_init : ByteArray := prog_18_method_1_code
def yX3_init : MethodName := ⟨RX3, "<init>", "()V"⟩
def dkwX3_init_1 : List UInt8 := [17, 1, 144, 188, 10, 181, 0, 19, 177]
abbrev dktX3_init_1 : List UInt8 := dkwX3_init_1 ++ []
def dkwX3_init_0 : List UInt8 := [42, 183, 0, 3, 42, 17, 1, 144, 188, 5, 181, 0, 9, 42, 17, 1, 144, 188, 10, 181, 0, 15, 42]
abbrev dktX3_init_0 : List UInt8 := dkwX3_init_0 ++ dktX3_init_1
theorem dksX3_init_0 : cX3_init.data.toList.drop 0 = dktX3_init_0 := by decide +kernel
theorem dksX3_init_1 : cX3_init.data.toList.drop 23 = dktX3_init_1 := dk_seg dksX3_init_0 23 rfl rfl
theorem dX3_init_0 : decode cX3_init 0 = .ok (.aload_n 0, 1) := dk_42 (dk_at dksX3_init_0 0 rfl rfl)
theorem dX3_init_1 : decode cX3_init 1 = .ok (.invokespecial 3, 3) := dk_183 0 3 (dk_at dksX3_init_0 1 rfl rfl)
theorem dX3_init_4 : decode cX3_init 4 = .ok (.aload_n 0, 1) := dk_42 (dk_at dksX3_init_0 4 rfl rfl)
theorem dX3_init_5 : decode cX3_init 5 = .ok (.sipush 400, 3) := dk_17 1 144 (dk_at dksX3_init_0 5 rfl rfl)
theorem dX3_init_8 : decode cX3_init 8 = .ok (.newarray .char, 2) := dk_188_5 (dk_at dksX3_init_0 8 rfl rfl)
theorem dX3_init_10 : decode cX3_init 10 = .ok (.putfield 9, 3) := dk_181 0 9 (dk_at dksX3_init_0 10 rfl rfl)
theorem dX3_init_13 : decode cX3_init 13 = .ok (.aload_n 0, 1) := dk_42 (dk_at dksX3_init_0 13 rfl rfl)
theorem dX3_init_14 : decode cX3_init 14 = .ok (.sipush 400, 3) := dk_17 1 144 (dk_at dksX3_init_0 14 rfl rfl)
theorem dX3_init_17 : decode cX3_init 17 = .ok (.newarray .int, 2) := dk_188_10 (dk_at dksX3_init_0 17 rfl rfl)
theorem dX3_init_19 : decode cX3_init 19 = .ok (.putfield 15, 3) := dk_181 0 15 (dk_at dksX3_init_0 19 rfl rfl)
theorem dX3_init_22 : decode cX3_init 22 = .ok (.aload_n 0, 1) := dk_42 (dk_at dksX3_init_0 22 rfl rfl)
theorem dX3_init_23 : decode cX3_init 23 = .ok (.sipush 400, 3) := dk_17 1 144 (dk_at dksX3_init_1 0 rfl rfl)
theorem dX3_init_26 : decode cX3_init 26 = .ok (.newarray .int, 2) := dk_188_10 (dk_at dksX3_init_1 3 rfl rfl)
theorem dX3_init_28 : decode cX3_init 28 = .ok (.putfield 19, 3) := dk_181 0 19 (dk_at dksX3_init_1 5 rfl rfl)
theorem dX3_init_31 : decode cX3_init 31 = .ok (.return_, 1) := dk_177 (dk_at dksX3_init_1 8 rfl rfl)
abbrev cX3_length : ByteArray := prog_18_method_3_code
def yX3_length : MethodName := ⟨RX3, "length", "()I"⟩
theorem dX3_length_0 : decode cX3_length 0 = .ok (.aload_n 0, 1) := by decide +kernel
theorem dX3_length_1 : decode cX3_length 1 = .ok (.getfield 22, 3) := by decide +kernel
theorem dX3_length_4 : decode cX3_length 4 = .ok (.ireturn, 1) := by decide +kernel
abbrev cX3_add : ByteArray := prog_18_method_2_code
def yX3_add : MethodName := ⟨RX3, "add", "(LWeaversgate$Advice;I)V"⟩
def dkwX3_add_2 : List UInt8 := [180, 0, 22, 43, 180, 0, 35, 79, 42, 89, 180, 0, 22, 4, 96, 181, 0, 22, 177]
abbrev dktX3_add_2 : List UInt8 := dkwX3_add_2 ++ []
def dkwX3_add_1 : List UInt8 := [180, 0, 22, 43, 180, 0, 29, 85, 42, 180, 0, 15, 42, 180, 0, 22, 28, 79, 42, 180, 0, 19, 42]
abbrev dktX3_add_1 : List UInt8 := dkwX3_add_1 ++ dktX3_add_2
def dkwX3_add_0 : List UInt8 := [42, 180, 0, 22, 17, 1, 144, 160, 0, 11, 187, 0, 26, 89, 183, 0, 28, 191, 42, 180, 0, 9, 42]
abbrev dktX3_add_0 : List UInt8 := dkwX3_add_0 ++ dktX3_add_1
theorem dksX3_add_0 : cX3_add.data.toList.drop 0 = dktX3_add_0 := by decide +kernel
theorem dksX3_add_1 : cX3_add.data.toList.drop 23 = dktX3_add_1 := dk_seg dksX3_add_0 23 rfl rfl
theorem dksX3_add_2 : cX3_add.data.toList.drop 46 = dktX3_add_2 := dk_seg dksX3_add_1 23 rfl rfl
theorem dX3_add_0 : decode cX3_add 0 = .ok (.aload_n 0, 1) := dk_42 (dk_at dksX3_add_0 0 rfl rfl)
theorem dX3_add_1 : decode cX3_add 1 = .ok (.getfield 22, 3) := dk_180 0 22 (dk_at dksX3_add_0 1 rfl rfl)
theorem dX3_add_4 : decode cX3_add 4 = .ok (.sipush 400, 3) := dk_17 1 144 (dk_at dksX3_add_0 4 rfl rfl)
theorem dX3_add_7 : decode cX3_add 7 = .ok (.if_icmp .ne 11, 3) := dk_160 0 11 (dk_at dksX3_add_0 7 rfl rfl)
theorem dX3_add_10 : decode cX3_add 10 = .ok (.new 26, 3) := dk_187 0 26 (dk_at dksX3_add_0 10 rfl rfl)
theorem dX3_add_13 : decode cX3_add 13 = .ok (.dup, 1) := dk_89 (dk_at dksX3_add_0 13 rfl rfl)
theorem dX3_add_14 : decode cX3_add 14 = .ok (.invokespecial 28, 3) := dk_183 0 28 (dk_at dksX3_add_0 14 rfl rfl)
theorem dX3_add_17 : decode cX3_add 17 = .ok (.athrow, 1) := dk_191 (dk_at dksX3_add_0 17 rfl rfl)
theorem dX3_add_18 : decode cX3_add 18 = .ok (.aload_n 0, 1) := dk_42 (dk_at dksX3_add_0 18 rfl rfl)
theorem dX3_add_19 : decode cX3_add 19 = .ok (.getfield 9, 3) := dk_180 0 9 (dk_at dksX3_add_0 19 rfl rfl)
theorem dX3_add_22 : decode cX3_add 22 = .ok (.aload_n 0, 1) := dk_42 (dk_at dksX3_add_0 22 rfl rfl)
theorem dX3_add_23 : decode cX3_add 23 = .ok (.getfield 22, 3) := dk_180 0 22 (dk_at dksX3_add_1 0 rfl rfl)
theorem dX3_add_26 : decode cX3_add 26 = .ok (.aload_n 1, 1) := dk_43 (dk_at dksX3_add_1 3 rfl rfl)
theorem dX3_add_27 : decode cX3_add 27 = .ok (.getfield 29, 3) := dk_180 0 29 (dk_at dksX3_add_1 4 rfl rfl)
theorem dX3_add_30 : decode cX3_add 30 = .ok (.castore, 1) := dk_85 (dk_at dksX3_add_1 7 rfl rfl)
theorem dX3_add_31 : decode cX3_add 31 = .ok (.aload_n 0, 1) := dk_42 (dk_at dksX3_add_1 8 rfl rfl)
theorem dX3_add_32 : decode cX3_add 32 = .ok (.getfield 15, 3) := dk_180 0 15 (dk_at dksX3_add_1 9 rfl rfl)
theorem dX3_add_35 : decode cX3_add 35 = .ok (.aload_n 0, 1) := dk_42 (dk_at dksX3_add_1 12 rfl rfl)
theorem dX3_add_36 : decode cX3_add 36 = .ok (.getfield 22, 3) := dk_180 0 22 (dk_at dksX3_add_1 13 rfl rfl)
theorem dX3_add_39 : decode cX3_add 39 = .ok (.iload_n 2, 1) := dk_28 (dk_at dksX3_add_1 16 rfl rfl)
theorem dX3_add_40 : decode cX3_add 40 = .ok (.iastore, 1) := dk_79 (dk_at dksX3_add_1 17 rfl rfl)
theorem dX3_add_41 : decode cX3_add 41 = .ok (.aload_n 0, 1) := dk_42 (dk_at dksX3_add_1 18 rfl rfl)
theorem dX3_add_42 : decode cX3_add 42 = .ok (.getfield 19, 3) := dk_180 0 19 (dk_at dksX3_add_1 19 rfl rfl)
theorem dX3_add_45 : decode cX3_add 45 = .ok (.aload_n 0, 1) := dk_42 (dk_at dksX3_add_1 22 rfl rfl)
theorem dX3_add_46 : decode cX3_add 46 = .ok (.getfield 22, 3) := dk_180 0 22 (dk_at dksX3_add_2 0 rfl rfl)
theorem dX3_add_49 : decode cX3_add 49 = .ok (.aload_n 1, 1) := dk_43 (dk_at dksX3_add_2 3 rfl rfl)
theorem dX3_add_50 : decode cX3_add 50 = .ok (.getfield 35, 3) := dk_180 0 35 (dk_at dksX3_add_2 4 rfl rfl)
theorem dX3_add_53 : decode cX3_add 53 = .ok (.iastore, 1) := dk_79 (dk_at dksX3_add_2 7 rfl rfl)
theorem dX3_add_54 : decode cX3_add 54 = .ok (.aload_n 0, 1) := dk_42 (dk_at dksX3_add_2 8 rfl rfl)
theorem dX3_add_55 : decode cX3_add 55 = .ok (.dup, 1) := dk_89 (dk_at dksX3_add_2 9 rfl rfl)
theorem dX3_add_56 : decode cX3_add 56 = .ok (.getfield 22, 3) := dk_180 0 22 (dk_at dksX3_add_2 10 rfl rfl)
theorem dX3_add_59 : decode cX3_add 59 = .ok (.iconst 1, 1) := dk_4 (dk_at dksX3_add_2 13 rfl rfl)
theorem dX3_add_60 : decode cX3_add 60 = .ok (.iadd, 1) := dk_96 (dk_at dksX3_add_2 14 rfl rfl)
theorem dX3_add_61 : decode cX3_add 61 = .ok (.putfield 22, 3) := dk_181 0 22 (dk_at dksX3_add_2 15 rfl rfl)
theorem dX3_add_64 : decode cX3_add 64 = .ok (.return_, 1) := dk_177 (dk_at dksX3_add_2 18 rfl rfl)
abbrev cX3_isLike : ByteArray := prog_18_method_7_code
def yX3_isLike : MethodName := ⟨RX3, "isLike", "(LWeaversgate$Trace;)Z"⟩
def dkwX3_isLike_3 : List UInt8 := [29, 46, 160, 0, 7, 4, 167, 0, 4, 3, 61, 132, 3, 1, 167, 255, 190, 28, 172]
abbrev dktX3_isLike_3 : List UInt8 := dkwX3_isLike_3 ++ []
def dkwX3_isLike_2 : List UInt8 := [180, 0, 15, 29, 46, 43, 180, 0, 15, 29, 46, 160, 0, 22, 42, 180, 0, 19, 29, 46, 43, 180, 0, 19]
abbrev dktX3_isLike_2 : List UInt8 := dkwX3_isLike_2 ++ dktX3_isLike_3
def dkwX3_isLike_1 : List UInt8 := [162, 0, 64, 28, 153, 0, 60, 42, 180, 0, 9, 29, 52, 43, 180, 0, 9, 29, 52, 160, 0, 37, 42]
abbrev dktX3_isLike_1 : List UInt8 := dkwX3_isLike_1 ++ dktX3_isLike_2
def dkwX3_isLike_0 : List UInt8 := [42, 180, 0, 22, 43, 180, 0, 22, 160, 0, 7, 4, 167, 0, 4, 3, 61, 3, 62, 29, 42, 180, 0, 22]
abbrev dktX3_isLike_0 : List UInt8 := dkwX3_isLike_0 ++ dktX3_isLike_1
theorem dksX3_isLike_0 : cX3_isLike.data.toList.drop 0 = dktX3_isLike_0 := by decide +kernel
theorem dksX3_isLike_1 : cX3_isLike.data.toList.drop 24 = dktX3_isLike_1 := dk_seg dksX3_isLike_0 24 rfl rfl
theorem dksX3_isLike_2 : cX3_isLike.data.toList.drop 47 = dktX3_isLike_2 := dk_seg dksX3_isLike_1 23 rfl rfl
theorem dksX3_isLike_3 : cX3_isLike.data.toList.drop 71 = dktX3_isLike_3 := dk_seg dksX3_isLike_2 24 rfl rfl
theorem dX3_isLike_0 : decode cX3_isLike 0 = .ok (.aload_n 0, 1) := dk_42 (dk_at dksX3_isLike_0 0 rfl rfl)
theorem dX3_isLike_1 : decode cX3_isLike 1 = .ok (.getfield 22, 3) := dk_180 0 22 (dk_at dksX3_isLike_0 1 rfl rfl)
theorem dX3_isLike_4 : decode cX3_isLike 4 = .ok (.aload_n 1, 1) := dk_43 (dk_at dksX3_isLike_0 4 rfl rfl)
theorem dX3_isLike_5 : decode cX3_isLike 5 = .ok (.getfield 22, 3) := dk_180 0 22 (dk_at dksX3_isLike_0 5 rfl rfl)
theorem dX3_isLike_8 : decode cX3_isLike 8 = .ok (.if_icmp .ne 7, 3) := dk_160 0 7 (dk_at dksX3_isLike_0 8 rfl rfl)
theorem dX3_isLike_11 : decode cX3_isLike 11 = .ok (.iconst 1, 1) := dk_4 (dk_at dksX3_isLike_0 11 rfl rfl)
theorem dX3_isLike_12 : decode cX3_isLike 12 = .ok (.goto 4, 3) := dk_167 0 4 (dk_at dksX3_isLike_0 12 rfl rfl)
theorem dX3_isLike_15 : decode cX3_isLike 15 = .ok (.iconst 0, 1) := dk_3 (dk_at dksX3_isLike_0 15 rfl rfl)
theorem dX3_isLike_16 : decode cX3_isLike 16 = .ok (.istore_n 2, 1) := dk_61 (dk_at dksX3_isLike_0 16 rfl rfl)
theorem dX3_isLike_17 : decode cX3_isLike 17 = .ok (.iconst 0, 1) := dk_3 (dk_at dksX3_isLike_0 17 rfl rfl)
theorem dX3_isLike_18 : decode cX3_isLike 18 = .ok (.istore_n 3, 1) := dk_62 (dk_at dksX3_isLike_0 18 rfl rfl)
theorem dX3_isLike_19 : decode cX3_isLike 19 = .ok (.iload_n 3, 1) := dk_29 (dk_at dksX3_isLike_0 19 rfl rfl)
theorem dX3_isLike_20 : decode cX3_isLike 20 = .ok (.aload_n 0, 1) := dk_42 (dk_at dksX3_isLike_0 20 rfl rfl)
theorem dX3_isLike_21 : decode cX3_isLike 21 = .ok (.getfield 22, 3) := dk_180 0 22 (dk_at dksX3_isLike_0 21 rfl rfl)
theorem dX3_isLike_24 : decode cX3_isLike 24 = .ok (.if_icmp .ge 64, 3) := dk_162 0 64 (dk_at dksX3_isLike_1 0 rfl rfl)
theorem dX3_isLike_27 : decode cX3_isLike 27 = .ok (.iload_n 2, 1) := dk_28 (dk_at dksX3_isLike_1 3 rfl rfl)
theorem dX3_isLike_28 : decode cX3_isLike 28 = .ok (.ifCond .eq 60, 3) := dk_153 0 60 (dk_at dksX3_isLike_1 4 rfl rfl)
theorem dX3_isLike_31 : decode cX3_isLike 31 = .ok (.aload_n 0, 1) := dk_42 (dk_at dksX3_isLike_1 7 rfl rfl)
theorem dX3_isLike_32 : decode cX3_isLike 32 = .ok (.getfield 9, 3) := dk_180 0 9 (dk_at dksX3_isLike_1 8 rfl rfl)
theorem dX3_isLike_35 : decode cX3_isLike 35 = .ok (.iload_n 3, 1) := dk_29 (dk_at dksX3_isLike_1 11 rfl rfl)
theorem dX3_isLike_36 : decode cX3_isLike 36 = .ok (.caload, 1) := dk_52 (dk_at dksX3_isLike_1 12 rfl rfl)
theorem dX3_isLike_37 : decode cX3_isLike 37 = .ok (.aload_n 1, 1) := dk_43 (dk_at dksX3_isLike_1 13 rfl rfl)
theorem dX3_isLike_38 : decode cX3_isLike 38 = .ok (.getfield 9, 3) := dk_180 0 9 (dk_at dksX3_isLike_1 14 rfl rfl)
theorem dX3_isLike_41 : decode cX3_isLike 41 = .ok (.iload_n 3, 1) := dk_29 (dk_at dksX3_isLike_1 17 rfl rfl)
theorem dX3_isLike_42 : decode cX3_isLike 42 = .ok (.caload, 1) := dk_52 (dk_at dksX3_isLike_1 18 rfl rfl)
theorem dX3_isLike_43 : decode cX3_isLike 43 = .ok (.if_icmp .ne 37, 3) := dk_160 0 37 (dk_at dksX3_isLike_1 19 rfl rfl)
theorem dX3_isLike_46 : decode cX3_isLike 46 = .ok (.aload_n 0, 1) := dk_42 (dk_at dksX3_isLike_1 22 rfl rfl)
theorem dX3_isLike_47 : decode cX3_isLike 47 = .ok (.getfield 15, 3) := dk_180 0 15 (dk_at dksX3_isLike_2 0 rfl rfl)
theorem dX3_isLike_50 : decode cX3_isLike 50 = .ok (.iload_n 3, 1) := dk_29 (dk_at dksX3_isLike_2 3 rfl rfl)
theorem dX3_isLike_51 : decode cX3_isLike 51 = .ok (.iaload, 1) := dk_46 (dk_at dksX3_isLike_2 4 rfl rfl)
theorem dX3_isLike_52 : decode cX3_isLike 52 = .ok (.aload_n 1, 1) := dk_43 (dk_at dksX3_isLike_2 5 rfl rfl)
theorem dX3_isLike_53 : decode cX3_isLike 53 = .ok (.getfield 15, 3) := dk_180 0 15 (dk_at dksX3_isLike_2 6 rfl rfl)
theorem dX3_isLike_56 : decode cX3_isLike 56 = .ok (.iload_n 3, 1) := dk_29 (dk_at dksX3_isLike_2 9 rfl rfl)
theorem dX3_isLike_57 : decode cX3_isLike 57 = .ok (.iaload, 1) := dk_46 (dk_at dksX3_isLike_2 10 rfl rfl)
theorem dX3_isLike_58 : decode cX3_isLike 58 = .ok (.if_icmp .ne 22, 3) := dk_160 0 22 (dk_at dksX3_isLike_2 11 rfl rfl)
theorem dX3_isLike_61 : decode cX3_isLike 61 = .ok (.aload_n 0, 1) := dk_42 (dk_at dksX3_isLike_2 14 rfl rfl)
theorem dX3_isLike_62 : decode cX3_isLike 62 = .ok (.getfield 19, 3) := dk_180 0 19 (dk_at dksX3_isLike_2 15 rfl rfl)
theorem dX3_isLike_65 : decode cX3_isLike 65 = .ok (.iload_n 3, 1) := dk_29 (dk_at dksX3_isLike_2 18 rfl rfl)
theorem dX3_isLike_66 : decode cX3_isLike 66 = .ok (.iaload, 1) := dk_46 (dk_at dksX3_isLike_2 19 rfl rfl)
theorem dX3_isLike_67 : decode cX3_isLike 67 = .ok (.aload_n 1, 1) := dk_43 (dk_at dksX3_isLike_2 20 rfl rfl)
theorem dX3_isLike_68 : decode cX3_isLike 68 = .ok (.getfield 19, 3) := dk_180 0 19 (dk_at dksX3_isLike_2 21 rfl rfl)
theorem dX3_isLike_71 : decode cX3_isLike 71 = .ok (.iload_n 3, 1) := dk_29 (dk_at dksX3_isLike_3 0 rfl rfl)
theorem dX3_isLike_72 : decode cX3_isLike 72 = .ok (.iaload, 1) := dk_46 (dk_at dksX3_isLike_3 1 rfl rfl)
theorem dX3_isLike_73 : decode cX3_isLike 73 = .ok (.if_icmp .ne 7, 3) := dk_160 0 7 (dk_at dksX3_isLike_3 2 rfl rfl)
theorem dX3_isLike_76 : decode cX3_isLike 76 = .ok (.iconst 1, 1) := dk_4 (dk_at dksX3_isLike_3 5 rfl rfl)
theorem dX3_isLike_77 : decode cX3_isLike 77 = .ok (.goto 4, 3) := dk_167 0 4 (dk_at dksX3_isLike_3 6 rfl rfl)
theorem dX3_isLike_80 : decode cX3_isLike 80 = .ok (.iconst 0, 1) := dk_3 (dk_at dksX3_isLike_3 9 rfl rfl)
theorem dX3_isLike_81 : decode cX3_isLike 81 = .ok (.istore_n 2, 1) := dk_61 (dk_at dksX3_isLike_3 10 rfl rfl)
theorem dX3_isLike_82 : decode cX3_isLike 82 = .ok (.iinc 3 1, 3) := dk_132 3 1 (dk_at dksX3_isLike_3 11 rfl rfl)
theorem dX3_isLike_85 : decode cX3_isLike 85 = .ok (.goto (-66), 3) := dk_167 255 190 (dk_at dksX3_isLike_3 14 rfl rfl)
theorem dX3_isLike_88 : decode cX3_isLike 88 = .ok (.iload_n 2, 1) := dk_28 (dk_at dksX3_isLike_3 17 rfl rfl)
theorem dX3_isLike_89 : decode cX3_isLike 89 = .ok (.ireturn, 1) := dk_172 (dk_at dksX3_isLike_3 18 rfl rfl)
abbrev cX3_charAt : ByteArray := prog_18_method_4_code
def yX3_charAt : MethodName := ⟨RX3, "charAt", "(I)C"⟩
def dkwX3_charAt_0 : List UInt8 := [42, 180, 0, 9, 27, 52, 172]
abbrev dktX3_charAt_0 : List UInt8 := dkwX3_charAt_0 ++ []
theorem dksX3_charAt_0 : cX3_charAt.data.toList.drop 0 = dktX3_charAt_0 := by decide +kernel
theorem dX3_charAt_0 : decode cX3_charAt 0 = .ok (.aload_n 0, 1) := dk_42 (dk_at dksX3_charAt_0 0 rfl rfl)
theorem dX3_charAt_1 : decode cX3_charAt 1 = .ok (.getfield 9, 3) := dk_180 0 9 (dk_at dksX3_charAt_0 1 rfl rfl)
theorem dX3_charAt_4 : decode cX3_charAt 4 = .ok (.iload_n 1, 1) := dk_27 (dk_at dksX3_charAt_0 4 rfl rfl)
theorem dX3_charAt_5 : decode cX3_charAt 5 = .ok (.caload, 1) := dk_52 (dk_at dksX3_charAt_0 5 rfl rfl)
theorem dX3_charAt_6 : decode cX3_charAt 6 = .ok (.ireturn, 1) := dk_172 (dk_at dksX3_charAt_0 6 rfl rfl)
theorem q65 : (Jvm.Cond.initialized "Weaversgate$Trace") ∈ lw_all := lw_g (lw_at lw_m1 6 rfl) rfl
theorem q165 : (Jvm.Cond.instantiable "Weaversgate$Trace" (4 : Nat)) ∈ lw_all := lw_g (lw_at lw_m1 106 rfl) rfl
theorem q167 : (Jvm.Cond.instanceMethod ({ cls := "Weaversgate$Trace", name := "<init>", desc := "()V" } : Jvm.MethodName)) ∈ lw_all := lw_g (lw_at lw_m1 108 rfl) rfl
theorem q168 : (Jvm.Cond.code ({ cls := "Weaversgate$Trace", name := "<init>", desc := "()V" } : Jvm.MethodName) prog_18_method_1_code (1 : Nat) (Option.none : Option Jvm.ClassFile.FieldType)) ∈ lw_all := lw_g (lw_at lw_m1 109 rfl) rfl
theorem q169 : (Jvm.Cond.methodLink "Weaversgate$Trace" (3 : Nat) ({ cls := "java/lang/Object", name := "<init>", desc := "()V" } : Jvm.MethodName)) ∈ lw_all := lw_g (lw_at lw_m1 110 rfl) rfl
theorem q170 : (Jvm.Cond.fieldLink "Weaversgate$Trace" (9 : Nat) "Weaversgate$Trace" "letters" "[C") ∈ lw_all := lw_g (lw_at lw_m1 111 rfl) rfl
theorem q171 : (Jvm.Cond.fieldLink "Weaversgate$Trace" (15 : Nat) "Weaversgate$Trace" "values" "[I") ∈ lw_all := lw_g (lw_at lw_m1 112 rfl) rfl
theorem q173 : (Jvm.Cond.fieldLink "Weaversgate$Trace" (19 : Nat) "Weaversgate$Trace" "advices" "[I") ∈ lw_all := lw_g (lw_at lw_m1 114 rfl) rfl
theorem q175 : (Jvm.Cond.fieldLink "Weaversgate$Trace" (22 : Nat) "Weaversgate$Trace" "many" "I") ∈ lw_all := lw_g (lw_at lw_m1 116 rfl) rfl
theorem q177 : (Jvm.Cond.laysFinal "Weaversgate$Trace" "Weaversgate$Trace" "letters" "[C") ∈ lw_all := lw_g (lw_at lw_m1 118 rfl) rfl
theorem q178 : (Jvm.Cond.soleField "Weaversgate$Trace" "letters") ∈ lw_all := lw_g (lw_at lw_m1 119 rfl) rfl
theorem q179 : (Jvm.Cond.laysFinal "Weaversgate$Trace" "Weaversgate$Trace" "values" "[I") ∈ lw_all := lw_g (lw_at lw_m1 120 rfl) rfl
theorem q180 : (Jvm.Cond.soleField "Weaversgate$Trace" "values") ∈ lw_all := lw_g (lw_at lw_m1 121 rfl) rfl
theorem q181 : (Jvm.Cond.laysFinal "Weaversgate$Trace" "Weaversgate$Trace" "advices" "[I") ∈ lw_all := lw_g (lw_at lw_m1 122 rfl) rfl
theorem q182 : (Jvm.Cond.soleField "Weaversgate$Trace" "advices") ∈ lw_all := lw_g (lw_at lw_m1 123 rfl) rfl
theorem q183 : (Jvm.Cond.lays "Weaversgate$Trace" "Weaversgate$Trace" "many" "I") ∈ lw_all := lw_g (lw_at lw_m1 124 rfl) rfl
theorem q184 : (Jvm.Cond.soleField "Weaversgate$Trace" "many") ∈ lw_all := lw_g (lw_at lw_m1 125 rfl) rfl
theorem q185 : (Jvm.Cond.superclass "Weaversgate$Trace" "java/lang/Object") ∈ lw_all := lw_g (lw_at lw_m1 126 rfl) rfl
theorem q789 : (Jvm.Cond.selects "Weaversgate$Trace" ({ cls := "java/lang/Object", name := "getClass", desc := "()Ljava/lang/Class;" } : Jvm.MethodName) ({ cls := "java/lang/Object", name := "getClass", desc := "()Ljava/lang/Class;" } : Jvm.MethodName)) ∈ lw_all := lw_g (lw_at lw_m4 10 rfl) rfl
theorem q927 : (Jvm.Cond.instanceMethod ({ cls := "Weaversgate$Trace", name := "length", desc := "()I" } : Jvm.MethodName)) ∈ lw_all := lw_g (lw_at lw_m4 148 rfl) rfl
theorem q928 : (Jvm.Cond.selects "Weaversgate$Trace" ({ cls := "Weaversgate$Trace", name := "length", desc := "()I" } : Jvm.MethodName) ({ cls := "Weaversgate$Trace", name := "length", desc := "()I" } : Jvm.MethodName)) ∈ lw_all := lw_g (lw_at lw_m4 149 rfl) rfl
theorem q929 : (Jvm.Cond.code ({ cls := "Weaversgate$Trace", name := "length", desc := "()I" } : Jvm.MethodName) prog_18_method_3_code (1 : Nat) (Option.some Jvm.ClassFile.FieldType.int)) ∈ lw_all := lw_g (lw_at lw_m4 150 rfl) rfl
theorem q1184 : (Jvm.Cond.instanceMethod ({ cls := "Weaversgate$Trace", name := "add", desc := "(LWeaversgate$Advice;I)V" } : Jvm.MethodName)) ∈ lw_all := lw_g (lw_at lw_m5 165 rfl) rfl
theorem q1185 : (Jvm.Cond.selects "Weaversgate$Trace" ({ cls := "Weaversgate$Trace", name := "add", desc := "(LWeaversgate$Advice;I)V" } : Jvm.MethodName) ({ cls := "Weaversgate$Trace", name := "add", desc := "(LWeaversgate$Advice;I)V" } : Jvm.MethodName)) ∈ lw_all := lw_g (lw_at lw_m5 166 rfl) rfl
theorem q1186 : (Jvm.Cond.code ({ cls := "Weaversgate$Trace", name := "add", desc := "(LWeaversgate$Advice;I)V" } : Jvm.MethodName) prog_18_method_2_code (3 : Nat) (Option.none : Option Jvm.ClassFile.FieldType)) ∈ lw_all := lw_g (lw_at lw_m5 167 rfl) rfl
theorem q1187 : (Jvm.Cond.classLink "Weaversgate$Trace" (26 : Nat) "Weaversgate$GivenUp") ∈ lw_all := lw_g (lw_at lw_m5 168 rfl) rfl
theorem q1188 : (Jvm.Cond.methodLinkNest "Weaversgate$Trace" (28 : Nat) ({ cls := "Weaversgate$GivenUp", name := "<init>", desc := "()V" } : Jvm.MethodName) "Weaversgate") ∈ lw_tbl := lw_at lw_m5 169 rfl
theorem q1209 : (Jvm.Cond.instanceMethod ({ cls := "Weaversgate$Trace", name := "isLike", desc := "(LWeaversgate$Trace;)Z" } : Jvm.MethodName)) ∈ lw_all := lw_g (lw_at lw_m5 190 rfl) rfl
theorem q1210 : (Jvm.Cond.selects "Weaversgate$Trace" ({ cls := "Weaversgate$Trace", name := "isLike", desc := "(LWeaversgate$Trace;)Z" } : Jvm.MethodName) ({ cls := "Weaversgate$Trace", name := "isLike", desc := "(LWeaversgate$Trace;)Z" } : Jvm.MethodName)) ∈ lw_all := lw_g (lw_at lw_m5 191 rfl) rfl
theorem q1211 : (Jvm.Cond.code ({ cls := "Weaversgate$Trace", name := "isLike", desc := "(LWeaversgate$Trace;)Z" } : Jvm.MethodName) prog_18_method_7_code (4 : Nat) (Option.some Jvm.ClassFile.FieldType.boolean)) ∈ lw_all := lw_g (lw_at lw_m5 192 rfl) rfl
theorem q1538 : (Jvm.Cond.fieldLinkNest "Weaversgate$Trace" (35 : Nat) "Weaversgate$Advice" "number" "I" "Weaversgate") ∈ lw_tbl := lw_at lw_m7 39 rfl
theorem q1542 : (Jvm.Cond.fieldLinkNest "Weaversgate$Trace" (29 : Nat) "Weaversgate$Advice" "kind" "C" "Weaversgate") ∈ lw_tbl := lw_at lw_m7 43 rfl
theorem q1645 : (Jvm.Cond.instanceMethod ({ cls := "Weaversgate$Trace", name := "charAt", desc := "(I)C" } : Jvm.MethodName)) ∈ lw_all := lw_g (lw_at lw_m7 146 rfl) rfl
theorem q1646 : (Jvm.Cond.selects "Weaversgate$Trace" ({ cls := "Weaversgate$Trace", name := "charAt", desc := "(I)C" } : Jvm.MethodName) ({ cls := "Weaversgate$Trace", name := "charAt", desc := "(I)C" } : Jvm.MethodName)) ∈ lw_all := lw_g (lw_at lw_m7 147 rfl) rfl
theorem q1647 : (Jvm.Cond.code ({ cls := "Weaversgate$Trace", name := "charAt", desc := "(I)C" } : Jvm.MethodName) prog_18_method_4_code (2 : Nat) (Option.some Jvm.ClassFile.FieldType.char)) ∈ lw_all := lw_g (lw_at lw_m7 148 rfl) rfl
theorem q1676 : (Jvm.Cond.castable "Weaversgate$Trace" "java/lang/CharSequence") ∈ lw_tbl := lw_at lw_m7 177 rfl
theorem q1677 : (Jvm.Cond.selects "Weaversgate$Trace" ({ cls := "java/lang/CharSequence", name := "length", desc := "()I" } : Jvm.MethodName) ({ cls := "Weaversgate$Trace", name := "length", desc := "()I" } : Jvm.MethodName)) ∈ lw_all := lw_g (lw_at lw_m7 178 rfl) rfl
theorem q1678 : (Jvm.Cond.unhidden "Weaversgate$Trace" "length" "()I") ∈ lw_tbl := lw_at lw_m7 179 rfl
theorem q1679 : (Jvm.Cond.publicMethod ({ cls := "Weaversgate$Trace", name := "length", desc := "()I" } : Jvm.MethodName)) ∈ lw_tbl := lw_at lw_m7 180 rfl
theorem q1692 : (Jvm.Cond.selects "Weaversgate$Trace" ({ cls := "java/lang/CharSequence", name := "charAt", desc := "(I)C" } : Jvm.MethodName) ({ cls := "Weaversgate$Trace", name := "charAt", desc := "(I)C" } : Jvm.MethodName)) ∈ lw_all := lw_g (lw_at lw_m7 193 rfl) rfl
theorem q1693 : (Jvm.Cond.unhidden "Weaversgate$Trace" "charAt" "(I)C") ∈ lw_tbl := lw_at lw_m7 194 rfl
theorem q1694 : (Jvm.Cond.publicMethod ({ cls := "Weaversgate$Trace", name := "charAt", desc := "(I)C" } : Jvm.MethodName)) ∈ lw_tbl := lw_at lw_m7 195 rfl
theorem q2048 : (Jvm.Cond.selects "Weaversgate$Trace" ({ cls := "java/lang/Object", name := "equals", desc := "(Ljava/lang/Object;)Z" } : Jvm.MethodName) ({ cls := "java/lang/Object", name := "equals", desc := "(Ljava/lang/Object;)Z" } : Jvm.MethodName)) ∈ lw_all := lw_g (lw_at lw_m9 69 rfl) rfl
theorem q2605 : (Jvm.Cond.castable "Weaversgate$Trace" "java/lang/Object") ∈ lw_tbl := lw_at lw_m11 146 rfl
theorem in_X3 : ∀ w ∈ wsX30, w ∈ lw_all := lw_in wsX30 [177, 179, 181, 183] (by decide +kernel) (by decide +kernel)

/-! Weaversgate$Type -/
set_option maxRecDepth 100000
def RX6 : String := "Weaversgate$Type"
def TX6 : u_T := fun k => match k with
  | 0 => ("Weaversgate$Type", "number", "I", true)
  | 1 => ("Weaversgate$Type", "parent", "LWeaversgate$Type;", true)
  | 2 => ("Weaversgate$Type", "bodies", "Ljava/util/ArrayList;", true)
  | _ => ("Weaversgate$Type", "places", "Ljava/util/ArrayList;", true)
def tyX6 : Nat → FieldType := fun k => match k with
  | 0 => .int
  | 1 => .object "Weaversgate$Type"
  | 2 => .object "java/util/ArrayList"
  | _ => .object "java/util/ArrayList"
abbrev wsX60 : List Cond := u_ws RX6 TX6 4
theorem nmX6 : ∀ a, a < 4 → ∀ b, b < 4 → a ≠ b → (TX6 a).2.1 ≠ (TX6 b).2.1 := by decide +kernel
theorem tyX6_ok : ∀ k, k < 4 → parseFieldDescriptor (TX6 k).2.2.1 = some (tyX6 k) := by decide +kernel
abbrev cX6_hasBody : ByteArray := prog_19_method_2_code
def yX6_hasBody : MethodName := ⟨RX6, "hasBody", "(I)Z"⟩
def dkwX6_hasBody_0 : List UInt8 := [42, 180, 0, 12, 27, 182, 0, 33, 192, 0, 9, 182, 0, 37, 154, 0, 7, 4, 167, 0, 4, 3, 172]
abbrev dktX6_hasBody_0 : List UInt8 := dkwX6_hasBody_0 ++ []
theorem dksX6_hasBody_0 : cX6_hasBody.data.toList.drop 0 = dktX6_hasBody_0 := by decide +kernel
theorem dX6_hasBody_0 : decode cX6_hasBody 0 = .ok (.aload_n 0, 1) := dk_42 (dk_at dksX6_hasBody_0 0 rfl rfl)
theorem dX6_hasBody_1 : decode cX6_hasBody 1 = .ok (.getfield 12, 3) := dk_180 0 12 (dk_at dksX6_hasBody_0 1 rfl rfl)
theorem dX6_hasBody_4 : decode cX6_hasBody 4 = .ok (.iload_n 1, 1) := dk_27 (dk_at dksX6_hasBody_0 4 rfl rfl)
theorem dX6_hasBody_5 : decode cX6_hasBody 5 = .ok (.invokevirtual 33, 3) := dk_182 0 33 (dk_at dksX6_hasBody_0 5 rfl rfl)
theorem dX6_hasBody_8 : decode cX6_hasBody 8 = .ok (.checkcast 9, 3) := dk_192 0 9 (dk_at dksX6_hasBody_0 8 rfl rfl)
theorem dX6_hasBody_11 : decode cX6_hasBody 11 = .ok (.invokevirtual 37, 3) := dk_182 0 37 (dk_at dksX6_hasBody_0 11 rfl rfl)
theorem dX6_hasBody_14 : decode cX6_hasBody 14 = .ok (.ifCond .ne 7, 3) := dk_154 0 7 (dk_at dksX6_hasBody_0 14 rfl rfl)
theorem dX6_hasBody_17 : decode cX6_hasBody 17 = .ok (.iconst 1, 1) := dk_4 (dk_at dksX6_hasBody_0 17 rfl rfl)
theorem dX6_hasBody_18 : decode cX6_hasBody 18 = .ok (.goto 4, 3) := dk_167 0 4 (dk_at dksX6_hasBody_0 18 rfl rfl)
theorem dX6_hasBody_21 : decode cX6_hasBody 21 = .ok (.iconst 0, 1) := dk_3 (dk_at dksX6_hasBody_0 21 rfl rfl)
theorem dX6_hasBody_22 : decode cX6_hasBody 22 = .ok (.ireturn, 1) := dk_172 (dk_at dksX6_hasBody_0 22 rfl rfl)
abbrev cX6_finder : ByteArray := prog_19_method_3_code
def yX6_finder : MethodName := ⟨RX6, "finder", "(I)LWeaversgate$Type;"⟩
def dkwX6_finder_1 : List UInt8 := [180, 0, 25, 27, 182, 0, 45, 176]
abbrev dktX6_finder_1 : List UInt8 := dkwX6_finder_1 ++ []
def dkwX6_finder_0 : List UInt8 := [42, 27, 182, 0, 41, 153, 0, 7, 42, 167, 0, 22, 42, 180, 0, 25, 199, 0, 7, 1, 167, 0, 11, 42]
abbrev dktX6_finder_0 : List UInt8 := dkwX6_finder_0 ++ dktX6_finder_1
theorem dksX6_finder_0 : cX6_finder.data.toList.drop 0 = dktX6_finder_0 := by decide +kernel
theorem dksX6_finder_1 : cX6_finder.data.toList.drop 24 = dktX6_finder_1 := dk_seg dksX6_finder_0 24 rfl rfl
theorem dX6_finder_0 : decode cX6_finder 0 = .ok (.aload_n 0, 1) := dk_42 (dk_at dksX6_finder_0 0 rfl rfl)
theorem dX6_finder_1 : decode cX6_finder 1 = .ok (.iload_n 1, 1) := dk_27 (dk_at dksX6_finder_0 1 rfl rfl)
theorem dX6_finder_2 : decode cX6_finder 2 = .ok (.invokevirtual 41, 3) := dk_182 0 41 (dk_at dksX6_finder_0 2 rfl rfl)
theorem dX6_finder_5 : decode cX6_finder 5 = .ok (.ifCond .eq 7, 3) := dk_153 0 7 (dk_at dksX6_finder_0 5 rfl rfl)
theorem dX6_finder_8 : decode cX6_finder 8 = .ok (.aload_n 0, 1) := dk_42 (dk_at dksX6_finder_0 8 rfl rfl)
theorem dX6_finder_9 : decode cX6_finder 9 = .ok (.goto 22, 3) := dk_167 0 22 (dk_at dksX6_finder_0 9 rfl rfl)
theorem dX6_finder_12 : decode cX6_finder 12 = .ok (.aload_n 0, 1) := dk_42 (dk_at dksX6_finder_0 12 rfl rfl)
theorem dX6_finder_13 : decode cX6_finder 13 = .ok (.getfield 25, 3) := dk_180 0 25 (dk_at dksX6_finder_0 13 rfl rfl)
theorem dX6_finder_16 : decode cX6_finder 16 = .ok (.ifnonnull 7, 3) := dk_199 0 7 (dk_at dksX6_finder_0 16 rfl rfl)
theorem dX6_finder_19 : decode cX6_finder 19 = .ok (.aconst_null, 1) := dk_1 (dk_at dksX6_finder_0 19 rfl rfl)
theorem dX6_finder_20 : decode cX6_finder 20 = .ok (.goto 11, 3) := dk_167 0 11 (dk_at dksX6_finder_0 20 rfl rfl)
theorem dX6_finder_23 : decode cX6_finder 23 = .ok (.aload_n 0, 1) := dk_42 (dk_at dksX6_finder_0 23 rfl rfl)
theorem dX6_finder_24 : decode cX6_finder 24 = .ok (.getfield 25, 3) := dk_180 0 25 (dk_at dksX6_finder_1 0 rfl rfl)
theorem dX6_finder_27 : decode cX6_finder 27 = .ok (.iload_n 1, 1) := dk_27 (dk_at dksX6_finder_1 3 rfl rfl)
theorem dX6_finder_28 : decode cX6_finder 28 = .ok (.invokevirtual 45, 3) := dk_182 0 45 (dk_at dksX6_finder_1 4 rfl rfl)
theorem dX6_finder_31 : decode cX6_finder 31 = .ok (.areturn, 1) := dk_176 (dk_at dksX6_finder_1 7 rfl rfl)
abbrev cX6_isBelow : ByteArray := prog_19_method_4_code
def yX6_isBelow : MethodName := ⟨RX6, "isBelow", "(I)Z"⟩
def dkwX6_isBelow_1 : List UInt8 := [153, 0, 7, 4, 167, 0, 4, 3, 172]
abbrev dktX6_isBelow_1 : List UInt8 := dkwX6_isBelow_1 ++ []
def dkwX6_isBelow_0 : List UInt8 := [42, 180, 0, 21, 27, 159, 0, 21, 42, 180, 0, 25, 198, 0, 18, 42, 180, 0, 25, 27, 182, 0, 49]
abbrev dktX6_isBelow_0 : List UInt8 := dkwX6_isBelow_0 ++ dktX6_isBelow_1
theorem dksX6_isBelow_0 : cX6_isBelow.data.toList.drop 0 = dktX6_isBelow_0 := by decide +kernel
theorem dksX6_isBelow_1 : cX6_isBelow.data.toList.drop 23 = dktX6_isBelow_1 := dk_seg dksX6_isBelow_0 23 rfl rfl
theorem dX6_isBelow_0 : decode cX6_isBelow 0 = .ok (.aload_n 0, 1) := dk_42 (dk_at dksX6_isBelow_0 0 rfl rfl)
theorem dX6_isBelow_1 : decode cX6_isBelow 1 = .ok (.getfield 21, 3) := dk_180 0 21 (dk_at dksX6_isBelow_0 1 rfl rfl)
theorem dX6_isBelow_4 : decode cX6_isBelow 4 = .ok (.iload_n 1, 1) := dk_27 (dk_at dksX6_isBelow_0 4 rfl rfl)
theorem dX6_isBelow_5 : decode cX6_isBelow 5 = .ok (.if_icmp .eq 21, 3) := dk_159 0 21 (dk_at dksX6_isBelow_0 5 rfl rfl)
theorem dX6_isBelow_8 : decode cX6_isBelow 8 = .ok (.aload_n 0, 1) := dk_42 (dk_at dksX6_isBelow_0 8 rfl rfl)
theorem dX6_isBelow_9 : decode cX6_isBelow 9 = .ok (.getfield 25, 3) := dk_180 0 25 (dk_at dksX6_isBelow_0 9 rfl rfl)
theorem dX6_isBelow_12 : decode cX6_isBelow 12 = .ok (.ifnull 18, 3) := dk_198 0 18 (dk_at dksX6_isBelow_0 12 rfl rfl)
theorem dX6_isBelow_15 : decode cX6_isBelow 15 = .ok (.aload_n 0, 1) := dk_42 (dk_at dksX6_isBelow_0 15 rfl rfl)
theorem dX6_isBelow_16 : decode cX6_isBelow 16 = .ok (.getfield 25, 3) := dk_180 0 25 (dk_at dksX6_isBelow_0 16 rfl rfl)
theorem dX6_isBelow_19 : decode cX6_isBelow 19 = .ok (.iload_n 1, 1) := dk_27 (dk_at dksX6_isBelow_0 19 rfl rfl)
theorem dX6_isBelow_20 : decode cX6_isBelow 20 = .ok (.invokevirtual 49, 3) := dk_182 0 49 (dk_at dksX6_isBelow_0 20 rfl rfl)
theorem dX6_isBelow_23 : decode cX6_isBelow 23 = .ok (.ifCond .eq 7, 3) := dk_153 0 7 (dk_at dksX6_isBelow_1 0 rfl rfl)
theorem dX6_isBelow_26 : decode cX6_isBelow 26 = .ok (.iconst 1, 1) := dk_4 (dk_at dksX6_isBelow_1 3 rfl rfl)
theorem dX6_isBelow_27 : decode cX6_isBelow 27 = .ok (.goto 4, 3) := dk_167 0 4 (dk_at dksX6_isBelow_1 4 rfl rfl)
theorem dX6_isBelow_30 : decode cX6_isBelow 30 = .ok (.iconst 0, 1) := dk_3 (dk_at dksX6_isBelow_1 7 rfl rfl)
theorem dX6_isBelow_31 : decode cX6_isBelow 31 = .ok (.ireturn, 1) := dk_172 (dk_at dksX6_isBelow_1 8 rfl rfl)
abbrev cX6_init : ByteArray := prog_19_method_1_code
def yX6_init : MethodName := ⟨RX6, "<init>", "(ILWeaversgate$Type;)V"⟩
def dkwX6_init_3 : List UInt8 := [183, 0, 11, 182, 0, 29, 87, 132, 3, 1, 167, 255, 217, 177]
abbrev dktX6_init_3 : List UInt8 := dkwX6_init_3 ++ []
def dkwX6_init_2 : List UInt8 := [180, 0, 12, 187, 0, 9, 89, 183, 0, 11, 182, 0, 29, 87, 42, 180, 0, 18, 187, 0, 9, 89]
abbrev dktX6_init_2 : List UInt8 := dkwX6_init_2 ++ dktX6_init_3
def dkwX6_init_1 : List UInt8 := [181, 0, 18, 42, 27, 181, 0, 21, 42, 44, 181, 0, 25, 3, 62, 29, 16, 6, 162, 0, 39, 42]
abbrev dktX6_init_1 : List UInt8 := dkwX6_init_1 ++ dktX6_init_2
def dkwX6_init_0 : List UInt8 := [42, 183, 0, 3, 42, 187, 0, 9, 89, 183, 0, 11, 181, 0, 12, 42, 187, 0, 9, 89, 183, 0, 11]
abbrev dktX6_init_0 : List UInt8 := dkwX6_init_0 ++ dktX6_init_1
theorem dksX6_init_0 : cX6_init.data.toList.drop 0 = dktX6_init_0 := by decide +kernel
theorem dksX6_init_1 : cX6_init.data.toList.drop 23 = dktX6_init_1 := dk_seg dksX6_init_0 23 rfl rfl
theorem dksX6_init_2 : cX6_init.data.toList.drop 45 = dktX6_init_2 := dk_seg dksX6_init_1 22 rfl rfl
theorem dksX6_init_3 : cX6_init.data.toList.drop 67 = dktX6_init_3 := dk_seg dksX6_init_2 22 rfl rfl
theorem dX6_init_0 : decode cX6_init 0 = .ok (.aload_n 0, 1) := dk_42 (dk_at dksX6_init_0 0 rfl rfl)
theorem dX6_init_1 : decode cX6_init 1 = .ok (.invokespecial 3, 3) := dk_183 0 3 (dk_at dksX6_init_0 1 rfl rfl)
theorem dX6_init_4 : decode cX6_init 4 = .ok (.aload_n 0, 1) := dk_42 (dk_at dksX6_init_0 4 rfl rfl)
theorem dX6_init_5 : decode cX6_init 5 = .ok (.new 9, 3) := dk_187 0 9 (dk_at dksX6_init_0 5 rfl rfl)
theorem dX6_init_8 : decode cX6_init 8 = .ok (.dup, 1) := dk_89 (dk_at dksX6_init_0 8 rfl rfl)
theorem dX6_init_9 : decode cX6_init 9 = .ok (.invokespecial 11, 3) := dk_183 0 11 (dk_at dksX6_init_0 9 rfl rfl)
theorem dX6_init_12 : decode cX6_init 12 = .ok (.putfield 12, 3) := dk_181 0 12 (dk_at dksX6_init_0 12 rfl rfl)
theorem dX6_init_15 : decode cX6_init 15 = .ok (.aload_n 0, 1) := dk_42 (dk_at dksX6_init_0 15 rfl rfl)
theorem dX6_init_16 : decode cX6_init 16 = .ok (.new 9, 3) := dk_187 0 9 (dk_at dksX6_init_0 16 rfl rfl)
theorem dX6_init_19 : decode cX6_init 19 = .ok (.dup, 1) := dk_89 (dk_at dksX6_init_0 19 rfl rfl)
theorem dX6_init_20 : decode cX6_init 20 = .ok (.invokespecial 11, 3) := dk_183 0 11 (dk_at dksX6_init_0 20 rfl rfl)
theorem dX6_init_23 : decode cX6_init 23 = .ok (.putfield 18, 3) := dk_181 0 18 (dk_at dksX6_init_1 0 rfl rfl)
theorem dX6_init_26 : decode cX6_init 26 = .ok (.aload_n 0, 1) := dk_42 (dk_at dksX6_init_1 3 rfl rfl)
theorem dX6_init_27 : decode cX6_init 27 = .ok (.iload_n 1, 1) := dk_27 (dk_at dksX6_init_1 4 rfl rfl)
theorem dX6_init_28 : decode cX6_init 28 = .ok (.putfield 21, 3) := dk_181 0 21 (dk_at dksX6_init_1 5 rfl rfl)
theorem dX6_init_31 : decode cX6_init 31 = .ok (.aload_n 0, 1) := dk_42 (dk_at dksX6_init_1 8 rfl rfl)
theorem dX6_init_32 : decode cX6_init 32 = .ok (.aload_n 2, 1) := dk_44 (dk_at dksX6_init_1 9 rfl rfl)
theorem dX6_init_33 : decode cX6_init 33 = .ok (.putfield 25, 3) := dk_181 0 25 (dk_at dksX6_init_1 10 rfl rfl)
theorem dX6_init_36 : decode cX6_init 36 = .ok (.iconst 0, 1) := dk_3 (dk_at dksX6_init_1 13 rfl rfl)
theorem dX6_init_37 : decode cX6_init 37 = .ok (.istore_n 3, 1) := dk_62 (dk_at dksX6_init_1 14 rfl rfl)
theorem dX6_init_38 : decode cX6_init 38 = .ok (.iload_n 3, 1) := dk_29 (dk_at dksX6_init_1 15 rfl rfl)
theorem dX6_init_39 : decode cX6_init 39 = .ok (.bipush 6, 2) := dk_16 6 (dk_at dksX6_init_1 16 rfl rfl)
theorem dX6_init_41 : decode cX6_init 41 = .ok (.if_icmp .ge 39, 3) := dk_162 0 39 (dk_at dksX6_init_1 18 rfl rfl)
theorem dX6_init_44 : decode cX6_init 44 = .ok (.aload_n 0, 1) := dk_42 (dk_at dksX6_init_1 21 rfl rfl)
theorem dX6_init_45 : decode cX6_init 45 = .ok (.getfield 12, 3) := dk_180 0 12 (dk_at dksX6_init_2 0 rfl rfl)
theorem dX6_init_48 : decode cX6_init 48 = .ok (.new 9, 3) := dk_187 0 9 (dk_at dksX6_init_2 3 rfl rfl)
theorem dX6_init_51 : decode cX6_init 51 = .ok (.dup, 1) := dk_89 (dk_at dksX6_init_2 6 rfl rfl)
theorem dX6_init_52 : decode cX6_init 52 = .ok (.invokespecial 11, 3) := dk_183 0 11 (dk_at dksX6_init_2 7 rfl rfl)
theorem dX6_init_55 : decode cX6_init 55 = .ok (.invokevirtual 29, 3) := dk_182 0 29 (dk_at dksX6_init_2 10 rfl rfl)
theorem dX6_init_58 : decode cX6_init 58 = .ok (.pop, 1) := dk_87 (dk_at dksX6_init_2 13 rfl rfl)
theorem dX6_init_59 : decode cX6_init 59 = .ok (.aload_n 0, 1) := dk_42 (dk_at dksX6_init_2 14 rfl rfl)
theorem dX6_init_60 : decode cX6_init 60 = .ok (.getfield 18, 3) := dk_180 0 18 (dk_at dksX6_init_2 15 rfl rfl)
theorem dX6_init_63 : decode cX6_init 63 = .ok (.new 9, 3) := dk_187 0 9 (dk_at dksX6_init_2 18 rfl rfl)
theorem dX6_init_66 : decode cX6_init 66 = .ok (.dup, 1) := dk_89 (dk_at dksX6_init_2 21 rfl rfl)
theorem dX6_init_67 : decode cX6_init 67 = .ok (.invokespecial 11, 3) := dk_183 0 11 (dk_at dksX6_init_3 0 rfl rfl)
theorem dX6_init_70 : decode cX6_init 70 = .ok (.invokevirtual 29, 3) := dk_182 0 29 (dk_at dksX6_init_3 3 rfl rfl)
theorem dX6_init_73 : decode cX6_init 73 = .ok (.pop, 1) := dk_87 (dk_at dksX6_init_3 6 rfl rfl)
theorem dX6_init_74 : decode cX6_init 74 = .ok (.iinc 3 1, 3) := dk_132 3 1 (dk_at dksX6_init_3 7 rfl rfl)
theorem dX6_init_77 : decode cX6_init 77 = .ok (.goto (-39), 3) := dk_167 255 217 (dk_at dksX6_init_3 10 rfl rfl)
theorem dX6_init_80 : decode cX6_init 80 = .ok (.return_, 1) := dk_177 (dk_at dksX6_init_3 13 rfl rfl)
theorem q77 : (Jvm.Cond.initialized "Weaversgate$Type") ∈ lw_all := lw_g (lw_at lw_m1 18 rfl) rfl
theorem q293 : (Jvm.Cond.instanceMethod ({ cls := "Weaversgate$Type", name := "hasBody", desc := "(I)Z" } : Jvm.MethodName)) ∈ lw_all := lw_g (lw_at lw_m1 234 rfl) rfl
theorem q294 : (Jvm.Cond.selects "Weaversgate$Type" ({ cls := "Weaversgate$Type", name := "hasBody", desc := "(I)Z" } : Jvm.MethodName) ({ cls := "Weaversgate$Type", name := "hasBody", desc := "(I)Z" } : Jvm.MethodName)) ∈ lw_all := lw_g (lw_at lw_m1 235 rfl) rfl
theorem q295 : (Jvm.Cond.code ({ cls := "Weaversgate$Type", name := "hasBody", desc := "(I)Z" } : Jvm.MethodName) prog_19_method_2_code (2 : Nat) (Option.some Jvm.ClassFile.FieldType.boolean)) ∈ lw_all := lw_g (lw_at lw_m1 236 rfl) rfl
theorem q296 : (Jvm.Cond.methodLink "Weaversgate$Type" (33 : Nat) ({ cls := "java/util/ArrayList", name := "get", desc := "(I)Ljava/lang/Object;" } : Jvm.MethodName)) ∈ lw_all := lw_g (lw_at lw_m1 237 rfl) rfl
theorem q297 : (Jvm.Cond.classLink "Weaversgate$Type" (9 : Nat) "java/util/ArrayList") ∈ lw_all := lw_g (lw_at lw_m1 238 rfl) rfl
theorem q298 : (Jvm.Cond.methodLink "Weaversgate$Type" (37 : Nat) ({ cls := "java/util/ArrayList", name := "isEmpty", desc := "()Z" } : Jvm.MethodName)) ∈ lw_all := lw_g (lw_at lw_m1 239 rfl) rfl
theorem q713 : (Jvm.Cond.instanceMethod ({ cls := "Weaversgate$Type", name := "finder", desc := "(I)LWeaversgate$Type;" } : Jvm.MethodName)) ∈ lw_all := lw_g (lw_at lw_m3 174 rfl) rfl
theorem q714 : (Jvm.Cond.selects "Weaversgate$Type" ({ cls := "Weaversgate$Type", name := "finder", desc := "(I)LWeaversgate$Type;" } : Jvm.MethodName) ({ cls := "Weaversgate$Type", name := "finder", desc := "(I)LWeaversgate$Type;" } : Jvm.MethodName)) ∈ lw_all := lw_g (lw_at lw_m3 175 rfl) rfl
theorem q715 : (Jvm.Cond.code ({ cls := "Weaversgate$Type", name := "finder", desc := "(I)LWeaversgate$Type;" } : Jvm.MethodName) prog_19_method_3_code (2 : Nat) (Option.some (Jvm.ClassFile.FieldType.object "Weaversgate$Type"))) ∈ lw_all := lw_g (lw_at lw_m3 176 rfl) rfl
theorem q716 : (Jvm.Cond.methodLink "Weaversgate$Type" (41 : Nat) ({ cls := "Weaversgate$Type", name := "hasBody", desc := "(I)Z" } : Jvm.MethodName)) ∈ lw_all := lw_g (lw_at lw_m3 177 rfl) rfl
theorem q717 : (Jvm.Cond.methodLink "Weaversgate$Type" (45 : Nat) ({ cls := "Weaversgate$Type", name := "finder", desc := "(I)LWeaversgate$Type;" } : Jvm.MethodName)) ∈ lw_all := lw_g (lw_at lw_m3 178 rfl) rfl
theorem q790 : (Jvm.Cond.selects "Weaversgate$Type" ({ cls := "java/lang/Object", name := "getClass", desc := "()Ljava/lang/Class;" } : Jvm.MethodName) ({ cls := "java/lang/Object", name := "getClass", desc := "()Ljava/lang/Class;" } : Jvm.MethodName)) ∈ lw_all := lw_g (lw_at lw_m4 11 rfl) rfl
theorem q892 : (Jvm.Cond.instanceMethod ({ cls := "Weaversgate$Type", name := "isBelow", desc := "(I)Z" } : Jvm.MethodName)) ∈ lw_all := lw_g (lw_at lw_m4 113 rfl) rfl
theorem q893 : (Jvm.Cond.selects "Weaversgate$Type" ({ cls := "Weaversgate$Type", name := "isBelow", desc := "(I)Z" } : Jvm.MethodName) ({ cls := "Weaversgate$Type", name := "isBelow", desc := "(I)Z" } : Jvm.MethodName)) ∈ lw_all := lw_g (lw_at lw_m4 114 rfl) rfl
theorem q894 : (Jvm.Cond.code ({ cls := "Weaversgate$Type", name := "isBelow", desc := "(I)Z" } : Jvm.MethodName) prog_19_method_4_code (2 : Nat) (Option.some Jvm.ClassFile.FieldType.boolean)) ∈ lw_all := lw_g (lw_at lw_m4 115 rfl) rfl
theorem q895 : (Jvm.Cond.methodLink "Weaversgate$Type" (49 : Nat) ({ cls := "Weaversgate$Type", name := "isBelow", desc := "(I)Z" } : Jvm.MethodName)) ∈ lw_all := lw_g (lw_at lw_m4 116 rfl) rfl
theorem q1282 : (Jvm.Cond.instantiable "Weaversgate$Type" (4 : Nat)) ∈ lw_all := lw_g (lw_at lw_m6 23 rfl) rfl
theorem q1284 : (Jvm.Cond.instanceMethod ({ cls := "Weaversgate$Type", name := "<init>", desc := "(ILWeaversgate$Type;)V" } : Jvm.MethodName)) ∈ lw_all := lw_g (lw_at lw_m6 25 rfl) rfl
theorem q1285 : (Jvm.Cond.code ({ cls := "Weaversgate$Type", name := "<init>", desc := "(ILWeaversgate$Type;)V" } : Jvm.MethodName) prog_19_method_1_code (4 : Nat) (Option.none : Option Jvm.ClassFile.FieldType)) ∈ lw_all := lw_g (lw_at lw_m6 26 rfl) rfl
theorem q1286 : (Jvm.Cond.methodLink "Weaversgate$Type" (3 : Nat) ({ cls := "java/lang/Object", name := "<init>", desc := "()V" } : Jvm.MethodName)) ∈ lw_all := lw_g (lw_at lw_m6 27 rfl) rfl
theorem q1287 : (Jvm.Cond.methodLink "Weaversgate$Type" (11 : Nat) ({ cls := "java/util/ArrayList", name := "<init>", desc := "()V" } : Jvm.MethodName)) ∈ lw_all := lw_g (lw_at lw_m6 28 rfl) rfl
theorem q1288 : (Jvm.Cond.methodLink "Weaversgate$Type" (29 : Nat) ({ cls := "java/util/ArrayList", name := "add", desc := "(Ljava/lang/Object;)Z" } : Jvm.MethodName)) ∈ lw_all := lw_g (lw_at lw_m6 29 rfl) rfl
theorem q1289 : (Jvm.Cond.fieldLink "Weaversgate$Type" (21 : Nat) "Weaversgate$Type" "number" "I") ∈ lw_all := lw_g (lw_at lw_m6 30 rfl) rfl
theorem q1292 : (Jvm.Cond.fieldLink "Weaversgate$Type" (25 : Nat) "Weaversgate$Type" "parent" "LWeaversgate$Type;") ∈ lw_all := lw_g (lw_at lw_m6 33 rfl) rfl
theorem q1293 : (Jvm.Cond.fieldLink "Weaversgate$Type" (12 : Nat) "Weaversgate$Type" "bodies" "Ljava/util/ArrayList;") ∈ lw_all := lw_g (lw_at lw_m6 34 rfl) rfl
theorem q1296 : (Jvm.Cond.fieldLink "Weaversgate$Type" (18 : Nat) "Weaversgate$Type" "places" "Ljava/util/ArrayList;") ∈ lw_all := lw_g (lw_at lw_m6 37 rfl) rfl
theorem q1298 : (Jvm.Cond.laysFinal "Weaversgate$Type" "Weaversgate$Type" "number" "I") ∈ lw_all := lw_g (lw_at lw_m6 39 rfl) rfl
theorem q1299 : (Jvm.Cond.soleField "Weaversgate$Type" "number") ∈ lw_all := lw_g (lw_at lw_m6 40 rfl) rfl
theorem q1300 : (Jvm.Cond.laysFinal "Weaversgate$Type" "Weaversgate$Type" "parent" "LWeaversgate$Type;") ∈ lw_all := lw_g (lw_at lw_m6 41 rfl) rfl
theorem q1301 : (Jvm.Cond.soleField "Weaversgate$Type" "parent") ∈ lw_all := lw_g (lw_at lw_m6 42 rfl) rfl
theorem q1302 : (Jvm.Cond.laysFinal "Weaversgate$Type" "Weaversgate$Type" "bodies" "Ljava/util/ArrayList;") ∈ lw_all := lw_g (lw_at lw_m6 43 rfl) rfl
theorem q1303 : (Jvm.Cond.soleField "Weaversgate$Type" "bodies") ∈ lw_all := lw_g (lw_at lw_m6 44 rfl) rfl
theorem q1304 : (Jvm.Cond.laysFinal "Weaversgate$Type" "Weaversgate$Type" "places" "Ljava/util/ArrayList;") ∈ lw_all := lw_g (lw_at lw_m6 45 rfl) rfl
theorem q1305 : (Jvm.Cond.soleField "Weaversgate$Type" "places") ∈ lw_all := lw_g (lw_at lw_m6 46 rfl) rfl
theorem q1306 : (Jvm.Cond.superclass "Weaversgate$Type" "java/lang/Object") ∈ lw_all := lw_g (lw_at lw_m6 47 rfl) rfl
theorem q2049 : (Jvm.Cond.selects "Weaversgate$Type" ({ cls := "java/lang/Object", name := "equals", desc := "(Ljava/lang/Object;)Z" } : Jvm.MethodName) ({ cls := "java/lang/Object", name := "equals", desc := "(Ljava/lang/Object;)Z" } : Jvm.MethodName)) ∈ lw_all := lw_g (lw_at lw_m9 70 rfl) rfl
theorem q2611 : (Jvm.Cond.castable "Weaversgate$Type" "java/lang/Object") ∈ lw_tbl := lw_at lw_m11 152 rfl
theorem in_X6 : ∀ w ∈ wsX60, w ∈ lw_all := lw_in wsX60 [1298, 1300, 1302, 1304] (by decide +kernel) (by decide +kernel)

/-! Weaversgate$Step -/
set_option maxRecDepth 100000
def RX7 : String := "Weaversgate$Step"
def TX7 : u_T := fun k => match k with
  | 0 => ("Weaversgate$Step", "kind", "C", true)
  | 1 => ("Weaversgate$Step", "a", "I", true)
  | _ => ("Weaversgate$Step", "b", "I", true)
def tyX7 : Nat → FieldType := fun k => match k with
  | 0 => .char
  | 1 => .int
  | _ => .int
abbrev wsX70 : List Cond := u_ws RX7 TX7 3
theorem nmX7 : ∀ a, a < 3 → ∀ b, b < 3 → a ≠ b → (TX7 a).2.1 ≠ (TX7 b).2.1 := by decide +kernel
theorem tyX7_ok : ∀ k, k < 3 → parseFieldDescriptor (TX7 k).2.2.1 = some (tyX7 k) := by decide +kernel
abbrev cX7_places : ByteArray := prog_15_method_3_code
def yX7_places : MethodName := ⟨RX7, "places", "()I"⟩
def dkwX7_places_6 : List UInt8 := [5, 167, 0, 8, 4, 167, 0, 4, 3, 172]
abbrev dktX7_places_6 : List UInt8 := dkwX7_places_6 ++ []
def dkwX7_places_5 : List UInt8 := [170, 0, 0, 0, 0, 0, 0, 44, 0, 0, 0, 0, 0, 0, 0, 4, 0, 0, 0, 36, 0, 0, 0, 40, 0, 0, 0, 40, 0, 0, 0, 40, 0, 0, 0, 40]
abbrev dktX7_places_5 : List UInt8 := dkwX7_places_5 ++ dktX7_places_6
def dkwX7_places_4 : List UInt8 := [153, 0, 19, 6, 61, 167, 0, 14, 43, 18, 32, 182, 0, 44, 153, 0, 5, 7, 61, 28]
abbrev dktX7_places_4 : List UInt8 := dkwX7_places_4 ++ dktX7_places_5
def dkwX7_places_3 : List UInt8 := [61, 167, 0, 42, 43, 18, 26, 182, 0, 44, 153, 0, 33, 5, 61, 167, 0, 28, 43, 18, 28, 182, 0, 44]
abbrev dktX7_places_3 : List UInt8 := dkwX7_places_3 ++ dktX7_places_4
def dkwX7_places_2 : List UInt8 := [43, 18, 24, 182, 0, 44, 153, 0, 61, 3, 61, 167, 0, 56, 43, 18, 22, 182, 0, 44, 153, 0, 47, 4]
abbrev dktX7_places_2 : List UInt8 := dkwX7_places_2 ++ dktX7_places_3
def dkwX7_places_1 : List UInt8 := [171, 0, 0, 0, 116, 0, 0, 0, 5, 183, 2, 110, 40, 0, 0, 0, 105, 0, 1, 143, 86, 0, 0, 0, 77, 0, 1, 188, 98, 0, 0, 0, 91, 0, 46, 122, 94, 0, 0, 0, 63, 0, 51, 5, 238, 0, 0, 0, 49]
abbrev dktX7_places_1 : List UInt8 := dkwX7_places_1 ++ dktX7_places_2
def dkwX7_places_0 : List UInt8 := [42, 182, 0, 34, 76, 2, 61, 43, 182, 0, 38]
abbrev dktX7_places_0 : List UInt8 := dkwX7_places_0 ++ dktX7_places_1
theorem dksX7_places_0 : cX7_places.data.toList.drop 0 = dktX7_places_0 := by decide +kernel
theorem dksX7_places_1 : cX7_places.data.toList.drop 11 = dktX7_places_1 := dk_seg dksX7_places_0 11 rfl rfl
theorem dksX7_places_2 : cX7_places.data.toList.drop 60 = dktX7_places_2 := dk_seg dksX7_places_1 49 rfl rfl
theorem dksX7_places_3 : cX7_places.data.toList.drop 84 = dktX7_places_3 := dk_seg dksX7_places_2 24 rfl rfl
theorem dksX7_places_4 : cX7_places.data.toList.drop 108 = dktX7_places_4 := dk_seg dksX7_places_3 24 rfl rfl
theorem dksX7_places_5 : cX7_places.data.toList.drop 128 = dktX7_places_5 := dk_seg dksX7_places_4 20 rfl rfl
theorem dksX7_places_6 : cX7_places.data.toList.drop 164 = dktX7_places_6 := dk_seg dksX7_places_5 36 rfl rfl
theorem dX7_places_0 : decode cX7_places 0 = .ok (.aload_n 0, 1) := dk_42 (dk_at dksX7_places_0 0 rfl rfl)
theorem dX7_places_1 : decode cX7_places 1 = .ok (.invokevirtual 34, 3) := dk_182 0 34 (dk_at dksX7_places_0 1 rfl rfl)
theorem dX7_places_4 : decode cX7_places 4 = .ok (.astore_n 1, 1) := dk_76 (dk_at dksX7_places_0 4 rfl rfl)
theorem dX7_places_5 : decode cX7_places 5 = .ok (.iconst (-1), 1) := dk_2 (dk_at dksX7_places_0 5 rfl rfl)
theorem dX7_places_6 : decode cX7_places 6 = .ok (.istore_n 2, 1) := dk_61 (dk_at dksX7_places_0 6 rfl rfl)
theorem dX7_places_7 : decode cX7_places 7 = .ok (.aload_n 1, 1) := dk_43 (dk_at dksX7_places_0 7 rfl rfl)
theorem dX7_places_8 : decode cX7_places 8 = .ok (.invokevirtual 38, 3) := dk_182 0 38 (dk_at dksX7_places_0 8 rfl rfl)
theorem dX7_places_11 : decode cX7_places 11 = .ok (.lookupswitch 116 #[(-1224577496, 105), (102230, 77), (113762, 91), (3045982, 63), (3343854, 49)], 49) := by decide +kernel
theorem dX7_places_60 : decode cX7_places 60 = .ok (.aload_n 1, 1) := dk_43 (dk_at dksX7_places_2 0 rfl rfl)
theorem dX7_places_61 : decode cX7_places 61 = .ok (.ldc 24, 2) := dk_18 24 (dk_at dksX7_places_2 1 rfl rfl)
theorem dX7_places_63 : decode cX7_places 63 = .ok (.invokevirtual 44, 3) := dk_182 0 44 (dk_at dksX7_places_2 3 rfl rfl)
theorem dX7_places_66 : decode cX7_places 66 = .ok (.ifCond .eq 61, 3) := dk_153 0 61 (dk_at dksX7_places_2 6 rfl rfl)
theorem dX7_places_69 : decode cX7_places 69 = .ok (.iconst 0, 1) := dk_3 (dk_at dksX7_places_2 9 rfl rfl)
theorem dX7_places_70 : decode cX7_places 70 = .ok (.istore_n 2, 1) := dk_61 (dk_at dksX7_places_2 10 rfl rfl)
theorem dX7_places_71 : decode cX7_places 71 = .ok (.goto 56, 3) := dk_167 0 56 (dk_at dksX7_places_2 11 rfl rfl)
theorem dX7_places_74 : decode cX7_places 74 = .ok (.aload_n 1, 1) := dk_43 (dk_at dksX7_places_2 14 rfl rfl)
theorem dX7_places_75 : decode cX7_places 75 = .ok (.ldc 22, 2) := dk_18 22 (dk_at dksX7_places_2 15 rfl rfl)
theorem dX7_places_77 : decode cX7_places 77 = .ok (.invokevirtual 44, 3) := dk_182 0 44 (dk_at dksX7_places_2 17 rfl rfl)
theorem dX7_places_80 : decode cX7_places 80 = .ok (.ifCond .eq 47, 3) := dk_153 0 47 (dk_at dksX7_places_2 20 rfl rfl)
theorem dX7_places_83 : decode cX7_places 83 = .ok (.iconst 1, 1) := dk_4 (dk_at dksX7_places_2 23 rfl rfl)
theorem dX7_places_84 : decode cX7_places 84 = .ok (.istore_n 2, 1) := dk_61 (dk_at dksX7_places_3 0 rfl rfl)
theorem dX7_places_85 : decode cX7_places 85 = .ok (.goto 42, 3) := dk_167 0 42 (dk_at dksX7_places_3 1 rfl rfl)
theorem dX7_places_88 : decode cX7_places 88 = .ok (.aload_n 1, 1) := dk_43 (dk_at dksX7_places_3 4 rfl rfl)
theorem dX7_places_89 : decode cX7_places 89 = .ok (.ldc 26, 2) := dk_18 26 (dk_at dksX7_places_3 5 rfl rfl)
theorem dX7_places_91 : decode cX7_places 91 = .ok (.invokevirtual 44, 3) := dk_182 0 44 (dk_at dksX7_places_3 7 rfl rfl)
theorem dX7_places_94 : decode cX7_places 94 = .ok (.ifCond .eq 33, 3) := dk_153 0 33 (dk_at dksX7_places_3 10 rfl rfl)
theorem dX7_places_97 : decode cX7_places 97 = .ok (.iconst 2, 1) := dk_5 (dk_at dksX7_places_3 13 rfl rfl)
theorem dX7_places_98 : decode cX7_places 98 = .ok (.istore_n 2, 1) := dk_61 (dk_at dksX7_places_3 14 rfl rfl)
theorem dX7_places_99 : decode cX7_places 99 = .ok (.goto 28, 3) := dk_167 0 28 (dk_at dksX7_places_3 15 rfl rfl)
theorem dX7_places_102 : decode cX7_places 102 = .ok (.aload_n 1, 1) := dk_43 (dk_at dksX7_places_3 18 rfl rfl)
theorem dX7_places_103 : decode cX7_places 103 = .ok (.ldc 28, 2) := dk_18 28 (dk_at dksX7_places_3 19 rfl rfl)
theorem dX7_places_105 : decode cX7_places 105 = .ok (.invokevirtual 44, 3) := dk_182 0 44 (dk_at dksX7_places_3 21 rfl rfl)
theorem dX7_places_108 : decode cX7_places 108 = .ok (.ifCond .eq 19, 3) := dk_153 0 19 (dk_at dksX7_places_4 0 rfl rfl)
theorem dX7_places_111 : decode cX7_places 111 = .ok (.iconst 3, 1) := dk_6 (dk_at dksX7_places_4 3 rfl rfl)
theorem dX7_places_112 : decode cX7_places 112 = .ok (.istore_n 2, 1) := dk_61 (dk_at dksX7_places_4 4 rfl rfl)
theorem dX7_places_113 : decode cX7_places 113 = .ok (.goto 14, 3) := dk_167 0 14 (dk_at dksX7_places_4 5 rfl rfl)
theorem dX7_places_116 : decode cX7_places 116 = .ok (.aload_n 1, 1) := dk_43 (dk_at dksX7_places_4 8 rfl rfl)
theorem dX7_places_117 : decode cX7_places 117 = .ok (.ldc 32, 2) := dk_18 32 (dk_at dksX7_places_4 9 rfl rfl)
theorem dX7_places_119 : decode cX7_places 119 = .ok (.invokevirtual 44, 3) := dk_182 0 44 (dk_at dksX7_places_4 11 rfl rfl)
theorem dX7_places_122 : decode cX7_places 122 = .ok (.ifCond .eq 5, 3) := dk_153 0 5 (dk_at dksX7_places_4 14 rfl rfl)
theorem dX7_places_125 : decode cX7_places 125 = .ok (.iconst 4, 1) := dk_7 (dk_at dksX7_places_4 17 rfl rfl)
theorem dX7_places_126 : decode cX7_places 126 = .ok (.istore_n 2, 1) := dk_61 (dk_at dksX7_places_4 18 rfl rfl)
theorem dX7_places_127 : decode cX7_places 127 = .ok (.iload_n 2, 1) := dk_28 (dk_at dksX7_places_4 19 rfl rfl)
theorem dX7_places_128 : decode cX7_places 128 = .ok (.tableswitch 44 0 4 #[36, 40, 40, 40, 40], 36) := by decide +kernel
theorem dX7_places_164 : decode cX7_places 164 = .ok (.iconst 2, 1) := dk_5 (dk_at dksX7_places_6 0 rfl rfl)
theorem dX7_places_165 : decode cX7_places 165 = .ok (.goto 8, 3) := dk_167 0 8 (dk_at dksX7_places_6 1 rfl rfl)
theorem dX7_places_168 : decode cX7_places 168 = .ok (.iconst 1, 1) := dk_4 (dk_at dksX7_places_6 4 rfl rfl)
theorem dX7_places_169 : decode cX7_places 169 = .ok (.goto 4, 3) := dk_167 0 4 (dk_at dksX7_places_6 5 rfl rfl)
theorem dX7_places_172 : decode cX7_places 172 = .ok (.iconst 0, 1) := dk_3 (dk_at dksX7_places_6 8 rfl rfl)
theorem dX7_places_173 : decode cX7_places 173 = .ok (.ireturn, 1) := dk_172 (dk_at dksX7_places_6 9 rfl rfl)
abbrev cX7_word : ByteArray := prog_15_method_2_code
def yX7_word : MethodName := ⟨RX7, "word", "()Ljava/lang/String;"⟩
def dkwX7_word_3 : List UInt8 := [167, 0, 10, 18, 30, 167, 0, 5, 18, 32, 176]
abbrev dktX7_word_3 : List UInt8 := dkwX7_word_3 ++ []
def dkwX7_word_2 : List UInt8 := [18, 20, 167, 0, 30, 18, 22, 167, 0, 25, 18, 24, 167, 0, 20, 18, 26, 167, 0, 15, 18, 28]
abbrev dktX7_word_2 : List UInt8 := dkwX7_word_2 ++ dktX7_word_3
def dkwX7_word_1 : List UInt8 := [170, 0, 0, 0, 0, 0, 0, 118, 0, 0, 0, 99, 0, 0, 0, 116, 0, 0, 0, 93, 0, 0, 0, 118, 0, 0, 0, 118, 0, 0, 0, 118, 0, 0, 0, 103, 0, 0, 0, 118, 0, 0, 0, 118, 0, 0, 0, 118, 0, 0, 0, 118, 0, 0, 0, 118, 0, 0, 0, 98, 0, 0, 0, 88, 0, 0, 0, 118, 0, 0, 0, 118, 0, 0, 0, 118, 0, 0, 0, 118, 0, 0, 0, 108, 0, 0, 0, 113]
abbrev dktX7_word_1 : List UInt8 := dkwX7_word_1 ++ dktX7_word_2
def dkwX7_word_0 : List UInt8 := [42, 180, 0, 7]
abbrev dktX7_word_0 : List UInt8 := dkwX7_word_0 ++ dktX7_word_1
theorem dksX7_word_0 : cX7_word.data.toList.drop 0 = dktX7_word_0 := by decide +kernel
theorem dksX7_word_1 : cX7_word.data.toList.drop 4 = dktX7_word_1 := dk_seg dksX7_word_0 4 rfl rfl
theorem dksX7_word_2 : cX7_word.data.toList.drop 92 = dktX7_word_2 := dk_seg dksX7_word_1 88 rfl rfl
theorem dksX7_word_3 : cX7_word.data.toList.drop 114 = dktX7_word_3 := dk_seg dksX7_word_2 22 rfl rfl
theorem dX7_word_0 : decode cX7_word 0 = .ok (.aload_n 0, 1) := dk_42 (dk_at dksX7_word_0 0 rfl rfl)
theorem dX7_word_1 : decode cX7_word 1 = .ok (.getfield 7, 3) := dk_180 0 7 (dk_at dksX7_word_0 1 rfl rfl)
theorem dX7_word_4 : decode cX7_word 4 = .ok (.tableswitch 118 99 116 #[93, 118, 118, 118, 103, 118, 118, 118, 118, 118, 98, 88, 118, 118, 118, 118, 108, 113], 88) := by decide +kernel
theorem dX7_word_92 : decode cX7_word 92 = .ok (.ldc 20, 2) := dk_18 20 (dk_at dksX7_word_2 0 rfl rfl)
theorem dX7_word_94 : decode cX7_word 94 = .ok (.goto 30, 3) := dk_167 0 30 (dk_at dksX7_word_2 2 rfl rfl)
theorem dX7_word_97 : decode cX7_word 97 = .ok (.ldc 22, 2) := dk_18 22 (dk_at dksX7_word_2 5 rfl rfl)
theorem dX7_word_99 : decode cX7_word 99 = .ok (.goto 25, 3) := dk_167 0 25 (dk_at dksX7_word_2 7 rfl rfl)
theorem dX7_word_102 : decode cX7_word 102 = .ok (.ldc 24, 2) := dk_18 24 (dk_at dksX7_word_2 10 rfl rfl)
theorem dX7_word_104 : decode cX7_word 104 = .ok (.goto 20, 3) := dk_167 0 20 (dk_at dksX7_word_2 12 rfl rfl)
theorem dX7_word_107 : decode cX7_word 107 = .ok (.ldc 26, 2) := dk_18 26 (dk_at dksX7_word_2 15 rfl rfl)
theorem dX7_word_109 : decode cX7_word 109 = .ok (.goto 15, 3) := dk_167 0 15 (dk_at dksX7_word_2 17 rfl rfl)
theorem dX7_word_112 : decode cX7_word 112 = .ok (.ldc 28, 2) := dk_18 28 (dk_at dksX7_word_2 20 rfl rfl)
theorem dX7_word_114 : decode cX7_word 114 = .ok (.goto 10, 3) := dk_167 0 10 (dk_at dksX7_word_3 0 rfl rfl)
theorem dX7_word_117 : decode cX7_word 117 = .ok (.ldc 30, 2) := dk_18 30 (dk_at dksX7_word_3 3 rfl rfl)
theorem dX7_word_119 : decode cX7_word 119 = .ok (.goto 5, 3) := dk_167 0 5 (dk_at dksX7_word_3 5 rfl rfl)
theorem dX7_word_122 : decode cX7_word 122 = .ok (.ldc 32, 2) := dk_18 32 (dk_at dksX7_word_3 8 rfl rfl)
theorem dX7_word_124 : decode cX7_word 124 = .ok (.areturn, 1) := dk_176 (dk_at dksX7_word_3 10 rfl rfl)
abbrev cX7_init : ByteArray := prog_15_method_1_code
def yX7_init : MethodName := ⟨RX7, "<init>", "(CII)V"⟩
def dkwX7_init_0 : List UInt8 := [42, 183, 0, 1, 42, 27, 181, 0, 7, 42, 28, 181, 0, 13, 42, 29, 181, 0, 17, 177]
abbrev dktX7_init_0 : List UInt8 := dkwX7_init_0 ++ []
theorem dksX7_init_0 : cX7_init.data.toList.drop 0 = dktX7_init_0 := by decide +kernel
theorem dX7_init_0 : decode cX7_init 0 = .ok (.aload_n 0, 1) := dk_42 (dk_at dksX7_init_0 0 rfl rfl)
theorem dX7_init_1 : decode cX7_init 1 = .ok (.invokespecial 1, 3) := dk_183 0 1 (dk_at dksX7_init_0 1 rfl rfl)
theorem dX7_init_4 : decode cX7_init 4 = .ok (.aload_n 0, 1) := dk_42 (dk_at dksX7_init_0 4 rfl rfl)
theorem dX7_init_5 : decode cX7_init 5 = .ok (.iload_n 1, 1) := dk_27 (dk_at dksX7_init_0 5 rfl rfl)
theorem dX7_init_6 : decode cX7_init 6 = .ok (.putfield 7, 3) := dk_181 0 7 (dk_at dksX7_init_0 6 rfl rfl)
theorem dX7_init_9 : decode cX7_init 9 = .ok (.aload_n 0, 1) := dk_42 (dk_at dksX7_init_0 9 rfl rfl)
theorem dX7_init_10 : decode cX7_init 10 = .ok (.iload_n 2, 1) := dk_28 (dk_at dksX7_init_0 10 rfl rfl)
theorem dX7_init_11 : decode cX7_init 11 = .ok (.putfield 13, 3) := dk_181 0 13 (dk_at dksX7_init_0 11 rfl rfl)
theorem dX7_init_14 : decode cX7_init 14 = .ok (.aload_n 0, 1) := dk_42 (dk_at dksX7_init_0 14 rfl rfl)
theorem dX7_init_15 : decode cX7_init 15 = .ok (.iload_n 3, 1) := dk_29 (dk_at dksX7_init_0 15 rfl rfl)
theorem dX7_init_16 : decode cX7_init 16 = .ok (.putfield 17, 3) := dk_181 0 17 (dk_at dksX7_init_0 16 rfl rfl)
theorem dX7_init_19 : decode cX7_init 19 = .ok (.return_, 1) := dk_177 (dk_at dksX7_init_0 19 rfl rfl)
theorem q83 : (Jvm.Cond.initialized "Weaversgate$Step") ∈ lw_all := lw_g (lw_at lw_m1 24 rfl) rfl
theorem q304 : (Jvm.Cond.instanceMethod ({ cls := "Weaversgate$Step", name := "places", desc := "()I" } : Jvm.MethodName)) ∈ lw_all := lw_g (lw_at lw_m2 5 rfl) rfl
theorem q305 : (Jvm.Cond.selects "Weaversgate$Step" ({ cls := "Weaversgate$Step", name := "places", desc := "()I" } : Jvm.MethodName) ({ cls := "Weaversgate$Step", name := "places", desc := "()I" } : Jvm.MethodName)) ∈ lw_all := lw_g (lw_at lw_m2 6 rfl) rfl
theorem q306 : (Jvm.Cond.code ({ cls := "Weaversgate$Step", name := "places", desc := "()I" } : Jvm.MethodName) prog_15_method_3_code (3 : Nat) (Option.some Jvm.ClassFile.FieldType.int)) ∈ lw_all := lw_g (lw_at lw_m2 7 rfl) rfl
theorem q307 : (Jvm.Cond.methodLink "Weaversgate$Step" (34 : Nat) ({ cls := "Weaversgate$Step", name := "word", desc := "()Ljava/lang/String;" } : Jvm.MethodName)) ∈ lw_all := lw_g (lw_at lw_m2 8 rfl) rfl
theorem q308 : (Jvm.Cond.instanceMethod ({ cls := "Weaversgate$Step", name := "word", desc := "()Ljava/lang/String;" } : Jvm.MethodName)) ∈ lw_all := lw_g (lw_at lw_m2 9 rfl) rfl
theorem q309 : (Jvm.Cond.selects "Weaversgate$Step" ({ cls := "Weaversgate$Step", name := "word", desc := "()Ljava/lang/String;" } : Jvm.MethodName) ({ cls := "Weaversgate$Step", name := "word", desc := "()Ljava/lang/String;" } : Jvm.MethodName)) ∈ lw_all := lw_g (lw_at lw_m2 10 rfl) rfl
theorem q310 : (Jvm.Cond.code ({ cls := "Weaversgate$Step", name := "word", desc := "()Ljava/lang/String;" } : Jvm.MethodName) prog_15_method_2_code (1 : Nat) (Option.some (Jvm.ClassFile.FieldType.object "java/lang/String"))) ∈ lw_all := lw_g (lw_at lw_m2 11 rfl) rfl
theorem q311 : (Jvm.Cond.stringRef "Weaversgate$Step" (20 : Nat) "add") ∈ lw_tbl := lw_at lw_m2 12 rfl
theorem q312 : (Jvm.Cond.stringRef "Weaversgate$Step" (22 : Nat) "call") ∈ lw_tbl := lw_at lw_m2 13 rfl
theorem q313 : (Jvm.Cond.stringRef "Weaversgate$Step" (24 : Nat) "make") ∈ lw_tbl := lw_at lw_m2 14 rfl
theorem q314 : (Jvm.Cond.stringRef "Weaversgate$Step" (26 : Nat) "get") ∈ lw_tbl := lw_at lw_m2 15 rfl
theorem q315 : (Jvm.Cond.stringRef "Weaversgate$Step" (28 : Nat) "set") ∈ lw_tbl := lw_at lw_m2 16 rfl
theorem q316 : (Jvm.Cond.stringRef "Weaversgate$Step" (30 : Nat) "throw") ∈ lw_tbl := lw_at lw_m2 17 rfl
theorem q317 : (Jvm.Cond.stringRef "Weaversgate$Step" (32 : Nat) "handle") ∈ lw_tbl := lw_at lw_m2 18 rfl
theorem q318 : (Jvm.Cond.methodLink "Weaversgate$Step" (38 : Nat) ({ cls := "java/lang/String", name := "hashCode", desc := "()I" } : Jvm.MethodName)) ∈ lw_all := lw_g (lw_at lw_m2 19 rfl) rfl
theorem q692 : (Jvm.Cond.methodLink "Weaversgate$Step" (44 : Nat) ({ cls := "java/lang/String", name := "equals", desc := "(Ljava/lang/Object;)Z" } : Jvm.MethodName)) ∈ lw_all := lw_g (lw_at lw_m3 153 rfl) rfl
theorem q786 : (Jvm.Cond.selects "Weaversgate$Step" ({ cls := "java/lang/Object", name := "getClass", desc := "()Ljava/lang/Class;" } : Jvm.MethodName) ({ cls := "java/lang/Object", name := "getClass", desc := "()Ljava/lang/Class;" } : Jvm.MethodName)) ∈ lw_all := lw_g (lw_at lw_m4 7 rfl) rfl
theorem q1338 : (Jvm.Cond.instantiable "Weaversgate$Step" (3 : Nat)) ∈ lw_all := lw_g (lw_at lw_m6 79 rfl) rfl
theorem q1340 : (Jvm.Cond.instanceMethod ({ cls := "Weaversgate$Step", name := "<init>", desc := "(CII)V" } : Jvm.MethodName)) ∈ lw_all := lw_g (lw_at lw_m6 81 rfl) rfl
theorem q1341 : (Jvm.Cond.code ({ cls := "Weaversgate$Step", name := "<init>", desc := "(CII)V" } : Jvm.MethodName) prog_15_method_1_code (4 : Nat) (Option.none : Option Jvm.ClassFile.FieldType)) ∈ lw_all := lw_g (lw_at lw_m6 82 rfl) rfl
theorem q1342 : (Jvm.Cond.methodLink "Weaversgate$Step" (1 : Nat) ({ cls := "java/lang/Object", name := "<init>", desc := "()V" } : Jvm.MethodName)) ∈ lw_all := lw_g (lw_at lw_m6 83 rfl) rfl
theorem q1343 : (Jvm.Cond.fieldLink "Weaversgate$Step" (7 : Nat) "Weaversgate$Step" "kind" "C") ∈ lw_all := lw_g (lw_at lw_m6 84 rfl) rfl
theorem q1346 : (Jvm.Cond.fieldLink "Weaversgate$Step" (13 : Nat) "Weaversgate$Step" "a" "I") ∈ lw_all := lw_g (lw_at lw_m6 87 rfl) rfl
theorem q1349 : (Jvm.Cond.fieldLink "Weaversgate$Step" (17 : Nat) "Weaversgate$Step" "b" "I") ∈ lw_all := lw_g (lw_at lw_m6 90 rfl) rfl
theorem q1352 : (Jvm.Cond.laysFinal "Weaversgate$Step" "Weaversgate$Step" "kind" "C") ∈ lw_all := lw_g (lw_at lw_m6 93 rfl) rfl
theorem q1353 : (Jvm.Cond.soleField "Weaversgate$Step" "kind") ∈ lw_all := lw_g (lw_at lw_m6 94 rfl) rfl
theorem q1354 : (Jvm.Cond.laysFinal "Weaversgate$Step" "Weaversgate$Step" "a" "I") ∈ lw_all := lw_g (lw_at lw_m6 95 rfl) rfl
theorem q1355 : (Jvm.Cond.soleField "Weaversgate$Step" "a") ∈ lw_all := lw_g (lw_at lw_m6 96 rfl) rfl
theorem q1356 : (Jvm.Cond.laysFinal "Weaversgate$Step" "Weaversgate$Step" "b" "I") ∈ lw_all := lw_g (lw_at lw_m6 97 rfl) rfl
theorem q1357 : (Jvm.Cond.soleField "Weaversgate$Step" "b") ∈ lw_all := lw_g (lw_at lw_m6 98 rfl) rfl
theorem q1358 : (Jvm.Cond.superclass "Weaversgate$Step" "java/lang/Object") ∈ lw_all := lw_g (lw_at lw_m6 99 rfl) rfl
theorem q2045 : (Jvm.Cond.selects "Weaversgate$Step" ({ cls := "java/lang/Object", name := "equals", desc := "(Ljava/lang/Object;)Z" } : Jvm.MethodName) ({ cls := "java/lang/Object", name := "equals", desc := "(Ljava/lang/Object;)Z" } : Jvm.MethodName)) ∈ lw_all := lw_g (lw_at lw_m9 66 rfl) rfl
theorem q2613 : (Jvm.Cond.castable "Weaversgate$Step" "java/lang/Object") ∈ lw_tbl := lw_at lw_m11 154 rfl
theorem in_X7 : ∀ w ∈ wsX70, w ∈ lw_all := lw_in wsX70 [1352, 1354, 1356] (by decide +kernel) (by decide +kernel)

/-! Weaversgate$NamePattern -/
set_option maxRecDepth 100000
def RX9 : String := "Weaversgate$NamePattern"
def TX9 : u_T := fun k => match k with
  | _ => ("Weaversgate$NamePattern", "name", "I", true)
def tyX9 : Nat → FieldType := fun k => match k with
  | _ => .int
abbrev wsX90 : List Cond := u_ws RX9 TX9 1
theorem nmX9 : ∀ a, a < 1 → ∀ b, b < 1 → a ≠ b → (TX9 a).2.1 ≠ (TX9 b).2.1 := by decide +kernel
theorem tyX9_ok : ∀ k, k < 1 → parseFieldDescriptor (TX9 k).2.2.1 = some (tyX9 k) := by decide +kernel
abbrev cX9_at : ByteArray := prog_7_method_3_code
def yX9_at : MethodName := ⟨RX9, "at", "(LWeaversgate$Place;)C"⟩
def dkwX9_at_2 : List UInt8 := [184, 0, 23, 172]
abbrev dktX9_at_2 : List UInt8 := dkwX9_at_2 ++ []
def dkwX9_at_1 : List UInt8 := [167, 0, 5, 16, 110, 172, 43, 180, 0, 22, 42, 180, 0, 7, 160, 0, 7, 4, 167, 0, 4, 3]
abbrev dktX9_at_1 : List UInt8 := dkwX9_at_1 ++ dktX9_at_2
def dkwX9_at_0 : List UInt8 := [43, 180, 0, 16, 16, 104, 160, 0, 22, 42, 180, 0, 7, 43, 180, 0, 22, 163, 0, 8, 16, 109]
abbrev dktX9_at_0 : List UInt8 := dkwX9_at_0 ++ dktX9_at_1
theorem dksX9_at_0 : cX9_at.data.toList.drop 0 = dktX9_at_0 := by decide +kernel
theorem dksX9_at_1 : cX9_at.data.toList.drop 22 = dktX9_at_1 := dk_seg dksX9_at_0 22 rfl rfl
theorem dksX9_at_2 : cX9_at.data.toList.drop 44 = dktX9_at_2 := dk_seg dksX9_at_1 22 rfl rfl
theorem dX9_at_0 : decode cX9_at 0 = .ok (.aload_n 1, 1) := dk_43 (dk_at dksX9_at_0 0 rfl rfl)
theorem dX9_at_1 : decode cX9_at 1 = .ok (.getfield 16, 3) := dk_180 0 16 (dk_at dksX9_at_0 1 rfl rfl)
theorem dX9_at_4 : decode cX9_at 4 = .ok (.bipush 104, 2) := dk_16 104 (dk_at dksX9_at_0 4 rfl rfl)
theorem dX9_at_6 : decode cX9_at 6 = .ok (.if_icmp .ne 22, 3) := dk_160 0 22 (dk_at dksX9_at_0 6 rfl rfl)
theorem dX9_at_9 : decode cX9_at 9 = .ok (.aload_n 0, 1) := dk_42 (dk_at dksX9_at_0 9 rfl rfl)
theorem dX9_at_10 : decode cX9_at 10 = .ok (.getfield 7, 3) := dk_180 0 7 (dk_at dksX9_at_0 10 rfl rfl)
theorem dX9_at_13 : decode cX9_at 13 = .ok (.aload_n 1, 1) := dk_43 (dk_at dksX9_at_0 13 rfl rfl)
theorem dX9_at_14 : decode cX9_at 14 = .ok (.getfield 22, 3) := dk_180 0 22 (dk_at dksX9_at_0 14 rfl rfl)
theorem dX9_at_17 : decode cX9_at 17 = .ok (.if_icmp .gt 8, 3) := dk_163 0 8 (dk_at dksX9_at_0 17 rfl rfl)
theorem dX9_at_20 : decode cX9_at 20 = .ok (.bipush 109, 2) := dk_16 109 (dk_at dksX9_at_0 20 rfl rfl)
theorem dX9_at_22 : decode cX9_at 22 = .ok (.goto 5, 3) := dk_167 0 5 (dk_at dksX9_at_1 0 rfl rfl)
theorem dX9_at_25 : decode cX9_at 25 = .ok (.bipush 110, 2) := dk_16 110 (dk_at dksX9_at_1 3 rfl rfl)
theorem dX9_at_27 : decode cX9_at 27 = .ok (.ireturn, 1) := dk_172 (dk_at dksX9_at_1 5 rfl rfl)
theorem dX9_at_28 : decode cX9_at 28 = .ok (.aload_n 1, 1) := dk_43 (dk_at dksX9_at_1 6 rfl rfl)
theorem dX9_at_29 : decode cX9_at 29 = .ok (.getfield 22, 3) := dk_180 0 22 (dk_at dksX9_at_1 7 rfl rfl)
theorem dX9_at_32 : decode cX9_at 32 = .ok (.aload_n 0, 1) := dk_42 (dk_at dksX9_at_1 10 rfl rfl)
theorem dX9_at_33 : decode cX9_at 33 = .ok (.getfield 7, 3) := dk_180 0 7 (dk_at dksX9_at_1 11 rfl rfl)
theorem dX9_at_36 : decode cX9_at 36 = .ok (.if_icmp .ne 7, 3) := dk_160 0 7 (dk_at dksX9_at_1 14 rfl rfl)
theorem dX9_at_39 : decode cX9_at 39 = .ok (.iconst 1, 1) := dk_4 (dk_at dksX9_at_1 17 rfl rfl)
theorem dX9_at_40 : decode cX9_at 40 = .ok (.goto 4, 3) := dk_167 0 4 (dk_at dksX9_at_1 18 rfl rfl)
theorem dX9_at_43 : decode cX9_at 43 = .ok (.iconst 0, 1) := dk_3 (dk_at dksX9_at_1 21 rfl rfl)
theorem dX9_at_44 : decode cX9_at 44 = .ok (.invokestatic 23, 3) := dk_184 0 23 (dk_at dksX9_at_2 0 rfl rfl)
theorem dX9_at_47 : decode cX9_at 47 = .ok (.ireturn, 1) := dk_172 (dk_at dksX9_at_2 3 rfl rfl)
abbrev cX9_holds : ByteArray := prog_7_method_2_code
def yX9_holds : MethodName := ⟨RX9, "holds", "(LWeaversgate$Point;)Z"⟩
def dkwX9_holds_0 : List UInt8 := [43, 180, 0, 13, 42, 180, 0, 7, 160, 0, 7, 4, 167, 0, 4, 3, 172]
abbrev dktX9_holds_0 : List UInt8 := dkwX9_holds_0 ++ []
theorem dksX9_holds_0 : cX9_holds.data.toList.drop 0 = dktX9_holds_0 := by decide +kernel
theorem dX9_holds_0 : decode cX9_holds 0 = .ok (.aload_n 1, 1) := dk_43 (dk_at dksX9_holds_0 0 rfl rfl)
theorem dX9_holds_1 : decode cX9_holds 1 = .ok (.getfield 13, 3) := dk_180 0 13 (dk_at dksX9_holds_0 1 rfl rfl)
theorem dX9_holds_4 : decode cX9_holds 4 = .ok (.aload_n 0, 1) := dk_42 (dk_at dksX9_holds_0 4 rfl rfl)
theorem dX9_holds_5 : decode cX9_holds 5 = .ok (.getfield 7, 3) := dk_180 0 7 (dk_at dksX9_holds_0 5 rfl rfl)
theorem dX9_holds_8 : decode cX9_holds 8 = .ok (.if_icmp .ne 7, 3) := dk_160 0 7 (dk_at dksX9_holds_0 8 rfl rfl)
theorem dX9_holds_11 : decode cX9_holds 11 = .ok (.iconst 1, 1) := dk_4 (dk_at dksX9_holds_0 11 rfl rfl)
theorem dX9_holds_12 : decode cX9_holds 12 = .ok (.goto 4, 3) := dk_167 0 4 (dk_at dksX9_holds_0 12 rfl rfl)
theorem dX9_holds_15 : decode cX9_holds 15 = .ok (.iconst 0, 1) := dk_3 (dk_at dksX9_holds_0 15 rfl rfl)
theorem dX9_holds_16 : decode cX9_holds 16 = .ok (.ireturn, 1) := dk_172 (dk_at dksX9_holds_0 16 rfl rfl)
abbrev cX9_init : ByteArray := prog_7_method_1_code
def yX9_init : MethodName := ⟨RX9, "<init>", "(I)V"⟩
def dkwX9_init_0 : List UInt8 := [42, 183, 0, 1, 42, 27, 181, 0, 7, 177]
abbrev dktX9_init_0 : List UInt8 := dkwX9_init_0 ++ []
theorem dksX9_init_0 : cX9_init.data.toList.drop 0 = dktX9_init_0 := by decide +kernel
theorem dX9_init_0 : decode cX9_init 0 = .ok (.aload_n 0, 1) := dk_42 (dk_at dksX9_init_0 0 rfl rfl)
theorem dX9_init_1 : decode cX9_init 1 = .ok (.invokespecial 1, 3) := dk_183 0 1 (dk_at dksX9_init_0 1 rfl rfl)
theorem dX9_init_4 : decode cX9_init 4 = .ok (.aload_n 0, 1) := dk_42 (dk_at dksX9_init_0 4 rfl rfl)
theorem dX9_init_5 : decode cX9_init 5 = .ok (.iload_n 1, 1) := dk_27 (dk_at dksX9_init_0 5 rfl rfl)
theorem dX9_init_6 : decode cX9_init 6 = .ok (.putfield 7, 3) := dk_181 0 7 (dk_at dksX9_init_0 6 rfl rfl)
theorem dX9_init_9 : decode cX9_init 9 = .ok (.return_, 1) := dk_177 (dk_at dksX9_init_0 9 rfl rfl)
theorem q85 : (Jvm.Cond.initialized "Weaversgate$NamePattern") ∈ lw_all := lw_g (lw_at lw_m1 26 rfl) rfl
theorem q726 : (Jvm.Cond.fieldLinkNest "Weaversgate$NamePattern" (16 : Nat) "Weaversgate$Place" "kind" "C" "Weaversgate") ∈ lw_tbl := lw_at lw_m3 187 rfl
theorem q728 : (Jvm.Cond.fieldLinkNest "Weaversgate$NamePattern" (22 : Nat) "Weaversgate$Place" "name" "I" "Weaversgate") ∈ lw_tbl := lw_at lw_m3 189 rfl
theorem q779 : (Jvm.Cond.selects "Weaversgate$NamePattern" ({ cls := "java/lang/Object", name := "getClass", desc := "()Ljava/lang/Class;" } : Jvm.MethodName) ({ cls := "java/lang/Object", name := "getClass", desc := "()Ljava/lang/Class;" } : Jvm.MethodName)) ∈ lw_all := lw_g (lw_at lw_m4 0 rfl) rfl
theorem q851 : (Jvm.Cond.castable "Weaversgate$NamePattern" "Weaversgate$Pattern") ∈ lw_tbl := lw_at lw_m4 72 rfl
theorem q852 : (Jvm.Cond.selects "Weaversgate$NamePattern" ({ cls := "Weaversgate$Pattern", name := "at", desc := "(LWeaversgate$Place;)C" } : Jvm.MethodName) ({ cls := "Weaversgate$NamePattern", name := "at", desc := "(LWeaversgate$Place;)C" } : Jvm.MethodName)) ∈ lw_all := lw_g (lw_at lw_m4 73 rfl) rfl
theorem q853 : (Jvm.Cond.unhidden "Weaversgate$NamePattern" "at" "(LWeaversgate$Place;)C") ∈ lw_tbl := lw_at lw_m4 74 rfl
theorem q854 : (Jvm.Cond.instanceMethod ({ cls := "Weaversgate$NamePattern", name := "at", desc := "(LWeaversgate$Place;)C" } : Jvm.MethodName)) ∈ lw_all := lw_g (lw_at lw_m4 75 rfl) rfl
theorem q855 : (Jvm.Cond.publicMethod ({ cls := "Weaversgate$NamePattern", name := "at", desc := "(LWeaversgate$Place;)C" } : Jvm.MethodName)) ∈ lw_tbl := lw_at lw_m4 76 rfl
theorem q856 : (Jvm.Cond.code ({ cls := "Weaversgate$NamePattern", name := "at", desc := "(LWeaversgate$Place;)C" } : Jvm.MethodName) prog_7_method_3_code (2 : Nat) (Option.some Jvm.ClassFile.FieldType.char)) ∈ lw_all := lw_g (lw_at lw_m4 77 rfl) rfl
theorem q857 : (Jvm.Cond.methodLink "Weaversgate$NamePattern" (23 : Nat) ({ cls := "Weaversgate$Pattern", name := "sure", desc := "(Z)C" } : Jvm.MethodName)) ∈ lw_all := lw_g (lw_at lw_m4 78 rfl) rfl
theorem q1062 : (Jvm.Cond.fieldLinkNest "Weaversgate$NamePattern" (13 : Nat) "Weaversgate$Point" "name" "I" "Weaversgate") ∈ lw_tbl := lw_at lw_m5 43 rfl
theorem q1105 : (Jvm.Cond.unhidden "Weaversgate$NamePattern" "isAsked" "(LWeaversgate$Place;)Z") ∈ lw_tbl := lw_at lw_m5 86 rfl
theorem q1130 : (Jvm.Cond.selects "Weaversgate$NamePattern" ({ cls := "Weaversgate$Pattern", name := "holds", desc := "(LWeaversgate$Point;)Z" } : Jvm.MethodName) ({ cls := "Weaversgate$NamePattern", name := "holds", desc := "(LWeaversgate$Point;)Z" } : Jvm.MethodName)) ∈ lw_all := lw_g (lw_at lw_m5 111 rfl) rfl
theorem q1131 : (Jvm.Cond.unhidden "Weaversgate$NamePattern" "holds" "(LWeaversgate$Point;)Z") ∈ lw_tbl := lw_at lw_m5 112 rfl
theorem q1132 : (Jvm.Cond.instanceMethod ({ cls := "Weaversgate$NamePattern", name := "holds", desc := "(LWeaversgate$Point;)Z" } : Jvm.MethodName)) ∈ lw_all := lw_g (lw_at lw_m5 113 rfl) rfl
theorem q1133 : (Jvm.Cond.publicMethod ({ cls := "Weaversgate$NamePattern", name := "holds", desc := "(LWeaversgate$Point;)Z" } : Jvm.MethodName)) ∈ lw_tbl := lw_at lw_m5 114 rfl
theorem q1134 : (Jvm.Cond.code ({ cls := "Weaversgate$NamePattern", name := "holds", desc := "(LWeaversgate$Point;)Z" } : Jvm.MethodName) prog_7_method_2_code (2 : Nat) (Option.some Jvm.ClassFile.FieldType.boolean)) ∈ lw_all := lw_g (lw_at lw_m5 115 rfl) rfl
theorem q1389 : (Jvm.Cond.instantiable "Weaversgate$NamePattern" (1 : Nat)) ∈ lw_all := lw_g (lw_at lw_m6 130 rfl) rfl
theorem q1391 : (Jvm.Cond.instanceMethod ({ cls := "Weaversgate$NamePattern", name := "<init>", desc := "(I)V" } : Jvm.MethodName)) ∈ lw_all := lw_g (lw_at lw_m6 132 rfl) rfl
theorem q1392 : (Jvm.Cond.code ({ cls := "Weaversgate$NamePattern", name := "<init>", desc := "(I)V" } : Jvm.MethodName) prog_7_method_1_code (2 : Nat) (Option.none : Option Jvm.ClassFile.FieldType)) ∈ lw_all := lw_g (lw_at lw_m6 133 rfl) rfl
theorem q1393 : (Jvm.Cond.methodLink "Weaversgate$NamePattern" (1 : Nat) ({ cls := "java/lang/Object", name := "<init>", desc := "()V" } : Jvm.MethodName)) ∈ lw_all := lw_g (lw_at lw_m6 134 rfl) rfl
theorem q1394 : (Jvm.Cond.fieldLink "Weaversgate$NamePattern" (7 : Nat) "Weaversgate$NamePattern" "name" "I") ∈ lw_all := lw_g (lw_at lw_m6 135 rfl) rfl
theorem q1395 : (Jvm.Cond.laysFinal "Weaversgate$NamePattern" "Weaversgate$NamePattern" "name" "I") ∈ lw_all := lw_g (lw_at lw_m6 136 rfl) rfl
theorem q1396 : (Jvm.Cond.soleField "Weaversgate$NamePattern" "name") ∈ lw_all := lw_g (lw_at lw_m6 137 rfl) rfl
theorem q1397 : (Jvm.Cond.superclass "Weaversgate$NamePattern" "java/lang/Object") ∈ lw_all := lw_g (lw_at lw_m6 138 rfl) rfl
theorem q2038 : (Jvm.Cond.selects "Weaversgate$NamePattern" ({ cls := "java/lang/Object", name := "equals", desc := "(Ljava/lang/Object;)Z" } : Jvm.MethodName) ({ cls := "java/lang/Object", name := "equals", desc := "(Ljava/lang/Object;)Z" } : Jvm.MethodName)) ∈ lw_all := lw_g (lw_at lw_m9 59 rfl) rfl
theorem q2614 : (Jvm.Cond.castable "Weaversgate$NamePattern" "java/lang/Object") ∈ lw_tbl := lw_at lw_m11 155 rfl
theorem in_X9 : ∀ w ∈ wsX90, w ∈ lw_all := lw_in wsX90 [1395] (by decide +kernel) (by decide +kernel)

/-! Weaversgate$TypePattern -/
set_option maxRecDepth 100000
def RX10 : String := "Weaversgate$TypePattern"
def TX10 : u_T := fun k => match k with
  | 0 => ("Weaversgate$TypePattern", "type", "I", true)
  | _ => ("Weaversgate$TypePattern", "this$0", "LWeaversgate;", true)
def tyX10 : Nat → FieldType := fun k => match k with
  | 0 => .int
  | _ => .object "Weaversgate"
abbrev wsX100 : List Cond := u_ws RX10 TX10 2
theorem nmX10 : ∀ a, a < 2 → ∀ b, b < 2 → a ≠ b → (TX10 a).2.1 ≠ (TX10 b).2.1 := by decide +kernel
theorem tyX10_ok : ∀ k, k < 2 → parseFieldDescriptor (TX10 k).2.2.1 = some (tyX10 k) := by decide +kernel
abbrev cX10_at : ByteArray := prog_20_method_3_code
def yX10_at : MethodName := ⟨RX10, "at", "(LWeaversgate$Place;)C"⟩
def dkwX10_at_4 : List UInt8 := [154, 0, 8, 16, 121, 167, 0, 5, 16, 109, 172]
abbrev dktX10_at_4 : List UInt8 := dkwX10_at_4 ++ []
def dkwX10_at_3 : List UInt8 := [167, 0, 4, 3, 62, 29, 153, 0, 8, 16, 110, 167, 0, 21, 43, 180, 0, 44, 28, 2, 130, 126]
abbrev dktX10_at_3 : List UInt8 := dkwX10_at_3 ++ dktX10_at_4
def dkwX10_at_2 : List UInt8 := [167, 0, 4, 3, 128, 61, 132, 3, 1, 167, 255, 205, 43, 180, 0, 44, 28, 126, 154, 0, 7, 4]
abbrev dktX10_at_2 : List UInt8 := dkwX10_at_2 ++ dktX10_at_3
def dkwX10_at_1 : List UInt8 := [180, 0, 28, 29, 182, 0, 40, 192, 0, 23, 42, 180, 0, 13, 182, 0, 22, 153, 0, 9, 4, 29, 120]
abbrev dktX10_at_1 : List UInt8 := dkwX10_at_1 ++ dktX10_at_2
def dkwX10_at_0 : List UInt8 := [3, 61, 3, 62, 29, 42, 180, 0, 1, 180, 0, 28, 182, 0, 34, 162, 0, 43, 28, 42, 180, 0, 1]
abbrev dktX10_at_0 : List UInt8 := dkwX10_at_0 ++ dktX10_at_1
theorem dksX10_at_0 : cX10_at.data.toList.drop 0 = dktX10_at_0 := by decide +kernel
theorem dksX10_at_1 : cX10_at.data.toList.drop 23 = dktX10_at_1 := dk_seg dksX10_at_0 23 rfl rfl
theorem dksX10_at_2 : cX10_at.data.toList.drop 46 = dktX10_at_2 := dk_seg dksX10_at_1 23 rfl rfl
theorem dksX10_at_3 : cX10_at.data.toList.drop 68 = dktX10_at_3 := dk_seg dksX10_at_2 22 rfl rfl
theorem dksX10_at_4 : cX10_at.data.toList.drop 90 = dktX10_at_4 := dk_seg dksX10_at_3 22 rfl rfl
theorem dX10_at_0 : decode cX10_at 0 = .ok (.iconst 0, 1) := dk_3 (dk_at dksX10_at_0 0 rfl rfl)
theorem dX10_at_1 : decode cX10_at 1 = .ok (.istore_n 2, 1) := dk_61 (dk_at dksX10_at_0 1 rfl rfl)
theorem dX10_at_2 : decode cX10_at 2 = .ok (.iconst 0, 1) := dk_3 (dk_at dksX10_at_0 2 rfl rfl)
theorem dX10_at_3 : decode cX10_at 3 = .ok (.istore_n 3, 1) := dk_62 (dk_at dksX10_at_0 3 rfl rfl)
theorem dX10_at_4 : decode cX10_at 4 = .ok (.iload_n 3, 1) := dk_29 (dk_at dksX10_at_0 4 rfl rfl)
theorem dX10_at_5 : decode cX10_at 5 = .ok (.aload_n 0, 1) := dk_42 (dk_at dksX10_at_0 5 rfl rfl)
theorem dX10_at_6 : decode cX10_at 6 = .ok (.getfield 1, 3) := dk_180 0 1 (dk_at dksX10_at_0 6 rfl rfl)
theorem dX10_at_9 : decode cX10_at 9 = .ok (.getfield 28, 3) := dk_180 0 28 (dk_at dksX10_at_0 9 rfl rfl)
theorem dX10_at_12 : decode cX10_at 12 = .ok (.invokevirtual 34, 3) := dk_182 0 34 (dk_at dksX10_at_0 12 rfl rfl)
theorem dX10_at_15 : decode cX10_at 15 = .ok (.if_icmp .ge 43, 3) := dk_162 0 43 (dk_at dksX10_at_0 15 rfl rfl)
theorem dX10_at_18 : decode cX10_at 18 = .ok (.iload_n 2, 1) := dk_28 (dk_at dksX10_at_0 18 rfl rfl)
theorem dX10_at_19 : decode cX10_at 19 = .ok (.aload_n 0, 1) := dk_42 (dk_at dksX10_at_0 19 rfl rfl)
theorem dX10_at_20 : decode cX10_at 20 = .ok (.getfield 1, 3) := dk_180 0 1 (dk_at dksX10_at_0 20 rfl rfl)
theorem dX10_at_23 : decode cX10_at 23 = .ok (.getfield 28, 3) := dk_180 0 28 (dk_at dksX10_at_1 0 rfl rfl)
theorem dX10_at_26 : decode cX10_at 26 = .ok (.iload_n 3, 1) := dk_29 (dk_at dksX10_at_1 3 rfl rfl)
theorem dX10_at_27 : decode cX10_at 27 = .ok (.invokevirtual 40, 3) := dk_182 0 40 (dk_at dksX10_at_1 4 rfl rfl)
theorem dX10_at_30 : decode cX10_at 30 = .ok (.checkcast 23, 3) := dk_192 0 23 (dk_at dksX10_at_1 7 rfl rfl)
theorem dX10_at_33 : decode cX10_at 33 = .ok (.aload_n 0, 1) := dk_42 (dk_at dksX10_at_1 10 rfl rfl)
theorem dX10_at_34 : decode cX10_at 34 = .ok (.getfield 13, 3) := dk_180 0 13 (dk_at dksX10_at_1 11 rfl rfl)
theorem dX10_at_37 : decode cX10_at 37 = .ok (.invokevirtual 22, 3) := dk_182 0 22 (dk_at dksX10_at_1 14 rfl rfl)
theorem dX10_at_40 : decode cX10_at 40 = .ok (.ifCond .eq 9, 3) := dk_153 0 9 (dk_at dksX10_at_1 17 rfl rfl)
theorem dX10_at_43 : decode cX10_at 43 = .ok (.iconst 1, 1) := dk_4 (dk_at dksX10_at_1 20 rfl rfl)
theorem dX10_at_44 : decode cX10_at 44 = .ok (.iload_n 3, 1) := dk_29 (dk_at dksX10_at_1 21 rfl rfl)
theorem dX10_at_45 : decode cX10_at 45 = .ok (.ishl, 1) := dk_120 (dk_at dksX10_at_1 22 rfl rfl)
theorem dX10_at_46 : decode cX10_at 46 = .ok (.goto 4, 3) := dk_167 0 4 (dk_at dksX10_at_2 0 rfl rfl)
theorem dX10_at_49 : decode cX10_at 49 = .ok (.iconst 0, 1) := dk_3 (dk_at dksX10_at_2 3 rfl rfl)
theorem dX10_at_50 : decode cX10_at 50 = .ok (.ior, 1) := dk_128 (dk_at dksX10_at_2 4 rfl rfl)
theorem dX10_at_51 : decode cX10_at 51 = .ok (.istore_n 2, 1) := dk_61 (dk_at dksX10_at_2 5 rfl rfl)
theorem dX10_at_52 : decode cX10_at 52 = .ok (.iinc 3 1, 3) := dk_132 3 1 (dk_at dksX10_at_2 6 rfl rfl)
theorem dX10_at_55 : decode cX10_at 55 = .ok (.goto (-51), 3) := dk_167 255 205 (dk_at dksX10_at_2 9 rfl rfl)
theorem dX10_at_58 : decode cX10_at 58 = .ok (.aload_n 1, 1) := dk_43 (dk_at dksX10_at_2 12 rfl rfl)
theorem dX10_at_59 : decode cX10_at 59 = .ok (.getfield 44, 3) := dk_180 0 44 (dk_at dksX10_at_2 13 rfl rfl)
theorem dX10_at_62 : decode cX10_at 62 = .ok (.iload_n 2, 1) := dk_28 (dk_at dksX10_at_2 16 rfl rfl)
theorem dX10_at_63 : decode cX10_at 63 = .ok (.iand, 1) := dk_126 (dk_at dksX10_at_2 17 rfl rfl)
theorem dX10_at_64 : decode cX10_at 64 = .ok (.ifCond .ne 7, 3) := dk_154 0 7 (dk_at dksX10_at_2 18 rfl rfl)
theorem dX10_at_67 : decode cX10_at 67 = .ok (.iconst 1, 1) := dk_4 (dk_at dksX10_at_2 21 rfl rfl)
theorem dX10_at_68 : decode cX10_at 68 = .ok (.goto 4, 3) := dk_167 0 4 (dk_at dksX10_at_3 0 rfl rfl)
theorem dX10_at_71 : decode cX10_at 71 = .ok (.iconst 0, 1) := dk_3 (dk_at dksX10_at_3 3 rfl rfl)
theorem dX10_at_72 : decode cX10_at 72 = .ok (.istore_n 3, 1) := dk_62 (dk_at dksX10_at_3 4 rfl rfl)
theorem dX10_at_73 : decode cX10_at 73 = .ok (.iload_n 3, 1) := dk_29 (dk_at dksX10_at_3 5 rfl rfl)
theorem dX10_at_74 : decode cX10_at 74 = .ok (.ifCond .eq 8, 3) := dk_153 0 8 (dk_at dksX10_at_3 6 rfl rfl)
theorem dX10_at_77 : decode cX10_at 77 = .ok (.bipush 110, 2) := dk_16 110 (dk_at dksX10_at_3 9 rfl rfl)
theorem dX10_at_79 : decode cX10_at 79 = .ok (.goto 21, 3) := dk_167 0 21 (dk_at dksX10_at_3 11 rfl rfl)
theorem dX10_at_82 : decode cX10_at 82 = .ok (.aload_n 1, 1) := dk_43 (dk_at dksX10_at_3 14 rfl rfl)
theorem dX10_at_83 : decode cX10_at 83 = .ok (.getfield 44, 3) := dk_180 0 44 (dk_at dksX10_at_3 15 rfl rfl)
theorem dX10_at_86 : decode cX10_at 86 = .ok (.iload_n 2, 1) := dk_28 (dk_at dksX10_at_3 18 rfl rfl)
theorem dX10_at_87 : decode cX10_at 87 = .ok (.iconst (-1), 1) := dk_2 (dk_at dksX10_at_3 19 rfl rfl)
theorem dX10_at_88 : decode cX10_at 88 = .ok (.ixor, 1) := dk_130 (dk_at dksX10_at_3 20 rfl rfl)
theorem dX10_at_89 : decode cX10_at 89 = .ok (.iand, 1) := dk_126 (dk_at dksX10_at_3 21 rfl rfl)
theorem dX10_at_90 : decode cX10_at 90 = .ok (.ifCond .ne 8, 3) := dk_154 0 8 (dk_at dksX10_at_4 0 rfl rfl)
theorem dX10_at_93 : decode cX10_at 93 = .ok (.bipush 121, 2) := dk_16 121 (dk_at dksX10_at_4 3 rfl rfl)
theorem dX10_at_95 : decode cX10_at 95 = .ok (.goto 5, 3) := dk_167 0 5 (dk_at dksX10_at_4 5 rfl rfl)
theorem dX10_at_98 : decode cX10_at 98 = .ok (.bipush 109, 2) := dk_16 109 (dk_at dksX10_at_4 8 rfl rfl)
theorem dX10_at_100 : decode cX10_at 100 = .ok (.ireturn, 1) := dk_172 (dk_at dksX10_at_4 10 rfl rfl)
abbrev cX10_holds : ByteArray := prog_20_method_2_code
def yX10_holds : MethodName := ⟨RX10, "holds", "(LWeaversgate$Point;)Z"⟩
def dkwX10_holds_0 : List UInt8 := [43, 180, 0, 17, 42, 180, 0, 13, 182, 0, 22, 172]
abbrev dktX10_holds_0 : List UInt8 := dkwX10_holds_0 ++ []
theorem dksX10_holds_0 : cX10_holds.data.toList.drop 0 = dktX10_holds_0 := by decide +kernel
theorem dX10_holds_0 : decode cX10_holds 0 = .ok (.aload_n 1, 1) := dk_43 (dk_at dksX10_holds_0 0 rfl rfl)
theorem dX10_holds_1 : decode cX10_holds 1 = .ok (.getfield 17, 3) := dk_180 0 17 (dk_at dksX10_holds_0 1 rfl rfl)
theorem dX10_holds_4 : decode cX10_holds 4 = .ok (.aload_n 0, 1) := dk_42 (dk_at dksX10_holds_0 4 rfl rfl)
theorem dX10_holds_5 : decode cX10_holds 5 = .ok (.getfield 13, 3) := dk_180 0 13 (dk_at dksX10_holds_0 5 rfl rfl)
theorem dX10_holds_8 : decode cX10_holds 8 = .ok (.invokevirtual 22, 3) := dk_182 0 22 (dk_at dksX10_holds_0 8 rfl rfl)
theorem dX10_holds_11 : decode cX10_holds 11 = .ok (.ireturn, 1) := dk_172 (dk_at dksX10_holds_0 11 rfl rfl)
abbrev cX10_init : ByteArray := prog_20_method_1_code
def yX10_init : MethodName := ⟨RX10, "<init>", "(LWeaversgate;I)V"⟩
def dkwX10_init_0 : List UInt8 := [42, 43, 181, 0, 1, 42, 183, 0, 7, 42, 28, 181, 0, 13, 177]
abbrev dktX10_init_0 : List UInt8 := dkwX10_init_0 ++ []
theorem dksX10_init_0 : cX10_init.data.toList.drop 0 = dktX10_init_0 := by decide +kernel
theorem dX10_init_0 : decode cX10_init 0 = .ok (.aload_n 0, 1) := dk_42 (dk_at dksX10_init_0 0 rfl rfl)
theorem dX10_init_1 : decode cX10_init 1 = .ok (.aload_n 1, 1) := dk_43 (dk_at dksX10_init_0 1 rfl rfl)
theorem dX10_init_2 : decode cX10_init 2 = .ok (.putfield 1, 3) := dk_181 0 1 (dk_at dksX10_init_0 2 rfl rfl)
theorem dX10_init_5 : decode cX10_init 5 = .ok (.aload_n 0, 1) := dk_42 (dk_at dksX10_init_0 5 rfl rfl)
theorem dX10_init_6 : decode cX10_init 6 = .ok (.invokespecial 7, 3) := dk_183 0 7 (dk_at dksX10_init_0 6 rfl rfl)
theorem dX10_init_9 : decode cX10_init 9 = .ok (.aload_n 0, 1) := dk_42 (dk_at dksX10_init_0 9 rfl rfl)
theorem dX10_init_10 : decode cX10_init 10 = .ok (.iload_n 2, 1) := dk_28 (dk_at dksX10_init_0 10 rfl rfl)
theorem dX10_init_11 : decode cX10_init 11 = .ok (.putfield 13, 3) := dk_181 0 13 (dk_at dksX10_init_0 11 rfl rfl)
theorem dX10_init_14 : decode cX10_init 14 = .ok (.return_, 1) := dk_177 (dk_at dksX10_init_0 14 rfl rfl)
theorem q86 : (Jvm.Cond.initialized "Weaversgate$TypePattern") ∈ lw_all := lw_g (lw_at lw_m1 27 rfl) rfl
theorem q224 : (Jvm.Cond.fieldLinkNest "Weaversgate$TypePattern" (28 : Nat) "Weaversgate" "types" "Ljava/util/ArrayList;" "Weaversgate") ∈ lw_tbl := lw_at lw_m1 165 rfl
theorem q732 : (Jvm.Cond.fieldLinkNest "Weaversgate$TypePattern" (44 : Nat) "Weaversgate$Place" "possible" "I" "Weaversgate") ∈ lw_tbl := lw_at lw_m3 193 rfl
theorem q791 : (Jvm.Cond.selects "Weaversgate$TypePattern" ({ cls := "java/lang/Object", name := "getClass", desc := "()Ljava/lang/Class;" } : Jvm.MethodName) ({ cls := "java/lang/Object", name := "getClass", desc := "()Ljava/lang/Class;" } : Jvm.MethodName)) ∈ lw_all := lw_g (lw_at lw_m4 12 rfl) rfl
theorem q882 : (Jvm.Cond.castable "Weaversgate$TypePattern" "Weaversgate$Pattern") ∈ lw_tbl := lw_at lw_m4 103 rfl
theorem q883 : (Jvm.Cond.selects "Weaversgate$TypePattern" ({ cls := "Weaversgate$Pattern", name := "at", desc := "(LWeaversgate$Place;)C" } : Jvm.MethodName) ({ cls := "Weaversgate$TypePattern", name := "at", desc := "(LWeaversgate$Place;)C" } : Jvm.MethodName)) ∈ lw_all := lw_g (lw_at lw_m4 104 rfl) rfl
theorem q884 : (Jvm.Cond.unhidden "Weaversgate$TypePattern" "at" "(LWeaversgate$Place;)C") ∈ lw_tbl := lw_at lw_m4 105 rfl
theorem q885 : (Jvm.Cond.instanceMethod ({ cls := "Weaversgate$TypePattern", name := "at", desc := "(LWeaversgate$Place;)C" } : Jvm.MethodName)) ∈ lw_all := lw_g (lw_at lw_m4 106 rfl) rfl
theorem q886 : (Jvm.Cond.publicMethod ({ cls := "Weaversgate$TypePattern", name := "at", desc := "(LWeaversgate$Place;)C" } : Jvm.MethodName)) ∈ lw_tbl := lw_at lw_m4 107 rfl
theorem q887 : (Jvm.Cond.code ({ cls := "Weaversgate$TypePattern", name := "at", desc := "(LWeaversgate$Place;)C" } : Jvm.MethodName) prog_20_method_3_code (4 : Nat) (Option.some Jvm.ClassFile.FieldType.char)) ∈ lw_all := lw_g (lw_at lw_m4 108 rfl) rfl
theorem q888 : (Jvm.Cond.methodLink "Weaversgate$TypePattern" (34 : Nat) ({ cls := "java/util/ArrayList", name := "size", desc := "()I" } : Jvm.MethodName)) ∈ lw_all := lw_g (lw_at lw_m4 109 rfl) rfl
theorem q889 : (Jvm.Cond.methodLink "Weaversgate$TypePattern" (40 : Nat) ({ cls := "java/util/ArrayList", name := "get", desc := "(I)Ljava/lang/Object;" } : Jvm.MethodName)) ∈ lw_all := lw_g (lw_at lw_m4 110 rfl) rfl
theorem q890 : (Jvm.Cond.classLink "Weaversgate$TypePattern" (23 : Nat) "Weaversgate$Type") ∈ lw_all := lw_g (lw_at lw_m4 111 rfl) rfl
theorem q891 : (Jvm.Cond.methodLink "Weaversgate$TypePattern" (22 : Nat) ({ cls := "Weaversgate$Type", name := "isBelow", desc := "(I)Z" } : Jvm.MethodName)) ∈ lw_all := lw_g (lw_at lw_m4 112 rfl) rfl
theorem q1064 : (Jvm.Cond.fieldLinkNest "Weaversgate$TypePattern" (17 : Nat) "Weaversgate$Point" "type" "LWeaversgate$Type;" "Weaversgate") ∈ lw_tbl := lw_at lw_m5 45 rfl
theorem q1109 : (Jvm.Cond.unhidden "Weaversgate$TypePattern" "isAsked" "(LWeaversgate$Place;)Z") ∈ lw_tbl := lw_at lw_m5 90 rfl
theorem q1156 : (Jvm.Cond.selects "Weaversgate$TypePattern" ({ cls := "Weaversgate$Pattern", name := "holds", desc := "(LWeaversgate$Point;)Z" } : Jvm.MethodName) ({ cls := "Weaversgate$TypePattern", name := "holds", desc := "(LWeaversgate$Point;)Z" } : Jvm.MethodName)) ∈ lw_all := lw_g (lw_at lw_m5 137 rfl) rfl
theorem q1157 : (Jvm.Cond.unhidden "Weaversgate$TypePattern" "holds" "(LWeaversgate$Point;)Z") ∈ lw_tbl := lw_at lw_m5 138 rfl
theorem q1158 : (Jvm.Cond.instanceMethod ({ cls := "Weaversgate$TypePattern", name := "holds", desc := "(LWeaversgate$Point;)Z" } : Jvm.MethodName)) ∈ lw_all := lw_g (lw_at lw_m5 139 rfl) rfl
theorem q1159 : (Jvm.Cond.publicMethod ({ cls := "Weaversgate$TypePattern", name := "holds", desc := "(LWeaversgate$Point;)Z" } : Jvm.MethodName)) ∈ lw_tbl := lw_at lw_m5 140 rfl
theorem q1160 : (Jvm.Cond.code ({ cls := "Weaversgate$TypePattern", name := "holds", desc := "(LWeaversgate$Point;)Z" } : Jvm.MethodName) prog_20_method_2_code (2 : Nat) (Option.some Jvm.ClassFile.FieldType.boolean)) ∈ lw_all := lw_g (lw_at lw_m5 141 rfl) rfl
theorem q1399 : (Jvm.Cond.instantiable "Weaversgate$TypePattern" (2 : Nat)) ∈ lw_all := lw_g (lw_at lw_m6 140 rfl) rfl
theorem q1401 : (Jvm.Cond.instanceMethod ({ cls := "Weaversgate$TypePattern", name := "<init>", desc := "(LWeaversgate;I)V" } : Jvm.MethodName)) ∈ lw_all := lw_g (lw_at lw_m6 142 rfl) rfl
theorem q1402 : (Jvm.Cond.code ({ cls := "Weaversgate$TypePattern", name := "<init>", desc := "(LWeaversgate;I)V" } : Jvm.MethodName) prog_20_method_1_code (3 : Nat) (Option.none : Option Jvm.ClassFile.FieldType)) ∈ lw_all := lw_g (lw_at lw_m6 143 rfl) rfl
theorem q1403 : (Jvm.Cond.methodLink "Weaversgate$TypePattern" (7 : Nat) ({ cls := "java/lang/Object", name := "<init>", desc := "()V" } : Jvm.MethodName)) ∈ lw_all := lw_g (lw_at lw_m6 144 rfl) rfl
theorem q1404 : (Jvm.Cond.fieldLink "Weaversgate$TypePattern" (13 : Nat) "Weaversgate$TypePattern" "type" "I") ∈ lw_all := lw_g (lw_at lw_m6 145 rfl) rfl
theorem q1405 : (Jvm.Cond.fieldLink "Weaversgate$TypePattern" (1 : Nat) "Weaversgate$TypePattern" "this$0" "LWeaversgate;") ∈ lw_all := lw_g (lw_at lw_m6 146 rfl) rfl
theorem q1406 : (Jvm.Cond.laysFinal "Weaversgate$TypePattern" "Weaversgate$TypePattern" "type" "I") ∈ lw_all := lw_g (lw_at lw_m6 147 rfl) rfl
theorem q1407 : (Jvm.Cond.soleField "Weaversgate$TypePattern" "type") ∈ lw_all := lw_g (lw_at lw_m6 148 rfl) rfl
theorem q1408 : (Jvm.Cond.laysFinal "Weaversgate$TypePattern" "Weaversgate$TypePattern" "this$0" "LWeaversgate;") ∈ lw_all := lw_g (lw_at lw_m6 149 rfl) rfl
theorem q1409 : (Jvm.Cond.soleField "Weaversgate$TypePattern" "this$0") ∈ lw_all := lw_g (lw_at lw_m6 150 rfl) rfl
theorem q1410 : (Jvm.Cond.superclass "Weaversgate$TypePattern" "java/lang/Object") ∈ lw_all := lw_g (lw_at lw_m6 151 rfl) rfl
theorem q2050 : (Jvm.Cond.selects "Weaversgate$TypePattern" ({ cls := "java/lang/Object", name := "equals", desc := "(Ljava/lang/Object;)Z" } : Jvm.MethodName) ({ cls := "java/lang/Object", name := "equals", desc := "(Ljava/lang/Object;)Z" } : Jvm.MethodName)) ∈ lw_all := lw_g (lw_at lw_m9 71 rfl) rfl
theorem q2615 : (Jvm.Cond.castable "Weaversgate$TypePattern" "java/lang/Object") ∈ lw_tbl := lw_at lw_m11 156 rfl
theorem in_X10 : ∀ w ∈ wsX100, w ∈ lw_all := lw_in wsX100 [1406, 1408] (by decide +kernel) (by decide +kernel)

/-! Weaversgate$WithinPattern -/
set_option maxRecDepth 100000
def RX11 : String := "Weaversgate$WithinPattern"
def TX11 : u_T := fun k => match k with
  | _ => ("Weaversgate$WithinPattern", "type", "I", true)
def tyX11 : Nat → FieldType := fun k => match k with
  | _ => .int
abbrev wsX110 : List Cond := u_ws RX11 TX11 1
theorem nmX11 : ∀ a, a < 1 → ∀ b, b < 1 → a ≠ b → (TX11 a).2.1 ≠ (TX11 b).2.1 := by decide +kernel
theorem tyX11_ok : ∀ k, k < 1 → parseFieldDescriptor (TX11 k).2.2.1 = some (tyX11 k) := by decide +kernel
abbrev cX11_at : ByteArray := prog_22_method_3_code
def yX11_at : MethodName := ⟨RX11, "at", "(LWeaversgate$Place;)C"⟩
def dkwX11_at_0 : List UInt8 := [43, 180, 0, 18, 42, 180, 0, 7, 160, 0, 7, 4, 167, 0, 4, 3, 184, 0, 21, 172]
abbrev dktX11_at_0 : List UInt8 := dkwX11_at_0 ++ []
theorem dksX11_at_0 : cX11_at.data.toList.drop 0 = dktX11_at_0 := by decide +kernel
theorem dX11_at_0 : decode cX11_at 0 = .ok (.aload_n 1, 1) := dk_43 (dk_at dksX11_at_0 0 rfl rfl)
theorem dX11_at_1 : decode cX11_at 1 = .ok (.getfield 18, 3) := dk_180 0 18 (dk_at dksX11_at_0 1 rfl rfl)
theorem dX11_at_4 : decode cX11_at 4 = .ok (.aload_n 0, 1) := dk_42 (dk_at dksX11_at_0 4 rfl rfl)
theorem dX11_at_5 : decode cX11_at 5 = .ok (.getfield 7, 3) := dk_180 0 7 (dk_at dksX11_at_0 5 rfl rfl)
theorem dX11_at_8 : decode cX11_at 8 = .ok (.if_icmp .ne 7, 3) := dk_160 0 7 (dk_at dksX11_at_0 8 rfl rfl)
theorem dX11_at_11 : decode cX11_at 11 = .ok (.iconst 1, 1) := dk_4 (dk_at dksX11_at_0 11 rfl rfl)
theorem dX11_at_12 : decode cX11_at 12 = .ok (.goto 4, 3) := dk_167 0 4 (dk_at dksX11_at_0 12 rfl rfl)
theorem dX11_at_15 : decode cX11_at 15 = .ok (.iconst 0, 1) := dk_3 (dk_at dksX11_at_0 15 rfl rfl)
theorem dX11_at_16 : decode cX11_at 16 = .ok (.invokestatic 21, 3) := dk_184 0 21 (dk_at dksX11_at_0 16 rfl rfl)
theorem dX11_at_19 : decode cX11_at 19 = .ok (.ireturn, 1) := dk_172 (dk_at dksX11_at_0 19 rfl rfl)
abbrev cX11_holds : ByteArray := prog_22_method_2_code
def yX11_holds : MethodName := ⟨RX11, "holds", "(LWeaversgate$Point;)Z"⟩
def dkwX11_holds_0 : List UInt8 := [43, 180, 0, 13, 42, 180, 0, 7, 160, 0, 7, 4, 167, 0, 4, 3, 172]
abbrev dktX11_holds_0 : List UInt8 := dkwX11_holds_0 ++ []
theorem dksX11_holds_0 : cX11_holds.data.toList.drop 0 = dktX11_holds_0 := by decide +kernel
theorem dX11_holds_0 : decode cX11_holds 0 = .ok (.aload_n 1, 1) := dk_43 (dk_at dksX11_holds_0 0 rfl rfl)
theorem dX11_holds_1 : decode cX11_holds 1 = .ok (.getfield 13, 3) := dk_180 0 13 (dk_at dksX11_holds_0 1 rfl rfl)
theorem dX11_holds_4 : decode cX11_holds 4 = .ok (.aload_n 0, 1) := dk_42 (dk_at dksX11_holds_0 4 rfl rfl)
theorem dX11_holds_5 : decode cX11_holds 5 = .ok (.getfield 7, 3) := dk_180 0 7 (dk_at dksX11_holds_0 5 rfl rfl)
theorem dX11_holds_8 : decode cX11_holds 8 = .ok (.if_icmp .ne 7, 3) := dk_160 0 7 (dk_at dksX11_holds_0 8 rfl rfl)
theorem dX11_holds_11 : decode cX11_holds 11 = .ok (.iconst 1, 1) := dk_4 (dk_at dksX11_holds_0 11 rfl rfl)
theorem dX11_holds_12 : decode cX11_holds 12 = .ok (.goto 4, 3) := dk_167 0 4 (dk_at dksX11_holds_0 12 rfl rfl)
theorem dX11_holds_15 : decode cX11_holds 15 = .ok (.iconst 0, 1) := dk_3 (dk_at dksX11_holds_0 15 rfl rfl)
theorem dX11_holds_16 : decode cX11_holds 16 = .ok (.ireturn, 1) := dk_172 (dk_at dksX11_holds_0 16 rfl rfl)
abbrev cX11_init : ByteArray := prog_22_method_1_code
def yX11_init : MethodName := ⟨RX11, "<init>", "(I)V"⟩
def dkwX11_init_0 : List UInt8 := [42, 183, 0, 1, 42, 27, 181, 0, 7, 177]
abbrev dktX11_init_0 : List UInt8 := dkwX11_init_0 ++ []
theorem dksX11_init_0 : cX11_init.data.toList.drop 0 = dktX11_init_0 := by decide +kernel
theorem dX11_init_0 : decode cX11_init 0 = .ok (.aload_n 0, 1) := dk_42 (dk_at dksX11_init_0 0 rfl rfl)
theorem dX11_init_1 : decode cX11_init 1 = .ok (.invokespecial 1, 3) := dk_183 0 1 (dk_at dksX11_init_0 1 rfl rfl)
theorem dX11_init_4 : decode cX11_init 4 = .ok (.aload_n 0, 1) := dk_42 (dk_at dksX11_init_0 4 rfl rfl)
theorem dX11_init_5 : decode cX11_init 5 = .ok (.iload_n 1, 1) := dk_27 (dk_at dksX11_init_0 5 rfl rfl)
theorem dX11_init_6 : decode cX11_init 6 = .ok (.putfield 7, 3) := dk_181 0 7 (dk_at dksX11_init_0 6 rfl rfl)
theorem dX11_init_9 : decode cX11_init 9 = .ok (.return_, 1) := dk_177 (dk_at dksX11_init_0 9 rfl rfl)
theorem q87 : (Jvm.Cond.initialized "Weaversgate$WithinPattern") ∈ lw_all := lw_g (lw_at lw_m1 28 rfl) rfl
theorem q730 : (Jvm.Cond.fieldLinkNest "Weaversgate$WithinPattern" (18 : Nat) "Weaversgate$Place" "within" "I" "Weaversgate") ∈ lw_tbl := lw_at lw_m3 191 rfl
theorem q793 : (Jvm.Cond.selects "Weaversgate$WithinPattern" ({ cls := "java/lang/Object", name := "getClass", desc := "()Ljava/lang/Class;" } : Jvm.MethodName) ({ cls := "java/lang/Object", name := "getClass", desc := "()Ljava/lang/Class;" } : Jvm.MethodName)) ∈ lw_all := lw_g (lw_at lw_m4 14 rfl) rfl
theorem q902 : (Jvm.Cond.castable "Weaversgate$WithinPattern" "Weaversgate$Pattern") ∈ lw_tbl := lw_at lw_m4 123 rfl
theorem q903 : (Jvm.Cond.selects "Weaversgate$WithinPattern" ({ cls := "Weaversgate$Pattern", name := "at", desc := "(LWeaversgate$Place;)C" } : Jvm.MethodName) ({ cls := "Weaversgate$WithinPattern", name := "at", desc := "(LWeaversgate$Place;)C" } : Jvm.MethodName)) ∈ lw_all := lw_g (lw_at lw_m4 124 rfl) rfl
theorem q904 : (Jvm.Cond.unhidden "Weaversgate$WithinPattern" "at" "(LWeaversgate$Place;)C") ∈ lw_tbl := lw_at lw_m4 125 rfl
theorem q905 : (Jvm.Cond.instanceMethod ({ cls := "Weaversgate$WithinPattern", name := "at", desc := "(LWeaversgate$Place;)C" } : Jvm.MethodName)) ∈ lw_all := lw_g (lw_at lw_m4 126 rfl) rfl
theorem q906 : (Jvm.Cond.publicMethod ({ cls := "Weaversgate$WithinPattern", name := "at", desc := "(LWeaversgate$Place;)C" } : Jvm.MethodName)) ∈ lw_tbl := lw_at lw_m4 127 rfl
theorem q907 : (Jvm.Cond.code ({ cls := "Weaversgate$WithinPattern", name := "at", desc := "(LWeaversgate$Place;)C" } : Jvm.MethodName) prog_22_method_3_code (2 : Nat) (Option.some Jvm.ClassFile.FieldType.char)) ∈ lw_all := lw_g (lw_at lw_m4 128 rfl) rfl
theorem q908 : (Jvm.Cond.methodLink "Weaversgate$WithinPattern" (21 : Nat) ({ cls := "Weaversgate$Pattern", name := "sure", desc := "(Z)C" } : Jvm.MethodName)) ∈ lw_all := lw_g (lw_at lw_m4 129 rfl) rfl
theorem q1066 : (Jvm.Cond.fieldLinkNest "Weaversgate$WithinPattern" (13 : Nat) "Weaversgate$Point" "within" "I" "Weaversgate") ∈ lw_tbl := lw_at lw_m5 47 rfl
theorem q1111 : (Jvm.Cond.unhidden "Weaversgate$WithinPattern" "isAsked" "(LWeaversgate$Place;)Z") ∈ lw_tbl := lw_at lw_m5 92 rfl
theorem q1166 : (Jvm.Cond.selects "Weaversgate$WithinPattern" ({ cls := "Weaversgate$Pattern", name := "holds", desc := "(LWeaversgate$Point;)Z" } : Jvm.MethodName) ({ cls := "Weaversgate$WithinPattern", name := "holds", desc := "(LWeaversgate$Point;)Z" } : Jvm.MethodName)) ∈ lw_all := lw_g (lw_at lw_m5 147 rfl) rfl
theorem q1167 : (Jvm.Cond.unhidden "Weaversgate$WithinPattern" "holds" "(LWeaversgate$Point;)Z") ∈ lw_tbl := lw_at lw_m5 148 rfl
theorem q1168 : (Jvm.Cond.instanceMethod ({ cls := "Weaversgate$WithinPattern", name := "holds", desc := "(LWeaversgate$Point;)Z" } : Jvm.MethodName)) ∈ lw_all := lw_g (lw_at lw_m5 149 rfl) rfl
theorem q1169 : (Jvm.Cond.publicMethod ({ cls := "Weaversgate$WithinPattern", name := "holds", desc := "(LWeaversgate$Point;)Z" } : Jvm.MethodName)) ∈ lw_tbl := lw_at lw_m5 150 rfl
theorem q1170 : (Jvm.Cond.code ({ cls := "Weaversgate$WithinPattern", name := "holds", desc := "(LWeaversgate$Point;)Z" } : Jvm.MethodName) prog_22_method_2_code (2 : Nat) (Option.some Jvm.ClassFile.FieldType.boolean)) ∈ lw_all := lw_g (lw_at lw_m5 151 rfl) rfl
theorem q1412 : (Jvm.Cond.instantiable "Weaversgate$WithinPattern" (1 : Nat)) ∈ lw_all := lw_g (lw_at lw_m6 153 rfl) rfl
theorem q1414 : (Jvm.Cond.instanceMethod ({ cls := "Weaversgate$WithinPattern", name := "<init>", desc := "(I)V" } : Jvm.MethodName)) ∈ lw_all := lw_g (lw_at lw_m6 155 rfl) rfl
theorem q1415 : (Jvm.Cond.code ({ cls := "Weaversgate$WithinPattern", name := "<init>", desc := "(I)V" } : Jvm.MethodName) prog_22_method_1_code (2 : Nat) (Option.none : Option Jvm.ClassFile.FieldType)) ∈ lw_all := lw_g (lw_at lw_m6 156 rfl) rfl
theorem q1416 : (Jvm.Cond.methodLink "Weaversgate$WithinPattern" (1 : Nat) ({ cls := "java/lang/Object", name := "<init>", desc := "()V" } : Jvm.MethodName)) ∈ lw_all := lw_g (lw_at lw_m6 157 rfl) rfl
theorem q1417 : (Jvm.Cond.fieldLink "Weaversgate$WithinPattern" (7 : Nat) "Weaversgate$WithinPattern" "type" "I") ∈ lw_all := lw_g (lw_at lw_m6 158 rfl) rfl
theorem q1418 : (Jvm.Cond.laysFinal "Weaversgate$WithinPattern" "Weaversgate$WithinPattern" "type" "I") ∈ lw_all := lw_g (lw_at lw_m6 159 rfl) rfl
theorem q1419 : (Jvm.Cond.soleField "Weaversgate$WithinPattern" "type") ∈ lw_all := lw_g (lw_at lw_m6 160 rfl) rfl
theorem q1420 : (Jvm.Cond.superclass "Weaversgate$WithinPattern" "java/lang/Object") ∈ lw_all := lw_g (lw_at lw_m6 161 rfl) rfl
theorem q2052 : (Jvm.Cond.selects "Weaversgate$WithinPattern" ({ cls := "java/lang/Object", name := "equals", desc := "(Ljava/lang/Object;)Z" } : Jvm.MethodName) ({ cls := "java/lang/Object", name := "equals", desc := "(Ljava/lang/Object;)Z" } : Jvm.MethodName)) ∈ lw_all := lw_g (lw_at lw_m9 73 rfl) rfl
theorem q2616 : (Jvm.Cond.castable "Weaversgate$WithinPattern" "java/lang/Object") ∈ lw_tbl := lw_at lw_m11 157 rfl
theorem in_X11 : ∀ w ∈ wsX110, w ∈ lw_all := lw_in wsX110 [1418] (by decide +kernel) (by decide +kernel)

/-! Weaversgate$ValuePattern -/
set_option maxRecDepth 100000
def RX12 : String := "Weaversgate$ValuePattern"
def TX12 : u_T := fun k => match k with
  | _ => ("Weaversgate$ValuePattern", "least", "I", true)
def tyX12 : Nat → FieldType := fun k => match k with
  | _ => .int
abbrev wsX120 : List Cond := u_ws RX12 TX12 1
theorem nmX12 : ∀ a, a < 1 → ∀ b, b < 1 → a ≠ b → (TX12 a).2.1 ≠ (TX12 b).2.1 := by decide +kernel
theorem tyX12_ok : ∀ k, k < 1 → parseFieldDescriptor (TX12 k).2.2.1 = some (tyX12 k) := by decide +kernel
abbrev cX12_at : ByteArray := prog_21_method_3_code
def yX12_at : MethodName := ⟨RX12, "at", "(LWeaversgate$Place;)C"⟩
theorem dX12_at_0 : decode cX12_at 0 = .ok (.bipush 109, 2) := by decide +kernel
theorem dX12_at_2 : decode cX12_at 2 = .ok (.ireturn, 1) := by decide +kernel
abbrev cX12_holds : ByteArray := prog_21_method_2_code
def yX12_holds : MethodName := ⟨RX12, "holds", "(LWeaversgate$Point;)Z"⟩
def dkwX12_holds_0 : List UInt8 := [43, 180, 0, 13, 42, 180, 0, 7, 164, 0, 7, 4, 167, 0, 4, 3, 172]
abbrev dktX12_holds_0 : List UInt8 := dkwX12_holds_0 ++ []
theorem dksX12_holds_0 : cX12_holds.data.toList.drop 0 = dktX12_holds_0 := by decide +kernel
theorem dX12_holds_0 : decode cX12_holds 0 = .ok (.aload_n 1, 1) := dk_43 (dk_at dksX12_holds_0 0 rfl rfl)
theorem dX12_holds_1 : decode cX12_holds 1 = .ok (.getfield 13, 3) := dk_180 0 13 (dk_at dksX12_holds_0 1 rfl rfl)
theorem dX12_holds_4 : decode cX12_holds 4 = .ok (.aload_n 0, 1) := dk_42 (dk_at dksX12_holds_0 4 rfl rfl)
theorem dX12_holds_5 : decode cX12_holds 5 = .ok (.getfield 7, 3) := dk_180 0 7 (dk_at dksX12_holds_0 5 rfl rfl)
theorem dX12_holds_8 : decode cX12_holds 8 = .ok (.if_icmp .le 7, 3) := dk_164 0 7 (dk_at dksX12_holds_0 8 rfl rfl)
theorem dX12_holds_11 : decode cX12_holds 11 = .ok (.iconst 1, 1) := dk_4 (dk_at dksX12_holds_0 11 rfl rfl)
theorem dX12_holds_12 : decode cX12_holds 12 = .ok (.goto 4, 3) := dk_167 0 4 (dk_at dksX12_holds_0 12 rfl rfl)
theorem dX12_holds_15 : decode cX12_holds 15 = .ok (.iconst 0, 1) := dk_3 (dk_at dksX12_holds_0 15 rfl rfl)
theorem dX12_holds_16 : decode cX12_holds 16 = .ok (.ireturn, 1) := dk_172 (dk_at dksX12_holds_0 16 rfl rfl)
abbrev cX12_init : ByteArray := prog_21_method_1_code
def yX12_init : MethodName := ⟨RX12, "<init>", "(I)V"⟩
def dkwX12_init_0 : List UInt8 := [42, 183, 0, 1, 42, 27, 181, 0, 7, 177]
abbrev dktX12_init_0 : List UInt8 := dkwX12_init_0 ++ []
theorem dksX12_init_0 : cX12_init.data.toList.drop 0 = dktX12_init_0 := by decide +kernel
theorem dX12_init_0 : decode cX12_init 0 = .ok (.aload_n 0, 1) := dk_42 (dk_at dksX12_init_0 0 rfl rfl)
theorem dX12_init_1 : decode cX12_init 1 = .ok (.invokespecial 1, 3) := dk_183 0 1 (dk_at dksX12_init_0 1 rfl rfl)
theorem dX12_init_4 : decode cX12_init 4 = .ok (.aload_n 0, 1) := dk_42 (dk_at dksX12_init_0 4 rfl rfl)
theorem dX12_init_5 : decode cX12_init 5 = .ok (.iload_n 1, 1) := dk_27 (dk_at dksX12_init_0 5 rfl rfl)
theorem dX12_init_6 : decode cX12_init 6 = .ok (.putfield 7, 3) := dk_181 0 7 (dk_at dksX12_init_0 6 rfl rfl)
theorem dX12_init_9 : decode cX12_init 9 = .ok (.return_, 1) := dk_177 (dk_at dksX12_init_0 9 rfl rfl)
theorem q88 : (Jvm.Cond.initialized "Weaversgate$ValuePattern") ∈ lw_all := lw_g (lw_at lw_m1 29 rfl) rfl
theorem q792 : (Jvm.Cond.selects "Weaversgate$ValuePattern" ({ cls := "java/lang/Object", name := "getClass", desc := "()Ljava/lang/Class;" } : Jvm.MethodName) ({ cls := "java/lang/Object", name := "getClass", desc := "()Ljava/lang/Class;" } : Jvm.MethodName)) ∈ lw_all := lw_g (lw_at lw_m4 13 rfl) rfl
theorem q896 : (Jvm.Cond.castable "Weaversgate$ValuePattern" "Weaversgate$Pattern") ∈ lw_tbl := lw_at lw_m4 117 rfl
theorem q897 : (Jvm.Cond.selects "Weaversgate$ValuePattern" ({ cls := "Weaversgate$Pattern", name := "at", desc := "(LWeaversgate$Place;)C" } : Jvm.MethodName) ({ cls := "Weaversgate$ValuePattern", name := "at", desc := "(LWeaversgate$Place;)C" } : Jvm.MethodName)) ∈ lw_all := lw_g (lw_at lw_m4 118 rfl) rfl
theorem q898 : (Jvm.Cond.unhidden "Weaversgate$ValuePattern" "at" "(LWeaversgate$Place;)C") ∈ lw_tbl := lw_at lw_m4 119 rfl
theorem q899 : (Jvm.Cond.instanceMethod ({ cls := "Weaversgate$ValuePattern", name := "at", desc := "(LWeaversgate$Place;)C" } : Jvm.MethodName)) ∈ lw_all := lw_g (lw_at lw_m4 120 rfl) rfl
theorem q900 : (Jvm.Cond.publicMethod ({ cls := "Weaversgate$ValuePattern", name := "at", desc := "(LWeaversgate$Place;)C" } : Jvm.MethodName)) ∈ lw_tbl := lw_at lw_m4 121 rfl
theorem q901 : (Jvm.Cond.code ({ cls := "Weaversgate$ValuePattern", name := "at", desc := "(LWeaversgate$Place;)C" } : Jvm.MethodName) prog_21_method_3_code (2 : Nat) (Option.some Jvm.ClassFile.FieldType.char)) ∈ lw_all := lw_g (lw_at lw_m4 122 rfl) rfl
theorem q1068 : (Jvm.Cond.fieldLinkNest "Weaversgate$ValuePattern" (13 : Nat) "Weaversgate$Point" "value" "I" "Weaversgate") ∈ lw_tbl := lw_at lw_m5 49 rfl
theorem q1110 : (Jvm.Cond.unhidden "Weaversgate$ValuePattern" "isAsked" "(LWeaversgate$Place;)Z") ∈ lw_tbl := lw_at lw_m5 91 rfl
theorem q1161 : (Jvm.Cond.selects "Weaversgate$ValuePattern" ({ cls := "Weaversgate$Pattern", name := "holds", desc := "(LWeaversgate$Point;)Z" } : Jvm.MethodName) ({ cls := "Weaversgate$ValuePattern", name := "holds", desc := "(LWeaversgate$Point;)Z" } : Jvm.MethodName)) ∈ lw_all := lw_g (lw_at lw_m5 142 rfl) rfl
theorem q1162 : (Jvm.Cond.unhidden "Weaversgate$ValuePattern" "holds" "(LWeaversgate$Point;)Z") ∈ lw_tbl := lw_at lw_m5 143 rfl
theorem q1163 : (Jvm.Cond.instanceMethod ({ cls := "Weaversgate$ValuePattern", name := "holds", desc := "(LWeaversgate$Point;)Z" } : Jvm.MethodName)) ∈ lw_all := lw_g (lw_at lw_m5 144 rfl) rfl
theorem q1164 : (Jvm.Cond.publicMethod ({ cls := "Weaversgate$ValuePattern", name := "holds", desc := "(LWeaversgate$Point;)Z" } : Jvm.MethodName)) ∈ lw_tbl := lw_at lw_m5 145 rfl
theorem q1165 : (Jvm.Cond.code ({ cls := "Weaversgate$ValuePattern", name := "holds", desc := "(LWeaversgate$Point;)Z" } : Jvm.MethodName) prog_21_method_2_code (2 : Nat) (Option.some Jvm.ClassFile.FieldType.boolean)) ∈ lw_all := lw_g (lw_at lw_m5 146 rfl) rfl
theorem q1422 : (Jvm.Cond.instantiable "Weaversgate$ValuePattern" (1 : Nat)) ∈ lw_all := lw_g (lw_at lw_m6 163 rfl) rfl
theorem q1424 : (Jvm.Cond.instanceMethod ({ cls := "Weaversgate$ValuePattern", name := "<init>", desc := "(I)V" } : Jvm.MethodName)) ∈ lw_all := lw_g (lw_at lw_m6 165 rfl) rfl
theorem q1425 : (Jvm.Cond.code ({ cls := "Weaversgate$ValuePattern", name := "<init>", desc := "(I)V" } : Jvm.MethodName) prog_21_method_1_code (2 : Nat) (Option.none : Option Jvm.ClassFile.FieldType)) ∈ lw_all := lw_g (lw_at lw_m6 166 rfl) rfl
theorem q1426 : (Jvm.Cond.methodLink "Weaversgate$ValuePattern" (1 : Nat) ({ cls := "java/lang/Object", name := "<init>", desc := "()V" } : Jvm.MethodName)) ∈ lw_all := lw_g (lw_at lw_m6 167 rfl) rfl
theorem q1427 : (Jvm.Cond.fieldLink "Weaversgate$ValuePattern" (7 : Nat) "Weaversgate$ValuePattern" "least" "I") ∈ lw_all := lw_g (lw_at lw_m6 168 rfl) rfl
theorem q1428 : (Jvm.Cond.laysFinal "Weaversgate$ValuePattern" "Weaversgate$ValuePattern" "least" "I") ∈ lw_all := lw_g (lw_at lw_m6 169 rfl) rfl
theorem q1429 : (Jvm.Cond.soleField "Weaversgate$ValuePattern" "least") ∈ lw_all := lw_g (lw_at lw_m6 170 rfl) rfl
theorem q1430 : (Jvm.Cond.superclass "Weaversgate$ValuePattern" "java/lang/Object") ∈ lw_all := lw_g (lw_at lw_m6 171 rfl) rfl
theorem q2051 : (Jvm.Cond.selects "Weaversgate$ValuePattern" ({ cls := "java/lang/Object", name := "equals", desc := "(Ljava/lang/Object;)Z" } : Jvm.MethodName) ({ cls := "java/lang/Object", name := "equals", desc := "(Ljava/lang/Object;)Z" } : Jvm.MethodName)) ∈ lw_all := lw_g (lw_at lw_m9 72 rfl) rfl
theorem q2617 : (Jvm.Cond.castable "Weaversgate$ValuePattern" "java/lang/Object") ∈ lw_tbl := lw_at lw_m11 158 rfl
theorem in_X12 : ∀ w ∈ wsX120, w ∈ lw_all := lw_in wsX120 [1428] (by decide +kernel) (by decide +kernel)

/-! Weaversgate$FlowPattern -/
set_option maxRecDepth 100000
def RX13 : String := "Weaversgate$FlowPattern"
def TX13 : u_T := fun k => match k with
  | _ => ("Weaversgate$FlowPattern", "inner", "LWeaversgate$Pattern;", true)
def tyX13 : Nat → FieldType := fun k => match k with
  | _ => .object "Weaversgate$Pattern"
abbrev wsX130 : List Cond := u_ws RX13 TX13 1
theorem nmX13 : ∀ a, a < 1 → ∀ b, b < 1 → a ≠ b → (TX13 a).2.1 ≠ (TX13 b).2.1 := by decide +kernel
theorem tyX13_ok : ∀ k, k < 1 → parseFieldDescriptor (TX13 k).2.2.1 = some (tyX13 k) := by decide +kernel
abbrev cX13_at : ByteArray := prog_4_method_3_code
def yX13_at : MethodName := ⟨RX13, "at", "(LWeaversgate$Place;)C"⟩
def dkwX13_at_0 : List UInt8 := [42, 180, 0, 7, 43, 185, 0, 25, 2, 0, 16, 121, 160, 0, 8, 16, 121, 167, 0, 5, 16, 109, 172]
abbrev dktX13_at_0 : List UInt8 := dkwX13_at_0 ++ []
theorem dksX13_at_0 : cX13_at.data.toList.drop 0 = dktX13_at_0 := by decide +kernel
theorem dX13_at_0 : decode cX13_at 0 = .ok (.aload_n 0, 1) := dk_42 (dk_at dksX13_at_0 0 rfl rfl)
theorem dX13_at_1 : decode cX13_at 1 = .ok (.getfield 7, 3) := dk_180 0 7 (dk_at dksX13_at_0 1 rfl rfl)
theorem dX13_at_4 : decode cX13_at 4 = .ok (.aload_n 1, 1) := dk_43 (dk_at dksX13_at_0 4 rfl rfl)
theorem dX13_at_5 : decode cX13_at 5 = .ok (.invokeinterface 25 2, 5) := by decide +kernel
theorem dX13_at_10 : decode cX13_at 10 = .ok (.bipush 121, 2) := dk_16 121 (dk_at dksX13_at_0 10 rfl rfl)
theorem dX13_at_12 : decode cX13_at 12 = .ok (.if_icmp .ne 8, 3) := dk_160 0 8 (dk_at dksX13_at_0 12 rfl rfl)
theorem dX13_at_15 : decode cX13_at 15 = .ok (.bipush 121, 2) := dk_16 121 (dk_at dksX13_at_0 15 rfl rfl)
theorem dX13_at_17 : decode cX13_at 17 = .ok (.goto 5, 3) := dk_167 0 5 (dk_at dksX13_at_0 17 rfl rfl)
theorem dX13_at_20 : decode cX13_at 20 = .ok (.bipush 109, 2) := dk_16 109 (dk_at dksX13_at_0 20 rfl rfl)
theorem dX13_at_22 : decode cX13_at 22 = .ok (.ireturn, 1) := dk_172 (dk_at dksX13_at_0 22 rfl rfl)
abbrev cX13_holds : ByteArray := prog_4_method_2_code
def yX13_holds : MethodName := ⟨RX13, "holds", "(LWeaversgate$Point;)Z"⟩
def dkwX13_holds_1 : List UInt8 := [167, 255, 234, 44, 198, 0, 7, 4, 167, 0, 4, 3, 172]
abbrev dktX13_holds_1 : List UInt8 := dkwX13_holds_1 ++ []
def dkwX13_holds_0 : List UInt8 := [43, 77, 44, 198, 0, 24, 42, 180, 0, 7, 44, 185, 0, 13, 2, 0, 154, 0, 11, 44, 180, 0, 19, 77]
abbrev dktX13_holds_0 : List UInt8 := dkwX13_holds_0 ++ dktX13_holds_1
theorem dksX13_holds_0 : cX13_holds.data.toList.drop 0 = dktX13_holds_0 := by decide +kernel
theorem dksX13_holds_1 : cX13_holds.data.toList.drop 24 = dktX13_holds_1 := dk_seg dksX13_holds_0 24 rfl rfl
theorem dX13_holds_0 : decode cX13_holds 0 = .ok (.aload_n 1, 1) := dk_43 (dk_at dksX13_holds_0 0 rfl rfl)
theorem dX13_holds_1 : decode cX13_holds 1 = .ok (.astore_n 2, 1) := dk_77 (dk_at dksX13_holds_0 1 rfl rfl)
theorem dX13_holds_2 : decode cX13_holds 2 = .ok (.aload_n 2, 1) := dk_44 (dk_at dksX13_holds_0 2 rfl rfl)
theorem dX13_holds_3 : decode cX13_holds 3 = .ok (.ifnull 24, 3) := dk_198 0 24 (dk_at dksX13_holds_0 3 rfl rfl)
theorem dX13_holds_6 : decode cX13_holds 6 = .ok (.aload_n 0, 1) := dk_42 (dk_at dksX13_holds_0 6 rfl rfl)
theorem dX13_holds_7 : decode cX13_holds 7 = .ok (.getfield 7, 3) := dk_180 0 7 (dk_at dksX13_holds_0 7 rfl rfl)
theorem dX13_holds_10 : decode cX13_holds 10 = .ok (.aload_n 2, 1) := dk_44 (dk_at dksX13_holds_0 10 rfl rfl)
theorem dX13_holds_11 : decode cX13_holds 11 = .ok (.invokeinterface 13 2, 5) := by decide +kernel
theorem dX13_holds_16 : decode cX13_holds 16 = .ok (.ifCond .ne 11, 3) := dk_154 0 11 (dk_at dksX13_holds_0 16 rfl rfl)
theorem dX13_holds_19 : decode cX13_holds 19 = .ok (.aload_n 2, 1) := dk_44 (dk_at dksX13_holds_0 19 rfl rfl)
theorem dX13_holds_20 : decode cX13_holds 20 = .ok (.getfield 19, 3) := dk_180 0 19 (dk_at dksX13_holds_0 20 rfl rfl)
theorem dX13_holds_23 : decode cX13_holds 23 = .ok (.astore_n 2, 1) := dk_77 (dk_at dksX13_holds_0 23 rfl rfl)
theorem dX13_holds_24 : decode cX13_holds 24 = .ok (.goto (-22), 3) := dk_167 255 234 (dk_at dksX13_holds_1 0 rfl rfl)
theorem dX13_holds_27 : decode cX13_holds 27 = .ok (.aload_n 2, 1) := dk_44 (dk_at dksX13_holds_1 3 rfl rfl)
theorem dX13_holds_28 : decode cX13_holds 28 = .ok (.ifnull 7, 3) := dk_198 0 7 (dk_at dksX13_holds_1 4 rfl rfl)
theorem dX13_holds_31 : decode cX13_holds 31 = .ok (.iconst 1, 1) := dk_4 (dk_at dksX13_holds_1 7 rfl rfl)
theorem dX13_holds_32 : decode cX13_holds 32 = .ok (.goto 4, 3) := dk_167 0 4 (dk_at dksX13_holds_1 8 rfl rfl)
theorem dX13_holds_35 : decode cX13_holds 35 = .ok (.iconst 0, 1) := dk_3 (dk_at dksX13_holds_1 11 rfl rfl)
theorem dX13_holds_36 : decode cX13_holds 36 = .ok (.ireturn, 1) := dk_172 (dk_at dksX13_holds_1 12 rfl rfl)
abbrev cX13_init : ByteArray := prog_4_method_1_code
def yX13_init : MethodName := ⟨RX13, "<init>", "(LWeaversgate$Pattern;)V"⟩
def dkwX13_init_0 : List UInt8 := [42, 183, 0, 1, 42, 43, 181, 0, 7, 177]
abbrev dktX13_init_0 : List UInt8 := dkwX13_init_0 ++ []
theorem dksX13_init_0 : cX13_init.data.toList.drop 0 = dktX13_init_0 := by decide +kernel
theorem dX13_init_0 : decode cX13_init 0 = .ok (.aload_n 0, 1) := dk_42 (dk_at dksX13_init_0 0 rfl rfl)
theorem dX13_init_1 : decode cX13_init 1 = .ok (.invokespecial 1, 3) := dk_183 0 1 (dk_at dksX13_init_0 1 rfl rfl)
theorem dX13_init_4 : decode cX13_init 4 = .ok (.aload_n 0, 1) := dk_42 (dk_at dksX13_init_0 4 rfl rfl)
theorem dX13_init_5 : decode cX13_init 5 = .ok (.aload_n 1, 1) := dk_43 (dk_at dksX13_init_0 5 rfl rfl)
theorem dX13_init_6 : decode cX13_init 6 = .ok (.putfield 7, 3) := dk_181 0 7 (dk_at dksX13_init_0 6 rfl rfl)
theorem dX13_init_9 : decode cX13_init 9 = .ok (.return_, 1) := dk_177 (dk_at dksX13_init_0 9 rfl rfl)
theorem q89 : (Jvm.Cond.initialized "Weaversgate$FlowPattern") ∈ lw_all := lw_g (lw_at lw_m1 30 rfl) rfl
theorem q776 : (Jvm.Cond.selects "Weaversgate$FlowPattern" ({ cls := "java/lang/Object", name := "getClass", desc := "()Ljava/lang/Class;" } : Jvm.MethodName) ({ cls := "java/lang/Object", name := "getClass", desc := "()Ljava/lang/Class;" } : Jvm.MethodName)) ∈ lw_all := lw_g (lw_at lw_m3 237 rfl) rfl
theorem q834 : (Jvm.Cond.castable "Weaversgate$FlowPattern" "Weaversgate$Pattern") ∈ lw_tbl := lw_at lw_m4 55 rfl
theorem q835 : (Jvm.Cond.selects "Weaversgate$FlowPattern" ({ cls := "Weaversgate$Pattern", name := "at", desc := "(LWeaversgate$Place;)C" } : Jvm.MethodName) ({ cls := "Weaversgate$FlowPattern", name := "at", desc := "(LWeaversgate$Place;)C" } : Jvm.MethodName)) ∈ lw_all := lw_g (lw_at lw_m4 56 rfl) rfl
theorem q836 : (Jvm.Cond.unhidden "Weaversgate$FlowPattern" "at" "(LWeaversgate$Place;)C") ∈ lw_tbl := lw_at lw_m4 57 rfl
theorem q837 : (Jvm.Cond.instanceMethod ({ cls := "Weaversgate$FlowPattern", name := "at", desc := "(LWeaversgate$Place;)C" } : Jvm.MethodName)) ∈ lw_all := lw_g (lw_at lw_m4 58 rfl) rfl
theorem q838 : (Jvm.Cond.publicMethod ({ cls := "Weaversgate$FlowPattern", name := "at", desc := "(LWeaversgate$Place;)C" } : Jvm.MethodName)) ∈ lw_tbl := lw_at lw_m4 59 rfl
theorem q839 : (Jvm.Cond.code ({ cls := "Weaversgate$FlowPattern", name := "at", desc := "(LWeaversgate$Place;)C" } : Jvm.MethodName) prog_4_method_3_code (2 : Nat) (Option.some Jvm.ClassFile.FieldType.char)) ∈ lw_all := lw_g (lw_at lw_m4 60 rfl) rfl
theorem q840 : (Jvm.Cond.interfaceEntry "Weaversgate$FlowPattern" (25 : Nat)) ∈ lw_tbl := lw_at lw_m4 61 rfl
theorem q841 : (Jvm.Cond.methodLink "Weaversgate$FlowPattern" (25 : Nat) ({ cls := "Weaversgate$Pattern", name := "at", desc := "(LWeaversgate$Place;)C" } : Jvm.MethodName)) ∈ lw_all := lw_g (lw_at lw_m4 62 rfl) rfl
theorem q1070 : (Jvm.Cond.fieldLinkNest "Weaversgate$FlowPattern" (19 : Nat) "Weaversgate$Point" "outer" "LWeaversgate$Point;" "Weaversgate") ∈ lw_tbl := lw_at lw_m5 51 rfl
theorem q1098 : (Jvm.Cond.unhidden "Weaversgate$FlowPattern" "isAsked" "(LWeaversgate$Place;)Z") ∈ lw_tbl := lw_at lw_m5 79 rfl
theorem q1118 : (Jvm.Cond.selects "Weaversgate$FlowPattern" ({ cls := "Weaversgate$Pattern", name := "holds", desc := "(LWeaversgate$Point;)Z" } : Jvm.MethodName) ({ cls := "Weaversgate$FlowPattern", name := "holds", desc := "(LWeaversgate$Point;)Z" } : Jvm.MethodName)) ∈ lw_all := lw_g (lw_at lw_m5 99 rfl) rfl
theorem q1119 : (Jvm.Cond.unhidden "Weaversgate$FlowPattern" "holds" "(LWeaversgate$Point;)Z") ∈ lw_tbl := lw_at lw_m5 100 rfl
theorem q1120 : (Jvm.Cond.instanceMethod ({ cls := "Weaversgate$FlowPattern", name := "holds", desc := "(LWeaversgate$Point;)Z" } : Jvm.MethodName)) ∈ lw_all := lw_g (lw_at lw_m5 101 rfl) rfl
theorem q1121 : (Jvm.Cond.publicMethod ({ cls := "Weaversgate$FlowPattern", name := "holds", desc := "(LWeaversgate$Point;)Z" } : Jvm.MethodName)) ∈ lw_tbl := lw_at lw_m5 102 rfl
theorem q1122 : (Jvm.Cond.code ({ cls := "Weaversgate$FlowPattern", name := "holds", desc := "(LWeaversgate$Point;)Z" } : Jvm.MethodName) prog_4_method_2_code (3 : Nat) (Option.some Jvm.ClassFile.FieldType.boolean)) ∈ lw_all := lw_g (lw_at lw_m5 103 rfl) rfl
theorem q1123 : (Jvm.Cond.interfaceEntry "Weaversgate$FlowPattern" (13 : Nat)) ∈ lw_tbl := lw_at lw_m5 104 rfl
theorem q1124 : (Jvm.Cond.methodLink "Weaversgate$FlowPattern" (13 : Nat) ({ cls := "Weaversgate$Pattern", name := "holds", desc := "(LWeaversgate$Point;)Z" } : Jvm.MethodName)) ∈ lw_all := lw_g (lw_at lw_m5 105 rfl) rfl
theorem q1432 : (Jvm.Cond.instantiable "Weaversgate$FlowPattern" (1 : Nat)) ∈ lw_all := lw_g (lw_at lw_m6 173 rfl) rfl
theorem q1457 : (Jvm.Cond.instanceMethod ({ cls := "Weaversgate$FlowPattern", name := "<init>", desc := "(LWeaversgate$Pattern;)V" } : Jvm.MethodName)) ∈ lw_all := lw_g (lw_at lw_m6 198 rfl) rfl
theorem q1458 : (Jvm.Cond.code ({ cls := "Weaversgate$FlowPattern", name := "<init>", desc := "(LWeaversgate$Pattern;)V" } : Jvm.MethodName) prog_4_method_1_code (2 : Nat) (Option.none : Option Jvm.ClassFile.FieldType)) ∈ lw_all := lw_g (lw_at lw_m6 199 rfl) rfl
theorem q1459 : (Jvm.Cond.methodLink "Weaversgate$FlowPattern" (1 : Nat) ({ cls := "java/lang/Object", name := "<init>", desc := "()V" } : Jvm.MethodName)) ∈ lw_all := lw_g (lw_at lw_m6 200 rfl) rfl
theorem q1460 : (Jvm.Cond.fieldLink "Weaversgate$FlowPattern" (7 : Nat) "Weaversgate$FlowPattern" "inner" "LWeaversgate$Pattern;") ∈ lw_all := lw_g (lw_at lw_m6 201 rfl) rfl
theorem q1461 : (Jvm.Cond.laysFinal "Weaversgate$FlowPattern" "Weaversgate$FlowPattern" "inner" "LWeaversgate$Pattern;") ∈ lw_all := lw_g (lw_at lw_m6 202 rfl) rfl
theorem q1462 : (Jvm.Cond.soleField "Weaversgate$FlowPattern" "inner") ∈ lw_all := lw_g (lw_at lw_m6 203 rfl) rfl
theorem q1463 : (Jvm.Cond.superclass "Weaversgate$FlowPattern" "java/lang/Object") ∈ lw_all := lw_g (lw_at lw_m6 204 rfl) rfl
theorem q2035 : (Jvm.Cond.selects "Weaversgate$FlowPattern" ({ cls := "java/lang/Object", name := "equals", desc := "(Ljava/lang/Object;)Z" } : Jvm.MethodName) ({ cls := "java/lang/Object", name := "equals", desc := "(Ljava/lang/Object;)Z" } : Jvm.MethodName)) ∈ lw_all := lw_g (lw_at lw_m9 56 rfl) rfl
theorem q2618 : (Jvm.Cond.castable "Weaversgate$FlowPattern" "java/lang/Object") ∈ lw_tbl := lw_at lw_m11 159 rfl
theorem in_X13 : ∀ w ∈ wsX130, w ∈ lw_all := lw_in wsX130 [1461] (by decide +kernel) (by decide +kernel)

/-! Weaversgate$Pattern -/
set_option maxRecDepth 100000
def RX14 : String := "Weaversgate$Pattern"
abbrev cX14_sure : ByteArray := prog_9_method_4_code
def yX14_sure : MethodName := ⟨RX14, "sure", "(Z)C"⟩
def dkwX14_sure_0 : List UInt8 := [26, 153, 0, 8, 16, 121, 167, 0, 5, 16, 110, 172]
abbrev dktX14_sure_0 : List UInt8 := dkwX14_sure_0 ++ []
theorem dksX14_sure_0 : cX14_sure.data.toList.drop 0 = dktX14_sure_0 := by decide +kernel
theorem dX14_sure_0 : decode cX14_sure 0 = .ok (.iload_n 0, 1) := dk_26 (dk_at dksX14_sure_0 0 rfl rfl)
theorem dX14_sure_1 : decode cX14_sure 1 = .ok (.ifCond .eq 8, 3) := dk_153 0 8 (dk_at dksX14_sure_0 1 rfl rfl)
theorem dX14_sure_4 : decode cX14_sure 4 = .ok (.bipush 121, 2) := dk_16 121 (dk_at dksX14_sure_0 4 rfl rfl)
theorem dX14_sure_6 : decode cX14_sure 6 = .ok (.goto 5, 3) := dk_167 0 5 (dk_at dksX14_sure_0 6 rfl rfl)
theorem dX14_sure_9 : decode cX14_sure 9 = .ok (.bipush 110, 2) := dk_16 110 (dk_at dksX14_sure_0 9 rfl rfl)
theorem dX14_sure_11 : decode cX14_sure 11 = .ok (.ireturn, 1) := dk_172 (dk_at dksX14_sure_0 11 rfl rfl)
abbrev cX14_isAsked : ByteArray := prog_9_method_3_code
def yX14_isAsked : MethodName := ⟨RX14, "isAsked", "(LWeaversgate$Place;)Z"⟩
def dkwX14_isAsked_0 : List UInt8 := [43, 198, 0, 15, 42, 43, 185, 0, 1, 2, 0, 16, 109, 160, 0, 7, 4, 167, 0, 4, 3, 172]
abbrev dktX14_isAsked_0 : List UInt8 := dkwX14_isAsked_0 ++ []
theorem dksX14_isAsked_0 : cX14_isAsked.data.toList.drop 0 = dktX14_isAsked_0 := by decide +kernel
theorem dX14_isAsked_0 : decode cX14_isAsked 0 = .ok (.aload_n 1, 1) := dk_43 (dk_at dksX14_isAsked_0 0 rfl rfl)
theorem dX14_isAsked_1 : decode cX14_isAsked 1 = .ok (.ifnull 15, 3) := dk_198 0 15 (dk_at dksX14_isAsked_0 1 rfl rfl)
theorem dX14_isAsked_4 : decode cX14_isAsked 4 = .ok (.aload_n 0, 1) := dk_42 (dk_at dksX14_isAsked_0 4 rfl rfl)
theorem dX14_isAsked_5 : decode cX14_isAsked 5 = .ok (.aload_n 1, 1) := dk_43 (dk_at dksX14_isAsked_0 5 rfl rfl)
theorem dX14_isAsked_6 : decode cX14_isAsked 6 = .ok (.invokeinterface 1 2, 5) := by decide +kernel
theorem dX14_isAsked_11 : decode cX14_isAsked 11 = .ok (.bipush 109, 2) := dk_16 109 (dk_at dksX14_isAsked_0 11 rfl rfl)
theorem dX14_isAsked_13 : decode cX14_isAsked 13 = .ok (.if_icmp .ne 7, 3) := dk_160 0 7 (dk_at dksX14_isAsked_0 13 rfl rfl)
theorem dX14_isAsked_16 : decode cX14_isAsked 16 = .ok (.iconst 1, 1) := dk_4 (dk_at dksX14_isAsked_0 16 rfl rfl)
theorem dX14_isAsked_17 : decode cX14_isAsked 17 = .ok (.goto 4, 3) := dk_167 0 4 (dk_at dksX14_isAsked_0 17 rfl rfl)
theorem dX14_isAsked_20 : decode cX14_isAsked 20 = .ok (.iconst 0, 1) := dk_3 (dk_at dksX14_isAsked_0 20 rfl rfl)
theorem dX14_isAsked_21 : decode cX14_isAsked 21 = .ok (.ireturn, 1) := dk_172 (dk_at dksX14_isAsked_0 21 rfl rfl)
abbrev cX14_join : ByteArray := prog_9_method_6_code
def yX14_join : MethodName := ⟨RX14, "join", "(LWeaversgate$Pattern;LWeaversgate$Pattern;Z)LWeaversgate$Pattern;"⟩
def dkwX14_join_0 : List UInt8 := [28, 153, 0, 8, 16, 110, 167, 0, 5, 16, 121, 62, 187, 0, 13, 89, 28, 42, 43, 29, 183, 0, 15, 176]
abbrev dktX14_join_0 : List UInt8 := dkwX14_join_0 ++ []
theorem dksX14_join_0 : cX14_join.data.toList.drop 0 = dktX14_join_0 := by decide +kernel
theorem dX14_join_0 : decode cX14_join 0 = .ok (.iload_n 2, 1) := dk_28 (dk_at dksX14_join_0 0 rfl rfl)
theorem dX14_join_1 : decode cX14_join 1 = .ok (.ifCond .eq 8, 3) := dk_153 0 8 (dk_at dksX14_join_0 1 rfl rfl)
theorem dX14_join_4 : decode cX14_join 4 = .ok (.bipush 110, 2) := dk_16 110 (dk_at dksX14_join_0 4 rfl rfl)
theorem dX14_join_6 : decode cX14_join 6 = .ok (.goto 5, 3) := dk_167 0 5 (dk_at dksX14_join_0 6 rfl rfl)
theorem dX14_join_9 : decode cX14_join 9 = .ok (.bipush 121, 2) := dk_16 121 (dk_at dksX14_join_0 9 rfl rfl)
theorem dX14_join_11 : decode cX14_join 11 = .ok (.istore_n 3, 1) := dk_62 (dk_at dksX14_join_0 11 rfl rfl)
theorem dX14_join_12 : decode cX14_join 12 = .ok (.new 13, 3) := dk_187 0 13 (dk_at dksX14_join_0 12 rfl rfl)
theorem dX14_join_15 : decode cX14_join 15 = .ok (.dup, 1) := dk_89 (dk_at dksX14_join_0 15 rfl rfl)
theorem dX14_join_16 : decode cX14_join 16 = .ok (.iload_n 2, 1) := dk_28 (dk_at dksX14_join_0 16 rfl rfl)
theorem dX14_join_17 : decode cX14_join 17 = .ok (.aload_n 0, 1) := dk_42 (dk_at dksX14_join_0 17 rfl rfl)
theorem dX14_join_18 : decode cX14_join 18 = .ok (.aload_n 1, 1) := dk_43 (dk_at dksX14_join_0 18 rfl rfl)
theorem dX14_join_19 : decode cX14_join 19 = .ok (.iload_n 3, 1) := dk_29 (dk_at dksX14_join_0 19 rfl rfl)
theorem dX14_join_20 : decode cX14_join 20 = .ok (.invokespecial 15, 3) := dk_183 0 15 (dk_at dksX14_join_0 20 rfl rfl)
theorem dX14_join_23 : decode cX14_join 23 = .ok (.areturn, 1) := dk_176 (dk_at dksX14_join_0 23 rfl rfl)
abbrev cX14_not : ByteArray := prog_9_method_5_code
def yX14_not : MethodName := ⟨RX14, "not", "(LWeaversgate$Pattern;)LWeaversgate$Pattern;"⟩
def dkwX14_not_0 : List UInt8 := [187, 0, 7, 89, 42, 183, 0, 9, 176]
abbrev dktX14_not_0 : List UInt8 := dkwX14_not_0 ++ []
theorem dksX14_not_0 : cX14_not.data.toList.drop 0 = dktX14_not_0 := by decide +kernel
theorem dX14_not_0 : decode cX14_not 0 = .ok (.new 7, 3) := dk_187 0 7 (dk_at dksX14_not_0 0 rfl rfl)
theorem dX14_not_3 : decode cX14_not 3 = .ok (.dup, 1) := dk_89 (dk_at dksX14_not_0 3 rfl rfl)
theorem dX14_not_4 : decode cX14_not 4 = .ok (.aload_n 0, 1) := dk_42 (dk_at dksX14_not_0 4 rfl rfl)
theorem dX14_not_5 : decode cX14_not 5 = .ok (.invokespecial 9, 3) := dk_183 0 9 (dk_at dksX14_not_0 5 rfl rfl)
theorem dX14_not_8 : decode cX14_not 8 = .ok (.areturn, 1) := dk_176 (dk_at dksX14_not_0 8 rfl rfl)
theorem q91 : (Jvm.Cond.initialized "Weaversgate$Pattern") ∈ lw_all := lw_g (lw_at lw_m1 32 rfl) rfl
theorem q832 : (Jvm.Cond.interfaceMethod "Weaversgate$Pattern" "Weaversgate$Pattern" "at" "(LWeaversgate$Place;)C") ∈ lw_tbl := lw_at lw_m4 53 rfl
theorem q833 : (Jvm.Cond.declares ({ cls := "Weaversgate$Pattern", name := "at", desc := "(LWeaversgate$Place;)C" } : Jvm.MethodName)) ∈ lw_tbl := lw_at lw_m4 54 rfl
theorem q849 : (Jvm.Cond.static ({ cls := "Weaversgate$Pattern", name := "sure", desc := "(Z)C" } : Jvm.MethodName)) ∈ lw_all := lw_g (lw_at lw_m4 70 rfl) rfl
theorem q850 : (Jvm.Cond.code ({ cls := "Weaversgate$Pattern", name := "sure", desc := "(Z)C" } : Jvm.MethodName) prog_9_method_4_code (1 : Nat) (Option.some Jvm.ClassFile.FieldType.char)) ∈ lw_all := lw_g (lw_at lw_m4 71 rfl) rfl
theorem q1096 : (Jvm.Cond.interfaceMethod "Weaversgate$Pattern" "Weaversgate$Pattern" "isAsked" "(LWeaversgate$Place;)Z") ∈ lw_tbl := lw_at lw_m5 77 rfl
theorem q1097 : (Jvm.Cond.declares ({ cls := "Weaversgate$Pattern", name := "isAsked", desc := "(LWeaversgate$Place;)Z" } : Jvm.MethodName)) ∈ lw_tbl := lw_at lw_m5 78 rfl
theorem q1099 : (Jvm.Cond.instanceMethod ({ cls := "Weaversgate$Pattern", name := "isAsked", desc := "(LWeaversgate$Place;)Z" } : Jvm.MethodName)) ∈ lw_all := lw_g (lw_at lw_m5 80 rfl) rfl
theorem q1100 : (Jvm.Cond.publicMethod ({ cls := "Weaversgate$Pattern", name := "isAsked", desc := "(LWeaversgate$Place;)Z" } : Jvm.MethodName)) ∈ lw_tbl := lw_at lw_m5 81 rfl
theorem q1101 : (Jvm.Cond.code ({ cls := "Weaversgate$Pattern", name := "isAsked", desc := "(LWeaversgate$Place;)Z" } : Jvm.MethodName) prog_9_method_3_code (2 : Nat) (Option.some Jvm.ClassFile.FieldType.boolean)) ∈ lw_all := lw_g (lw_at lw_m5 82 rfl) rfl
theorem q1102 : (Jvm.Cond.interfaceEntry "Weaversgate$Pattern" (1 : Nat)) ∈ lw_tbl := lw_at lw_m5 83 rfl
theorem q1103 : (Jvm.Cond.methodLink "Weaversgate$Pattern" (1 : Nat) ({ cls := "Weaversgate$Pattern", name := "at", desc := "(LWeaversgate$Place;)C" } : Jvm.MethodName)) ∈ lw_all := lw_g (lw_at lw_m5 84 rfl) rfl
theorem q1116 : (Jvm.Cond.interfaceMethod "Weaversgate$Pattern" "Weaversgate$Pattern" "holds" "(LWeaversgate$Point;)Z") ∈ lw_tbl := lw_at lw_m5 97 rfl
theorem q1117 : (Jvm.Cond.declares ({ cls := "Weaversgate$Pattern", name := "holds", desc := "(LWeaversgate$Point;)Z" } : Jvm.MethodName)) ∈ lw_tbl := lw_at lw_m5 98 rfl
theorem q1465 : (Jvm.Cond.static ({ cls := "Weaversgate$Pattern", name := "join", desc := "(LWeaversgate$Pattern;LWeaversgate$Pattern;Z)LWeaversgate$Pattern;" } : Jvm.MethodName)) ∈ lw_all := lw_g (lw_at lw_m6 206 rfl) rfl
theorem q1466 : (Jvm.Cond.code ({ cls := "Weaversgate$Pattern", name := "join", desc := "(LWeaversgate$Pattern;LWeaversgate$Pattern;Z)LWeaversgate$Pattern;" } : Jvm.MethodName) prog_9_method_6_code (4 : Nat) (Option.some (Jvm.ClassFile.FieldType.object "Weaversgate$Pattern"))) ∈ lw_all := lw_g (lw_at lw_m6 207 rfl) rfl
theorem q1467 : (Jvm.Cond.classLink "Weaversgate$Pattern" (13 : Nat) "Weaversgate$Pattern$2") ∈ lw_all := lw_g (lw_at lw_m6 208 rfl) rfl
theorem q1469 : (Jvm.Cond.methodLink "Weaversgate$Pattern" (15 : Nat) ({ cls := "Weaversgate$Pattern$2", name := "<init>", desc := "(ZLWeaversgate$Pattern;LWeaversgate$Pattern;C)V" } : Jvm.MethodName)) ∈ lw_all := lw_g (lw_at lw_m6 210 rfl) rfl
theorem q1487 : (Jvm.Cond.static ({ cls := "Weaversgate$Pattern", name := "not", desc := "(LWeaversgate$Pattern;)LWeaversgate$Pattern;" } : Jvm.MethodName)) ∈ lw_all := lw_g (lw_at lw_m6 228 rfl) rfl
theorem q1488 : (Jvm.Cond.code ({ cls := "Weaversgate$Pattern", name := "not", desc := "(LWeaversgate$Pattern;)LWeaversgate$Pattern;" } : Jvm.MethodName) prog_9_method_5_code (1 : Nat) (Option.some (Jvm.ClassFile.FieldType.object "Weaversgate$Pattern"))) ∈ lw_all := lw_g (lw_at lw_m6 229 rfl) rfl
theorem q1489 : (Jvm.Cond.classLink "Weaversgate$Pattern" (7 : Nat) "Weaversgate$Pattern$1") ∈ lw_all := lw_g (lw_at lw_m6 230 rfl) rfl
theorem q1491 : (Jvm.Cond.methodLink "Weaversgate$Pattern" (9 : Nat) ({ cls := "Weaversgate$Pattern$1", name := "<init>", desc := "(LWeaversgate$Pattern;)V" } : Jvm.MethodName)) ∈ lw_all := lw_g (lw_at lw_m6 232 rfl) rfl

/-! Weaversgate$Pattern$2 -/
set_option maxRecDepth 100000
def RX15 : String := "Weaversgate$Pattern$2"
def TX15 : u_T := fun k => match k with
  | 0 => ("Weaversgate$Pattern$2", "val$isBoth", "Z", true)
  | 1 => ("Weaversgate$Pattern$2", "val$one", "LWeaversgate$Pattern;", true)
  | 2 => ("Weaversgate$Pattern$2", "val$other", "LWeaversgate$Pattern;", true)
  | _ => ("Weaversgate$Pattern$2", "val$strong", "C", true)
def tyX15 : Nat → FieldType := fun k => match k with
  | 0 => .boolean
  | 1 => .object "Weaversgate$Pattern"
  | 2 => .object "Weaversgate$Pattern"
  | _ => .char
abbrev wsX150 : List Cond := u_ws RX15 TX15 4
theorem nmX15 : ∀ a, a < 4 → ∀ b, b < 4 → a ≠ b → (TX15 a).2.1 ≠ (TX15 b).2.1 := by decide +kernel
theorem tyX15_ok : ∀ k, k < 4 → parseFieldDescriptor (TX15 k).2.2.1 = some (tyX15 k) := by decide +kernel
abbrev cX15_at : ByteArray := prog_11_method_3_code
def yX15_at : MethodName := ⟨RX15, "at", "(LWeaversgate$Place;)C"⟩
def dkwX15_at_2 : List UInt8 := [153, 0, 10, 42, 180, 0, 14, 167, 0, 14, 28, 29, 160, 0, 7, 28, 167, 0, 5, 16, 109, 172]
abbrev dktX15_at_2 : List UInt8 := dkwX15_at_2 ++ []
def dkwX15_at_1 : List UInt8 := [180, 0, 14, 159, 0, 11, 29, 42, 180, 0, 14, 160, 0, 7, 4, 167, 0, 4, 3, 54, 4, 21, 4]
abbrev dktX15_at_1 : List UInt8 := dkwX15_at_1 ++ dktX15_at_2
def dkwX15_at_0 : List UInt8 := [42, 180, 0, 7, 43, 185, 0, 30, 2, 0, 61, 42, 180, 0, 11, 43, 185, 0, 30, 2, 0, 62, 28, 42]
abbrev dktX15_at_0 : List UInt8 := dkwX15_at_0 ++ dktX15_at_1
theorem dksX15_at_0 : cX15_at.data.toList.drop 0 = dktX15_at_0 := by decide +kernel
theorem dksX15_at_1 : cX15_at.data.toList.drop 24 = dktX15_at_1 := dk_seg dksX15_at_0 24 rfl rfl
theorem dksX15_at_2 : cX15_at.data.toList.drop 47 = dktX15_at_2 := dk_seg dksX15_at_1 23 rfl rfl
theorem dX15_at_0 : decode cX15_at 0 = .ok (.aload_n 0, 1) := dk_42 (dk_at dksX15_at_0 0 rfl rfl)
theorem dX15_at_1 : decode cX15_at 1 = .ok (.getfield 7, 3) := dk_180 0 7 (dk_at dksX15_at_0 1 rfl rfl)
theorem dX15_at_4 : decode cX15_at 4 = .ok (.aload_n 1, 1) := dk_43 (dk_at dksX15_at_0 4 rfl rfl)
theorem dX15_at_5 : decode cX15_at 5 = .ok (.invokeinterface 30 2, 5) := by decide +kernel
theorem dX15_at_10 : decode cX15_at 10 = .ok (.istore_n 2, 1) := dk_61 (dk_at dksX15_at_0 10 rfl rfl)
theorem dX15_at_11 : decode cX15_at 11 = .ok (.aload_n 0, 1) := dk_42 (dk_at dksX15_at_0 11 rfl rfl)
theorem dX15_at_12 : decode cX15_at 12 = .ok (.getfield 11, 3) := dk_180 0 11 (dk_at dksX15_at_0 12 rfl rfl)
theorem dX15_at_15 : decode cX15_at 15 = .ok (.aload_n 1, 1) := dk_43 (dk_at dksX15_at_0 15 rfl rfl)
theorem dX15_at_16 : decode cX15_at 16 = .ok (.invokeinterface 30 2, 5) := by decide +kernel
theorem dX15_at_21 : decode cX15_at 21 = .ok (.istore_n 3, 1) := dk_62 (dk_at dksX15_at_0 21 rfl rfl)
theorem dX15_at_22 : decode cX15_at 22 = .ok (.iload_n 2, 1) := dk_28 (dk_at dksX15_at_0 22 rfl rfl)
theorem dX15_at_23 : decode cX15_at 23 = .ok (.aload_n 0, 1) := dk_42 (dk_at dksX15_at_0 23 rfl rfl)
theorem dX15_at_24 : decode cX15_at 24 = .ok (.getfield 14, 3) := dk_180 0 14 (dk_at dksX15_at_1 0 rfl rfl)
theorem dX15_at_27 : decode cX15_at 27 = .ok (.if_icmp .eq 11, 3) := dk_159 0 11 (dk_at dksX15_at_1 3 rfl rfl)
theorem dX15_at_30 : decode cX15_at 30 = .ok (.iload_n 3, 1) := dk_29 (dk_at dksX15_at_1 6 rfl rfl)
theorem dX15_at_31 : decode cX15_at 31 = .ok (.aload_n 0, 1) := dk_42 (dk_at dksX15_at_1 7 rfl rfl)
theorem dX15_at_32 : decode cX15_at 32 = .ok (.getfield 14, 3) := dk_180 0 14 (dk_at dksX15_at_1 8 rfl rfl)
theorem dX15_at_35 : decode cX15_at 35 = .ok (.if_icmp .ne 7, 3) := dk_160 0 7 (dk_at dksX15_at_1 11 rfl rfl)
theorem dX15_at_38 : decode cX15_at 38 = .ok (.iconst 1, 1) := dk_4 (dk_at dksX15_at_1 14 rfl rfl)
theorem dX15_at_39 : decode cX15_at 39 = .ok (.goto 4, 3) := dk_167 0 4 (dk_at dksX15_at_1 15 rfl rfl)
theorem dX15_at_42 : decode cX15_at 42 = .ok (.iconst 0, 1) := dk_3 (dk_at dksX15_at_1 18 rfl rfl)
theorem dX15_at_43 : decode cX15_at 43 = .ok (.istore 4, 2) := dk_54 4 (dk_at dksX15_at_1 19 rfl rfl)
theorem dX15_at_45 : decode cX15_at 45 = .ok (.iload 4, 2) := dk_21 4 (dk_at dksX15_at_1 21 rfl rfl)
theorem dX15_at_47 : decode cX15_at 47 = .ok (.ifCond .eq 10, 3) := dk_153 0 10 (dk_at dksX15_at_2 0 rfl rfl)
theorem dX15_at_50 : decode cX15_at 50 = .ok (.aload_n 0, 1) := dk_42 (dk_at dksX15_at_2 3 rfl rfl)
theorem dX15_at_51 : decode cX15_at 51 = .ok (.getfield 14, 3) := dk_180 0 14 (dk_at dksX15_at_2 4 rfl rfl)
theorem dX15_at_54 : decode cX15_at 54 = .ok (.goto 14, 3) := dk_167 0 14 (dk_at dksX15_at_2 7 rfl rfl)
theorem dX15_at_57 : decode cX15_at 57 = .ok (.iload_n 2, 1) := dk_28 (dk_at dksX15_at_2 10 rfl rfl)
theorem dX15_at_58 : decode cX15_at 58 = .ok (.iload_n 3, 1) := dk_29 (dk_at dksX15_at_2 11 rfl rfl)
theorem dX15_at_59 : decode cX15_at 59 = .ok (.if_icmp .ne 7, 3) := dk_160 0 7 (dk_at dksX15_at_2 12 rfl rfl)
theorem dX15_at_62 : decode cX15_at 62 = .ok (.iload_n 2, 1) := dk_28 (dk_at dksX15_at_2 15 rfl rfl)
theorem dX15_at_63 : decode cX15_at 63 = .ok (.goto 5, 3) := dk_167 0 5 (dk_at dksX15_at_2 16 rfl rfl)
theorem dX15_at_66 : decode cX15_at 66 = .ok (.bipush 109, 2) := dk_16 109 (dk_at dksX15_at_2 19 rfl rfl)
theorem dX15_at_68 : decode cX15_at 68 = .ok (.ireturn, 1) := dk_172 (dk_at dksX15_at_2 21 rfl rfl)
abbrev cX15_holds : ByteArray := prog_11_method_2_code
def yX15_holds : MethodName := ⟨RX15, "holds", "(LWeaversgate$Point;)Z"⟩
def dkwX15_holds_3 : List UInt8 := [167, 0, 4, 3, 172]
abbrev dktX15_holds_3 : List UInt8 := dkwX15_holds_3 ++ []
def dkwX15_holds_2 : List UInt8 := [185, 0, 24, 2, 0, 154, 0, 16, 42, 180, 0, 11, 43, 185, 0, 24, 2, 0, 153, 0, 7, 4]
abbrev dktX15_holds_2 : List UInt8 := dkwX15_holds_2 ++ dktX15_holds_3
def dkwX15_holds_1 : List UInt8 := [43, 185, 0, 24, 2, 0, 153, 0, 7, 4, 167, 0, 38, 3, 167, 0, 34, 42, 180, 0, 7, 43]
abbrev dktX15_holds_1 : List UInt8 := dkwX15_holds_1 ++ dktX15_holds_2
def dkwX15_holds_0 : List UInt8 := [42, 180, 0, 1, 153, 0, 37, 42, 180, 0, 7, 43, 185, 0, 24, 2, 0, 153, 0, 20, 42, 180, 0, 11]
abbrev dktX15_holds_0 : List UInt8 := dkwX15_holds_0 ++ dktX15_holds_1
theorem dksX15_holds_0 : cX15_holds.data.toList.drop 0 = dktX15_holds_0 := by decide +kernel
theorem dksX15_holds_1 : cX15_holds.data.toList.drop 24 = dktX15_holds_1 := dk_seg dksX15_holds_0 24 rfl rfl
theorem dksX15_holds_2 : cX15_holds.data.toList.drop 46 = dktX15_holds_2 := dk_seg dksX15_holds_1 22 rfl rfl
theorem dksX15_holds_3 : cX15_holds.data.toList.drop 68 = dktX15_holds_3 := dk_seg dksX15_holds_2 22 rfl rfl
theorem dX15_holds_0 : decode cX15_holds 0 = .ok (.aload_n 0, 1) := dk_42 (dk_at dksX15_holds_0 0 rfl rfl)
theorem dX15_holds_1 : decode cX15_holds 1 = .ok (.getfield 1, 3) := dk_180 0 1 (dk_at dksX15_holds_0 1 rfl rfl)
theorem dX15_holds_4 : decode cX15_holds 4 = .ok (.ifCond .eq 37, 3) := dk_153 0 37 (dk_at dksX15_holds_0 4 rfl rfl)
theorem dX15_holds_7 : decode cX15_holds 7 = .ok (.aload_n 0, 1) := dk_42 (dk_at dksX15_holds_0 7 rfl rfl)
theorem dX15_holds_8 : decode cX15_holds 8 = .ok (.getfield 7, 3) := dk_180 0 7 (dk_at dksX15_holds_0 8 rfl rfl)
theorem dX15_holds_11 : decode cX15_holds 11 = .ok (.aload_n 1, 1) := dk_43 (dk_at dksX15_holds_0 11 rfl rfl)
theorem dX15_holds_12 : decode cX15_holds 12 = .ok (.invokeinterface 24 2, 5) := by decide +kernel
theorem dX15_holds_17 : decode cX15_holds 17 = .ok (.ifCond .eq 20, 3) := dk_153 0 20 (dk_at dksX15_holds_0 17 rfl rfl)
theorem dX15_holds_20 : decode cX15_holds 20 = .ok (.aload_n 0, 1) := dk_42 (dk_at dksX15_holds_0 20 rfl rfl)
theorem dX15_holds_21 : decode cX15_holds 21 = .ok (.getfield 11, 3) := dk_180 0 11 (dk_at dksX15_holds_0 21 rfl rfl)
theorem dX15_holds_24 : decode cX15_holds 24 = .ok (.aload_n 1, 1) := dk_43 (dk_at dksX15_holds_1 0 rfl rfl)
theorem dX15_holds_25 : decode cX15_holds 25 = .ok (.invokeinterface 24 2, 5) := by decide +kernel
theorem dX15_holds_30 : decode cX15_holds 30 = .ok (.ifCond .eq 7, 3) := dk_153 0 7 (dk_at dksX15_holds_1 6 rfl rfl)
theorem dX15_holds_33 : decode cX15_holds 33 = .ok (.iconst 1, 1) := dk_4 (dk_at dksX15_holds_1 9 rfl rfl)
theorem dX15_holds_34 : decode cX15_holds 34 = .ok (.goto 38, 3) := dk_167 0 38 (dk_at dksX15_holds_1 10 rfl rfl)
theorem dX15_holds_37 : decode cX15_holds 37 = .ok (.iconst 0, 1) := dk_3 (dk_at dksX15_holds_1 13 rfl rfl)
theorem dX15_holds_38 : decode cX15_holds 38 = .ok (.goto 34, 3) := dk_167 0 34 (dk_at dksX15_holds_1 14 rfl rfl)
theorem dX15_holds_41 : decode cX15_holds 41 = .ok (.aload_n 0, 1) := dk_42 (dk_at dksX15_holds_1 17 rfl rfl)
theorem dX15_holds_42 : decode cX15_holds 42 = .ok (.getfield 7, 3) := dk_180 0 7 (dk_at dksX15_holds_1 18 rfl rfl)
theorem dX15_holds_45 : decode cX15_holds 45 = .ok (.aload_n 1, 1) := dk_43 (dk_at dksX15_holds_1 21 rfl rfl)
theorem dX15_holds_46 : decode cX15_holds 46 = .ok (.invokeinterface 24 2, 5) := by decide +kernel
theorem dX15_holds_51 : decode cX15_holds 51 = .ok (.ifCond .ne 16, 3) := dk_154 0 16 (dk_at dksX15_holds_2 5 rfl rfl)
theorem dX15_holds_54 : decode cX15_holds 54 = .ok (.aload_n 0, 1) := dk_42 (dk_at dksX15_holds_2 8 rfl rfl)
theorem dX15_holds_55 : decode cX15_holds 55 = .ok (.getfield 11, 3) := dk_180 0 11 (dk_at dksX15_holds_2 9 rfl rfl)
theorem dX15_holds_58 : decode cX15_holds 58 = .ok (.aload_n 1, 1) := dk_43 (dk_at dksX15_holds_2 12 rfl rfl)
theorem dX15_holds_59 : decode cX15_holds 59 = .ok (.invokeinterface 24 2, 5) := by decide +kernel
theorem dX15_holds_64 : decode cX15_holds 64 = .ok (.ifCond .eq 7, 3) := dk_153 0 7 (dk_at dksX15_holds_2 18 rfl rfl)
theorem dX15_holds_67 : decode cX15_holds 67 = .ok (.iconst 1, 1) := dk_4 (dk_at dksX15_holds_2 21 rfl rfl)
theorem dX15_holds_68 : decode cX15_holds 68 = .ok (.goto 4, 3) := dk_167 0 4 (dk_at dksX15_holds_3 0 rfl rfl)
theorem dX15_holds_71 : decode cX15_holds 71 = .ok (.iconst 0, 1) := dk_3 (dk_at dksX15_holds_3 3 rfl rfl)
theorem dX15_holds_72 : decode cX15_holds 72 = .ok (.ireturn, 1) := dk_172 (dk_at dksX15_holds_3 4 rfl rfl)
abbrev cX15_init : ByteArray := prog_11_method_1_code
def yX15_init : MethodName := ⟨RX15, "<init>", "(ZLWeaversgate$Pattern;LWeaversgate$Pattern;C)V"⟩
def dkwX15_init_1 : List UInt8 := [183, 0, 18, 177]
abbrev dktX15_init_1 : List UInt8 := dkwX15_init_1 ++ []
def dkwX15_init_0 : List UInt8 := [42, 27, 181, 0, 1, 42, 44, 181, 0, 7, 42, 45, 181, 0, 11, 42, 21, 4, 181, 0, 14, 42]
abbrev dktX15_init_0 : List UInt8 := dkwX15_init_0 ++ dktX15_init_1
theorem dksX15_init_0 : cX15_init.data.toList.drop 0 = dktX15_init_0 := by decide +kernel
theorem dksX15_init_1 : cX15_init.data.toList.drop 22 = dktX15_init_1 := dk_seg dksX15_init_0 22 rfl rfl
theorem dX15_init_0 : decode cX15_init 0 = .ok (.aload_n 0, 1) := dk_42 (dk_at dksX15_init_0 0 rfl rfl)
theorem dX15_init_1 : decode cX15_init 1 = .ok (.iload_n 1, 1) := dk_27 (dk_at dksX15_init_0 1 rfl rfl)
theorem dX15_init_2 : decode cX15_init 2 = .ok (.putfield 1, 3) := dk_181 0 1 (dk_at dksX15_init_0 2 rfl rfl)
theorem dX15_init_5 : decode cX15_init 5 = .ok (.aload_n 0, 1) := dk_42 (dk_at dksX15_init_0 5 rfl rfl)
theorem dX15_init_6 : decode cX15_init 6 = .ok (.aload_n 2, 1) := dk_44 (dk_at dksX15_init_0 6 rfl rfl)
theorem dX15_init_7 : decode cX15_init 7 = .ok (.putfield 7, 3) := dk_181 0 7 (dk_at dksX15_init_0 7 rfl rfl)
theorem dX15_init_10 : decode cX15_init 10 = .ok (.aload_n 0, 1) := dk_42 (dk_at dksX15_init_0 10 rfl rfl)
theorem dX15_init_11 : decode cX15_init 11 = .ok (.aload_n 3, 1) := dk_45 (dk_at dksX15_init_0 11 rfl rfl)
theorem dX15_init_12 : decode cX15_init 12 = .ok (.putfield 11, 3) := dk_181 0 11 (dk_at dksX15_init_0 12 rfl rfl)
theorem dX15_init_15 : decode cX15_init 15 = .ok (.aload_n 0, 1) := dk_42 (dk_at dksX15_init_0 15 rfl rfl)
theorem dX15_init_16 : decode cX15_init 16 = .ok (.iload 4, 2) := dk_21 4 (dk_at dksX15_init_0 16 rfl rfl)
theorem dX15_init_18 : decode cX15_init 18 = .ok (.putfield 14, 3) := dk_181 0 14 (dk_at dksX15_init_0 18 rfl rfl)
theorem dX15_init_21 : decode cX15_init 21 = .ok (.aload_n 0, 1) := dk_42 (dk_at dksX15_init_0 21 rfl rfl)
theorem dX15_init_22 : decode cX15_init 22 = .ok (.invokespecial 18, 3) := dk_183 0 18 (dk_at dksX15_init_1 0 rfl rfl)
theorem dX15_init_25 : decode cX15_init 25 = .ok (.return_, 1) := dk_177 (dk_at dksX15_init_1 3 rfl rfl)
theorem q92 : (Jvm.Cond.initialized "Weaversgate$Pattern$2") ∈ lw_all := lw_g (lw_at lw_m1 33 rfl) rfl
theorem q782 : (Jvm.Cond.selects "Weaversgate$Pattern$2" ({ cls := "java/lang/Object", name := "getClass", desc := "()Ljava/lang/Class;" } : Jvm.MethodName) ({ cls := "java/lang/Object", name := "getClass", desc := "()Ljava/lang/Class;" } : Jvm.MethodName)) ∈ lw_all := lw_g (lw_at lw_m4 3 rfl) rfl
theorem q874 : (Jvm.Cond.castable "Weaversgate$Pattern$2" "Weaversgate$Pattern") ∈ lw_tbl := lw_at lw_m4 95 rfl
theorem q875 : (Jvm.Cond.selects "Weaversgate$Pattern$2" ({ cls := "Weaversgate$Pattern", name := "at", desc := "(LWeaversgate$Place;)C" } : Jvm.MethodName) ({ cls := "Weaversgate$Pattern$2", name := "at", desc := "(LWeaversgate$Place;)C" } : Jvm.MethodName)) ∈ lw_all := lw_g (lw_at lw_m4 96 rfl) rfl
theorem q876 : (Jvm.Cond.unhidden "Weaversgate$Pattern$2" "at" "(LWeaversgate$Place;)C") ∈ lw_tbl := lw_at lw_m4 97 rfl
theorem q877 : (Jvm.Cond.instanceMethod ({ cls := "Weaversgate$Pattern$2", name := "at", desc := "(LWeaversgate$Place;)C" } : Jvm.MethodName)) ∈ lw_all := lw_g (lw_at lw_m4 98 rfl) rfl
theorem q878 : (Jvm.Cond.publicMethod ({ cls := "Weaversgate$Pattern$2", name := "at", desc := "(LWeaversgate$Place;)C" } : Jvm.MethodName)) ∈ lw_tbl := lw_at lw_m4 99 rfl
theorem q879 : (Jvm.Cond.code ({ cls := "Weaversgate$Pattern$2", name := "at", desc := "(LWeaversgate$Place;)C" } : Jvm.MethodName) prog_11_method_3_code (5 : Nat) (Option.some Jvm.ClassFile.FieldType.char)) ∈ lw_all := lw_g (lw_at lw_m4 100 rfl) rfl
theorem q880 : (Jvm.Cond.interfaceEntry "Weaversgate$Pattern$2" (30 : Nat)) ∈ lw_tbl := lw_at lw_m4 101 rfl
theorem q881 : (Jvm.Cond.methodLink "Weaversgate$Pattern$2" (30 : Nat) ({ cls := "Weaversgate$Pattern", name := "at", desc := "(LWeaversgate$Place;)C" } : Jvm.MethodName)) ∈ lw_all := lw_g (lw_at lw_m4 102 rfl) rfl
theorem q1108 : (Jvm.Cond.unhidden "Weaversgate$Pattern$2" "isAsked" "(LWeaversgate$Place;)Z") ∈ lw_tbl := lw_at lw_m5 89 rfl
theorem q1149 : (Jvm.Cond.selects "Weaversgate$Pattern$2" ({ cls := "Weaversgate$Pattern", name := "holds", desc := "(LWeaversgate$Point;)Z" } : Jvm.MethodName) ({ cls := "Weaversgate$Pattern$2", name := "holds", desc := "(LWeaversgate$Point;)Z" } : Jvm.MethodName)) ∈ lw_all := lw_g (lw_at lw_m5 130 rfl) rfl
theorem q1150 : (Jvm.Cond.unhidden "Weaversgate$Pattern$2" "holds" "(LWeaversgate$Point;)Z") ∈ lw_tbl := lw_at lw_m5 131 rfl
theorem q1151 : (Jvm.Cond.instanceMethod ({ cls := "Weaversgate$Pattern$2", name := "holds", desc := "(LWeaversgate$Point;)Z" } : Jvm.MethodName)) ∈ lw_all := lw_g (lw_at lw_m5 132 rfl) rfl
theorem q1152 : (Jvm.Cond.publicMethod ({ cls := "Weaversgate$Pattern$2", name := "holds", desc := "(LWeaversgate$Point;)Z" } : Jvm.MethodName)) ∈ lw_tbl := lw_at lw_m5 133 rfl
theorem q1153 : (Jvm.Cond.code ({ cls := "Weaversgate$Pattern$2", name := "holds", desc := "(LWeaversgate$Point;)Z" } : Jvm.MethodName) prog_11_method_2_code (2 : Nat) (Option.some Jvm.ClassFile.FieldType.boolean)) ∈ lw_all := lw_g (lw_at lw_m5 134 rfl) rfl
theorem q1154 : (Jvm.Cond.interfaceEntry "Weaversgate$Pattern$2" (24 : Nat)) ∈ lw_tbl := lw_at lw_m5 135 rfl
theorem q1155 : (Jvm.Cond.methodLink "Weaversgate$Pattern$2" (24 : Nat) ({ cls := "Weaversgate$Pattern", name := "holds", desc := "(LWeaversgate$Point;)Z" } : Jvm.MethodName)) ∈ lw_all := lw_g (lw_at lw_m5 136 rfl) rfl
theorem q1468 : (Jvm.Cond.instantiable "Weaversgate$Pattern$2" (4 : Nat)) ∈ lw_all := lw_g (lw_at lw_m6 209 rfl) rfl
theorem q1470 : (Jvm.Cond.instanceMethod ({ cls := "Weaversgate$Pattern$2", name := "<init>", desc := "(ZLWeaversgate$Pattern;LWeaversgate$Pattern;C)V" } : Jvm.MethodName)) ∈ lw_all := lw_g (lw_at lw_m6 211 rfl) rfl
theorem q1471 : (Jvm.Cond.code ({ cls := "Weaversgate$Pattern$2", name := "<init>", desc := "(ZLWeaversgate$Pattern;LWeaversgate$Pattern;C)V" } : Jvm.MethodName) prog_11_method_1_code (5 : Nat) (Option.none : Option Jvm.ClassFile.FieldType)) ∈ lw_all := lw_g (lw_at lw_m6 212 rfl) rfl
theorem q1472 : (Jvm.Cond.methodLink "Weaversgate$Pattern$2" (18 : Nat) ({ cls := "java/lang/Object", name := "<init>", desc := "()V" } : Jvm.MethodName)) ∈ lw_all := lw_g (lw_at lw_m6 213 rfl) rfl
theorem q1473 : (Jvm.Cond.fieldLink "Weaversgate$Pattern$2" (1 : Nat) "Weaversgate$Pattern$2" "val$isBoth" "Z") ∈ lw_all := lw_g (lw_at lw_m6 214 rfl) rfl
theorem q1474 : (Jvm.Cond.fieldLink "Weaversgate$Pattern$2" (7 : Nat) "Weaversgate$Pattern$2" "val$one" "LWeaversgate$Pattern;") ∈ lw_all := lw_g (lw_at lw_m6 215 rfl) rfl
theorem q1475 : (Jvm.Cond.fieldLink "Weaversgate$Pattern$2" (11 : Nat) "Weaversgate$Pattern$2" "val$other" "LWeaversgate$Pattern;") ∈ lw_all := lw_g (lw_at lw_m6 216 rfl) rfl
theorem q1476 : (Jvm.Cond.fieldLink "Weaversgate$Pattern$2" (14 : Nat) "Weaversgate$Pattern$2" "val$strong" "C") ∈ lw_all := lw_g (lw_at lw_m6 217 rfl) rfl
theorem q1477 : (Jvm.Cond.laysFinal "Weaversgate$Pattern$2" "Weaversgate$Pattern$2" "val$isBoth" "Z") ∈ lw_all := lw_g (lw_at lw_m6 218 rfl) rfl
theorem q1478 : (Jvm.Cond.soleField "Weaversgate$Pattern$2" "val$isBoth") ∈ lw_all := lw_g (lw_at lw_m6 219 rfl) rfl
theorem q1479 : (Jvm.Cond.laysFinal "Weaversgate$Pattern$2" "Weaversgate$Pattern$2" "val$one" "LWeaversgate$Pattern;") ∈ lw_all := lw_g (lw_at lw_m6 220 rfl) rfl
theorem q1480 : (Jvm.Cond.soleField "Weaversgate$Pattern$2" "val$one") ∈ lw_all := lw_g (lw_at lw_m6 221 rfl) rfl
theorem q1481 : (Jvm.Cond.laysFinal "Weaversgate$Pattern$2" "Weaversgate$Pattern$2" "val$other" "LWeaversgate$Pattern;") ∈ lw_all := lw_g (lw_at lw_m6 222 rfl) rfl
theorem q1482 : (Jvm.Cond.soleField "Weaversgate$Pattern$2" "val$other") ∈ lw_all := lw_g (lw_at lw_m6 223 rfl) rfl
theorem q1483 : (Jvm.Cond.laysFinal "Weaversgate$Pattern$2" "Weaversgate$Pattern$2" "val$strong" "C") ∈ lw_all := lw_g (lw_at lw_m6 224 rfl) rfl
theorem q1484 : (Jvm.Cond.soleField "Weaversgate$Pattern$2" "val$strong") ∈ lw_all := lw_g (lw_at lw_m6 225 rfl) rfl
theorem q1485 : (Jvm.Cond.superclass "Weaversgate$Pattern$2" "java/lang/Object") ∈ lw_all := lw_g (lw_at lw_m6 226 rfl) rfl
theorem q2041 : (Jvm.Cond.selects "Weaversgate$Pattern$2" ({ cls := "java/lang/Object", name := "equals", desc := "(Ljava/lang/Object;)Z" } : Jvm.MethodName) ({ cls := "java/lang/Object", name := "equals", desc := "(Ljava/lang/Object;)Z" } : Jvm.MethodName)) ∈ lw_all := lw_g (lw_at lw_m9 62 rfl) rfl
theorem q2620 : (Jvm.Cond.castable "Weaversgate$Pattern$2" "java/lang/Object") ∈ lw_tbl := lw_at lw_m11 161 rfl
theorem in_X15 : ∀ w ∈ wsX150, w ∈ lw_all := lw_in wsX150 [1477, 1479, 1481, 1483] (by decide +kernel) (by decide +kernel)

/-! Weaversgate$Pattern$1 -/
set_option maxRecDepth 100000
def RX16 : String := "Weaversgate$Pattern$1"
def TX16 : u_T := fun k => match k with
  | _ => ("Weaversgate$Pattern$1", "val$one", "LWeaversgate$Pattern;", true)
def tyX16 : Nat → FieldType := fun k => match k with
  | _ => .object "Weaversgate$Pattern"
abbrev wsX160 : List Cond := u_ws RX16 TX16 1
theorem nmX16 : ∀ a, a < 1 → ∀ b, b < 1 → a ≠ b → (TX16 a).2.1 ≠ (TX16 b).2.1 := by decide +kernel
theorem tyX16_ok : ∀ k, k < 1 → parseFieldDescriptor (TX16 k).2.2.1 = some (tyX16 k) := by decide +kernel
abbrev cX16_at : ByteArray := prog_10_method_3_code
def yX16_at : MethodName := ⟨RX16, "at", "(LWeaversgate$Place;)C"⟩
def dkwX16_at_1 : List UInt8 := [16, 110, 160, 0, 7, 4, 167, 0, 4, 3, 184, 0, 23, 172]
abbrev dktX16_at_1 : List UInt8 := dkwX16_at_1 ++ []
def dkwX16_at_0 : List UInt8 := [42, 180, 0, 1, 43, 185, 0, 19, 2, 0, 61, 28, 16, 109, 160, 0, 8, 16, 109, 167, 0, 17, 28]
abbrev dktX16_at_0 : List UInt8 := dkwX16_at_0 ++ dktX16_at_1
theorem dksX16_at_0 : cX16_at.data.toList.drop 0 = dktX16_at_0 := by decide +kernel
theorem dksX16_at_1 : cX16_at.data.toList.drop 23 = dktX16_at_1 := dk_seg dksX16_at_0 23 rfl rfl
theorem dX16_at_0 : decode cX16_at 0 = .ok (.aload_n 0, 1) := dk_42 (dk_at dksX16_at_0 0 rfl rfl)
theorem dX16_at_1 : decode cX16_at 1 = .ok (.getfield 1, 3) := dk_180 0 1 (dk_at dksX16_at_0 1 rfl rfl)
theorem dX16_at_4 : decode cX16_at 4 = .ok (.aload_n 1, 1) := dk_43 (dk_at dksX16_at_0 4 rfl rfl)
theorem dX16_at_5 : decode cX16_at 5 = .ok (.invokeinterface 19 2, 5) := by decide +kernel
theorem dX16_at_10 : decode cX16_at 10 = .ok (.istore_n 2, 1) := dk_61 (dk_at dksX16_at_0 10 rfl rfl)
theorem dX16_at_11 : decode cX16_at 11 = .ok (.iload_n 2, 1) := dk_28 (dk_at dksX16_at_0 11 rfl rfl)
theorem dX16_at_12 : decode cX16_at 12 = .ok (.bipush 109, 2) := dk_16 109 (dk_at dksX16_at_0 12 rfl rfl)
theorem dX16_at_14 : decode cX16_at 14 = .ok (.if_icmp .ne 8, 3) := dk_160 0 8 (dk_at dksX16_at_0 14 rfl rfl)
theorem dX16_at_17 : decode cX16_at 17 = .ok (.bipush 109, 2) := dk_16 109 (dk_at dksX16_at_0 17 rfl rfl)
theorem dX16_at_19 : decode cX16_at 19 = .ok (.goto 17, 3) := dk_167 0 17 (dk_at dksX16_at_0 19 rfl rfl)
theorem dX16_at_22 : decode cX16_at 22 = .ok (.iload_n 2, 1) := dk_28 (dk_at dksX16_at_0 22 rfl rfl)
theorem dX16_at_23 : decode cX16_at 23 = .ok (.bipush 110, 2) := dk_16 110 (dk_at dksX16_at_1 0 rfl rfl)
theorem dX16_at_25 : decode cX16_at 25 = .ok (.if_icmp .ne 7, 3) := dk_160 0 7 (dk_at dksX16_at_1 2 rfl rfl)
theorem dX16_at_28 : decode cX16_at 28 = .ok (.iconst 1, 1) := dk_4 (dk_at dksX16_at_1 5 rfl rfl)
theorem dX16_at_29 : decode cX16_at 29 = .ok (.goto 4, 3) := dk_167 0 4 (dk_at dksX16_at_1 6 rfl rfl)
theorem dX16_at_32 : decode cX16_at 32 = .ok (.iconst 0, 1) := dk_3 (dk_at dksX16_at_1 9 rfl rfl)
theorem dX16_at_33 : decode cX16_at 33 = .ok (.invokestatic 23, 3) := dk_184 0 23 (dk_at dksX16_at_1 10 rfl rfl)
theorem dX16_at_36 : decode cX16_at 36 = .ok (.ireturn, 1) := dk_172 (dk_at dksX16_at_1 13 rfl rfl)
abbrev cX16_holds : ByteArray := prog_10_method_2_code
def yX16_holds : MethodName := ⟨RX16, "holds", "(LWeaversgate$Point;)Z"⟩
def dkwX16_holds_0 : List UInt8 := [42, 180, 0, 1, 43, 185, 0, 13, 2, 0, 154, 0, 7, 4, 167, 0, 4, 3, 172]
abbrev dktX16_holds_0 : List UInt8 := dkwX16_holds_0 ++ []
theorem dksX16_holds_0 : cX16_holds.data.toList.drop 0 = dktX16_holds_0 := by decide +kernel
theorem dX16_holds_0 : decode cX16_holds 0 = .ok (.aload_n 0, 1) := dk_42 (dk_at dksX16_holds_0 0 rfl rfl)
theorem dX16_holds_1 : decode cX16_holds 1 = .ok (.getfield 1, 3) := dk_180 0 1 (dk_at dksX16_holds_0 1 rfl rfl)
theorem dX16_holds_4 : decode cX16_holds 4 = .ok (.aload_n 1, 1) := dk_43 (dk_at dksX16_holds_0 4 rfl rfl)
theorem dX16_holds_5 : decode cX16_holds 5 = .ok (.invokeinterface 13 2, 5) := by decide +kernel
theorem dX16_holds_10 : decode cX16_holds 10 = .ok (.ifCond .ne 7, 3) := dk_154 0 7 (dk_at dksX16_holds_0 10 rfl rfl)
theorem dX16_holds_13 : decode cX16_holds 13 = .ok (.iconst 1, 1) := dk_4 (dk_at dksX16_holds_0 13 rfl rfl)
theorem dX16_holds_14 : decode cX16_holds 14 = .ok (.goto 4, 3) := dk_167 0 4 (dk_at dksX16_holds_0 14 rfl rfl)
theorem dX16_holds_17 : decode cX16_holds 17 = .ok (.iconst 0, 1) := dk_3 (dk_at dksX16_holds_0 17 rfl rfl)
theorem dX16_holds_18 : decode cX16_holds 18 = .ok (.ireturn, 1) := dk_172 (dk_at dksX16_holds_0 18 rfl rfl)
abbrev cX16_init : ByteArray := prog_10_method_1_code
def yX16_init : MethodName := ⟨RX16, "<init>", "(LWeaversgate$Pattern;)V"⟩
def dkwX16_init_0 : List UInt8 := [42, 43, 181, 0, 1, 42, 183, 0, 7, 177]
abbrev dktX16_init_0 : List UInt8 := dkwX16_init_0 ++ []
theorem dksX16_init_0 : cX16_init.data.toList.drop 0 = dktX16_init_0 := by decide +kernel
theorem dX16_init_0 : decode cX16_init 0 = .ok (.aload_n 0, 1) := dk_42 (dk_at dksX16_init_0 0 rfl rfl)
theorem dX16_init_1 : decode cX16_init 1 = .ok (.aload_n 1, 1) := dk_43 (dk_at dksX16_init_0 1 rfl rfl)
theorem dX16_init_2 : decode cX16_init 2 = .ok (.putfield 1, 3) := dk_181 0 1 (dk_at dksX16_init_0 2 rfl rfl)
theorem dX16_init_5 : decode cX16_init 5 = .ok (.aload_n 0, 1) := dk_42 (dk_at dksX16_init_0 5 rfl rfl)
theorem dX16_init_6 : decode cX16_init 6 = .ok (.invokespecial 7, 3) := dk_183 0 7 (dk_at dksX16_init_0 6 rfl rfl)
theorem dX16_init_9 : decode cX16_init 9 = .ok (.return_, 1) := dk_177 (dk_at dksX16_init_0 9 rfl rfl)
theorem q93 : (Jvm.Cond.initialized "Weaversgate$Pattern$1") ∈ lw_all := lw_g (lw_at lw_m1 34 rfl) rfl
theorem q781 : (Jvm.Cond.selects "Weaversgate$Pattern$1" ({ cls := "java/lang/Object", name := "getClass", desc := "()Ljava/lang/Class;" } : Jvm.MethodName) ({ cls := "java/lang/Object", name := "getClass", desc := "()Ljava/lang/Class;" } : Jvm.MethodName)) ∈ lw_all := lw_g (lw_at lw_m4 2 rfl) rfl
theorem q866 : (Jvm.Cond.castable "Weaversgate$Pattern$1" "Weaversgate$Pattern") ∈ lw_tbl := lw_at lw_m4 87 rfl
theorem q867 : (Jvm.Cond.selects "Weaversgate$Pattern$1" ({ cls := "Weaversgate$Pattern", name := "at", desc := "(LWeaversgate$Place;)C" } : Jvm.MethodName) ({ cls := "Weaversgate$Pattern$1", name := "at", desc := "(LWeaversgate$Place;)C" } : Jvm.MethodName)) ∈ lw_all := lw_g (lw_at lw_m4 88 rfl) rfl
theorem q868 : (Jvm.Cond.unhidden "Weaversgate$Pattern$1" "at" "(LWeaversgate$Place;)C") ∈ lw_tbl := lw_at lw_m4 89 rfl
theorem q869 : (Jvm.Cond.instanceMethod ({ cls := "Weaversgate$Pattern$1", name := "at", desc := "(LWeaversgate$Place;)C" } : Jvm.MethodName)) ∈ lw_all := lw_g (lw_at lw_m4 90 rfl) rfl
theorem q870 : (Jvm.Cond.publicMethod ({ cls := "Weaversgate$Pattern$1", name := "at", desc := "(LWeaversgate$Place;)C" } : Jvm.MethodName)) ∈ lw_tbl := lw_at lw_m4 91 rfl
theorem q871 : (Jvm.Cond.code ({ cls := "Weaversgate$Pattern$1", name := "at", desc := "(LWeaversgate$Place;)C" } : Jvm.MethodName) prog_10_method_3_code (3 : Nat) (Option.some Jvm.ClassFile.FieldType.char)) ∈ lw_all := lw_g (lw_at lw_m4 92 rfl) rfl
theorem q872 : (Jvm.Cond.interfaceEntry "Weaversgate$Pattern$1" (19 : Nat)) ∈ lw_tbl := lw_at lw_m4 93 rfl
theorem q873 : (Jvm.Cond.methodLink "Weaversgate$Pattern$1" (19 : Nat) ({ cls := "Weaversgate$Pattern", name := "at", desc := "(LWeaversgate$Place;)C" } : Jvm.MethodName)) ∈ lw_all := lw_g (lw_at lw_m4 94 rfl) rfl
theorem q909 : (Jvm.Cond.methodLink "Weaversgate$Pattern$1" (23 : Nat) ({ cls := "Weaversgate$Pattern", name := "sure", desc := "(Z)C" } : Jvm.MethodName)) ∈ lw_all := lw_g (lw_at lw_m4 130 rfl) rfl
theorem q1107 : (Jvm.Cond.unhidden "Weaversgate$Pattern$1" "isAsked" "(LWeaversgate$Place;)Z") ∈ lw_tbl := lw_at lw_m5 88 rfl
theorem q1142 : (Jvm.Cond.selects "Weaversgate$Pattern$1" ({ cls := "Weaversgate$Pattern", name := "holds", desc := "(LWeaversgate$Point;)Z" } : Jvm.MethodName) ({ cls := "Weaversgate$Pattern$1", name := "holds", desc := "(LWeaversgate$Point;)Z" } : Jvm.MethodName)) ∈ lw_all := lw_g (lw_at lw_m5 123 rfl) rfl
theorem q1143 : (Jvm.Cond.unhidden "Weaversgate$Pattern$1" "holds" "(LWeaversgate$Point;)Z") ∈ lw_tbl := lw_at lw_m5 124 rfl
theorem q1144 : (Jvm.Cond.instanceMethod ({ cls := "Weaversgate$Pattern$1", name := "holds", desc := "(LWeaversgate$Point;)Z" } : Jvm.MethodName)) ∈ lw_all := lw_g (lw_at lw_m5 125 rfl) rfl
theorem q1145 : (Jvm.Cond.publicMethod ({ cls := "Weaversgate$Pattern$1", name := "holds", desc := "(LWeaversgate$Point;)Z" } : Jvm.MethodName)) ∈ lw_tbl := lw_at lw_m5 126 rfl
theorem q1146 : (Jvm.Cond.code ({ cls := "Weaversgate$Pattern$1", name := "holds", desc := "(LWeaversgate$Point;)Z" } : Jvm.MethodName) prog_10_method_2_code (2 : Nat) (Option.some Jvm.ClassFile.FieldType.boolean)) ∈ lw_all := lw_g (lw_at lw_m5 127 rfl) rfl
theorem q1147 : (Jvm.Cond.interfaceEntry "Weaversgate$Pattern$1" (13 : Nat)) ∈ lw_tbl := lw_at lw_m5 128 rfl
theorem q1148 : (Jvm.Cond.methodLink "Weaversgate$Pattern$1" (13 : Nat) ({ cls := "Weaversgate$Pattern", name := "holds", desc := "(LWeaversgate$Point;)Z" } : Jvm.MethodName)) ∈ lw_all := lw_g (lw_at lw_m5 129 rfl) rfl
theorem q1490 : (Jvm.Cond.instantiable "Weaversgate$Pattern$1" (1 : Nat)) ∈ lw_all := lw_g (lw_at lw_m6 231 rfl) rfl
theorem q1492 : (Jvm.Cond.instanceMethod ({ cls := "Weaversgate$Pattern$1", name := "<init>", desc := "(LWeaversgate$Pattern;)V" } : Jvm.MethodName)) ∈ lw_all := lw_g (lw_at lw_m6 233 rfl) rfl
theorem q1493 : (Jvm.Cond.code ({ cls := "Weaversgate$Pattern$1", name := "<init>", desc := "(LWeaversgate$Pattern;)V" } : Jvm.MethodName) prog_10_method_1_code (2 : Nat) (Option.none : Option Jvm.ClassFile.FieldType)) ∈ lw_all := lw_g (lw_at lw_m6 234 rfl) rfl
theorem q1494 : (Jvm.Cond.methodLink "Weaversgate$Pattern$1" (7 : Nat) ({ cls := "java/lang/Object", name := "<init>", desc := "()V" } : Jvm.MethodName)) ∈ lw_all := lw_g (lw_at lw_m6 235 rfl) rfl
theorem q1495 : (Jvm.Cond.fieldLink "Weaversgate$Pattern$1" (1 : Nat) "Weaversgate$Pattern$1" "val$one" "LWeaversgate$Pattern;") ∈ lw_all := lw_g (lw_at lw_m6 236 rfl) rfl
theorem q1496 : (Jvm.Cond.laysFinal "Weaversgate$Pattern$1" "Weaversgate$Pattern$1" "val$one" "LWeaversgate$Pattern;") ∈ lw_all := lw_g (lw_at lw_m6 237 rfl) rfl
theorem q1497 : (Jvm.Cond.soleField "Weaversgate$Pattern$1" "val$one") ∈ lw_all := lw_g (lw_at lw_m6 238 rfl) rfl
theorem q1498 : (Jvm.Cond.superclass "Weaversgate$Pattern$1" "java/lang/Object") ∈ lw_all := lw_g (lw_at lw_m6 239 rfl) rfl
theorem q2040 : (Jvm.Cond.selects "Weaversgate$Pattern$1" ({ cls := "java/lang/Object", name := "equals", desc := "(Ljava/lang/Object;)Z" } : Jvm.MethodName) ({ cls := "java/lang/Object", name := "equals", desc := "(Ljava/lang/Object;)Z" } : Jvm.MethodName)) ∈ lw_all := lw_g (lw_at lw_m9 61 rfl) rfl
theorem q2621 : (Jvm.Cond.castable "Weaversgate$Pattern$1" "java/lang/Object") ∈ lw_tbl := lw_at lw_m11 162 rfl
theorem in_X16 : ∀ w ∈ wsX160, w ∈ lw_all := lw_in wsX160 [1496] (by decide +kernel) (by decide +kernel)

/-! Weaversgate$KindPattern -/
set_option maxRecDepth 100000
def RX17 : String := "Weaversgate$KindPattern"
def TX17 : u_T := fun k => match k with
  | _ => ("Weaversgate$KindPattern", "kind", "C", true)
def tyX17 : Nat → FieldType := fun k => match k with
  | _ => .char
abbrev wsX170 : List Cond := u_ws RX17 TX17 1
theorem nmX17 : ∀ a, a < 1 → ∀ b, b < 1 → a ≠ b → (TX17 a).2.1 ≠ (TX17 b).2.1 := by decide +kernel
theorem tyX17_ok : ∀ k, k < 1 → parseFieldDescriptor (TX17 k).2.2.1 = some (tyX17 k) := by decide +kernel
abbrev cX17_at : ByteArray := prog_6_method_3_code
def yX17_at : MethodName := ⟨RX17, "at", "(LWeaversgate$Place;)C"⟩
def dkwX17_at_0 : List UInt8 := [43, 180, 0, 16, 42, 180, 0, 7, 160, 0, 7, 4, 167, 0, 4, 3, 184, 0, 19, 172]
abbrev dktX17_at_0 : List UInt8 := dkwX17_at_0 ++ []
theorem dksX17_at_0 : cX17_at.data.toList.drop 0 = dktX17_at_0 := by decide +kernel
theorem dX17_at_0 : decode cX17_at 0 = .ok (.aload_n 1, 1) := dk_43 (dk_at dksX17_at_0 0 rfl rfl)
theorem dX17_at_1 : decode cX17_at 1 = .ok (.getfield 16, 3) := dk_180 0 16 (dk_at dksX17_at_0 1 rfl rfl)
theorem dX17_at_4 : decode cX17_at 4 = .ok (.aload_n 0, 1) := dk_42 (dk_at dksX17_at_0 4 rfl rfl)
theorem dX17_at_5 : decode cX17_at 5 = .ok (.getfield 7, 3) := dk_180 0 7 (dk_at dksX17_at_0 5 rfl rfl)
theorem dX17_at_8 : decode cX17_at 8 = .ok (.if_icmp .ne 7, 3) := dk_160 0 7 (dk_at dksX17_at_0 8 rfl rfl)
theorem dX17_at_11 : decode cX17_at 11 = .ok (.iconst 1, 1) := dk_4 (dk_at dksX17_at_0 11 rfl rfl)
theorem dX17_at_12 : decode cX17_at 12 = .ok (.goto 4, 3) := dk_167 0 4 (dk_at dksX17_at_0 12 rfl rfl)
theorem dX17_at_15 : decode cX17_at 15 = .ok (.iconst 0, 1) := dk_3 (dk_at dksX17_at_0 15 rfl rfl)
theorem dX17_at_16 : decode cX17_at 16 = .ok (.invokestatic 19, 3) := dk_184 0 19 (dk_at dksX17_at_0 16 rfl rfl)
theorem dX17_at_19 : decode cX17_at 19 = .ok (.ireturn, 1) := dk_172 (dk_at dksX17_at_0 19 rfl rfl)
abbrev cX17_holds : ByteArray := prog_6_method_2_code
def yX17_holds : MethodName := ⟨RX17, "holds", "(LWeaversgate$Point;)Z"⟩
def dkwX17_holds_0 : List UInt8 := [43, 180, 0, 13, 42, 180, 0, 7, 160, 0, 7, 4, 167, 0, 4, 3, 172]
abbrev dktX17_holds_0 : List UInt8 := dkwX17_holds_0 ++ []
theorem dksX17_holds_0 : cX17_holds.data.toList.drop 0 = dktX17_holds_0 := by decide +kernel
theorem dX17_holds_0 : decode cX17_holds 0 = .ok (.aload_n 1, 1) := dk_43 (dk_at dksX17_holds_0 0 rfl rfl)
theorem dX17_holds_1 : decode cX17_holds 1 = .ok (.getfield 13, 3) := dk_180 0 13 (dk_at dksX17_holds_0 1 rfl rfl)
theorem dX17_holds_4 : decode cX17_holds 4 = .ok (.aload_n 0, 1) := dk_42 (dk_at dksX17_holds_0 4 rfl rfl)
theorem dX17_holds_5 : decode cX17_holds 5 = .ok (.getfield 7, 3) := dk_180 0 7 (dk_at dksX17_holds_0 5 rfl rfl)
theorem dX17_holds_8 : decode cX17_holds 8 = .ok (.if_icmp .ne 7, 3) := dk_160 0 7 (dk_at dksX17_holds_0 8 rfl rfl)
theorem dX17_holds_11 : decode cX17_holds 11 = .ok (.iconst 1, 1) := dk_4 (dk_at dksX17_holds_0 11 rfl rfl)
theorem dX17_holds_12 : decode cX17_holds 12 = .ok (.goto 4, 3) := dk_167 0 4 (dk_at dksX17_holds_0 12 rfl rfl)
theorem dX17_holds_15 : decode cX17_holds 15 = .ok (.iconst 0, 1) := dk_3 (dk_at dksX17_holds_0 15 rfl rfl)
theorem dX17_holds_16 : decode cX17_holds 16 = .ok (.ireturn, 1) := dk_172 (dk_at dksX17_holds_0 16 rfl rfl)
abbrev cX17_init : ByteArray := prog_6_method_1_code
def yX17_init : MethodName := ⟨RX17, "<init>", "(C)V"⟩
def dkwX17_init_0 : List UInt8 := [42, 183, 0, 1, 42, 27, 181, 0, 7, 177]
abbrev dktX17_init_0 : List UInt8 := dkwX17_init_0 ++ []
theorem dksX17_init_0 : cX17_init.data.toList.drop 0 = dktX17_init_0 := by decide +kernel
theorem dX17_init_0 : decode cX17_init 0 = .ok (.aload_n 0, 1) := dk_42 (dk_at dksX17_init_0 0 rfl rfl)
theorem dX17_init_1 : decode cX17_init 1 = .ok (.invokespecial 1, 3) := dk_183 0 1 (dk_at dksX17_init_0 1 rfl rfl)
theorem dX17_init_4 : decode cX17_init 4 = .ok (.aload_n 0, 1) := dk_42 (dk_at dksX17_init_0 4 rfl rfl)
theorem dX17_init_5 : decode cX17_init 5 = .ok (.iload_n 1, 1) := dk_27 (dk_at dksX17_init_0 5 rfl rfl)
theorem dX17_init_6 : decode cX17_init 6 = .ok (.putfield 7, 3) := dk_181 0 7 (dk_at dksX17_init_0 6 rfl rfl)
theorem dX17_init_9 : decode cX17_init 9 = .ok (.return_, 1) := dk_177 (dk_at dksX17_init_0 9 rfl rfl)
theorem q94 : (Jvm.Cond.initialized "Weaversgate$KindPattern") ∈ lw_all := lw_g (lw_at lw_m1 35 rfl) rfl
theorem q725 : (Jvm.Cond.fieldLinkNest "Weaversgate$KindPattern" (16 : Nat) "Weaversgate$Place" "kind" "C" "Weaversgate") ∈ lw_tbl := lw_at lw_m3 186 rfl
theorem q778 : (Jvm.Cond.selects "Weaversgate$KindPattern" ({ cls := "java/lang/Object", name := "getClass", desc := "()Ljava/lang/Class;" } : Jvm.MethodName) ({ cls := "java/lang/Object", name := "getClass", desc := "()Ljava/lang/Class;" } : Jvm.MethodName)) ∈ lw_all := lw_g (lw_at lw_m3 239 rfl) rfl
theorem q842 : (Jvm.Cond.castable "Weaversgate$KindPattern" "Weaversgate$Pattern") ∈ lw_tbl := lw_at lw_m4 63 rfl
theorem q843 : (Jvm.Cond.selects "Weaversgate$KindPattern" ({ cls := "Weaversgate$Pattern", name := "at", desc := "(LWeaversgate$Place;)C" } : Jvm.MethodName) ({ cls := "Weaversgate$KindPattern", name := "at", desc := "(LWeaversgate$Place;)C" } : Jvm.MethodName)) ∈ lw_all := lw_g (lw_at lw_m4 64 rfl) rfl
theorem q844 : (Jvm.Cond.unhidden "Weaversgate$KindPattern" "at" "(LWeaversgate$Place;)C") ∈ lw_tbl := lw_at lw_m4 65 rfl
theorem q845 : (Jvm.Cond.instanceMethod ({ cls := "Weaversgate$KindPattern", name := "at", desc := "(LWeaversgate$Place;)C" } : Jvm.MethodName)) ∈ lw_all := lw_g (lw_at lw_m4 66 rfl) rfl
theorem q846 : (Jvm.Cond.publicMethod ({ cls := "Weaversgate$KindPattern", name := "at", desc := "(LWeaversgate$Place;)C" } : Jvm.MethodName)) ∈ lw_tbl := lw_at lw_m4 67 rfl
theorem q847 : (Jvm.Cond.code ({ cls := "Weaversgate$KindPattern", name := "at", desc := "(LWeaversgate$Place;)C" } : Jvm.MethodName) prog_6_method_3_code (2 : Nat) (Option.some Jvm.ClassFile.FieldType.char)) ∈ lw_all := lw_g (lw_at lw_m4 68 rfl) rfl
theorem q848 : (Jvm.Cond.methodLink "Weaversgate$KindPattern" (19 : Nat) ({ cls := "Weaversgate$Pattern", name := "sure", desc := "(Z)C" } : Jvm.MethodName)) ∈ lw_all := lw_g (lw_at lw_m4 69 rfl) rfl
theorem q1060 : (Jvm.Cond.fieldLinkNest "Weaversgate$KindPattern" (13 : Nat) "Weaversgate$Point" "kind" "C" "Weaversgate") ∈ lw_tbl := lw_at lw_m5 41 rfl
theorem q1104 : (Jvm.Cond.unhidden "Weaversgate$KindPattern" "isAsked" "(LWeaversgate$Place;)Z") ∈ lw_tbl := lw_at lw_m5 85 rfl
theorem q1125 : (Jvm.Cond.selects "Weaversgate$KindPattern" ({ cls := "Weaversgate$Pattern", name := "holds", desc := "(LWeaversgate$Point;)Z" } : Jvm.MethodName) ({ cls := "Weaversgate$KindPattern", name := "holds", desc := "(LWeaversgate$Point;)Z" } : Jvm.MethodName)) ∈ lw_all := lw_g (lw_at lw_m5 106 rfl) rfl
theorem q1126 : (Jvm.Cond.unhidden "Weaversgate$KindPattern" "holds" "(LWeaversgate$Point;)Z") ∈ lw_tbl := lw_at lw_m5 107 rfl
theorem q1127 : (Jvm.Cond.instanceMethod ({ cls := "Weaversgate$KindPattern", name := "holds", desc := "(LWeaversgate$Point;)Z" } : Jvm.MethodName)) ∈ lw_all := lw_g (lw_at lw_m5 108 rfl) rfl
theorem q1128 : (Jvm.Cond.publicMethod ({ cls := "Weaversgate$KindPattern", name := "holds", desc := "(LWeaversgate$Point;)Z" } : Jvm.MethodName)) ∈ lw_tbl := lw_at lw_m5 109 rfl
theorem q1129 : (Jvm.Cond.code ({ cls := "Weaversgate$KindPattern", name := "holds", desc := "(LWeaversgate$Point;)Z" } : Jvm.MethodName) prog_6_method_2_code (2 : Nat) (Option.some Jvm.ClassFile.FieldType.boolean)) ∈ lw_all := lw_g (lw_at lw_m5 110 rfl) rfl
theorem q1500 : (Jvm.Cond.instantiable "Weaversgate$KindPattern" (1 : Nat)) ∈ lw_all := lw_g (lw_at lw_m7 1 rfl) rfl
theorem q1502 : (Jvm.Cond.instanceMethod ({ cls := "Weaversgate$KindPattern", name := "<init>", desc := "(C)V" } : Jvm.MethodName)) ∈ lw_all := lw_g (lw_at lw_m7 3 rfl) rfl
theorem q1503 : (Jvm.Cond.code ({ cls := "Weaversgate$KindPattern", name := "<init>", desc := "(C)V" } : Jvm.MethodName) prog_6_method_1_code (2 : Nat) (Option.none : Option Jvm.ClassFile.FieldType)) ∈ lw_all := lw_g (lw_at lw_m7 4 rfl) rfl
theorem q1504 : (Jvm.Cond.methodLink "Weaversgate$KindPattern" (1 : Nat) ({ cls := "java/lang/Object", name := "<init>", desc := "()V" } : Jvm.MethodName)) ∈ lw_all := lw_g (lw_at lw_m7 5 rfl) rfl
theorem q1505 : (Jvm.Cond.fieldLink "Weaversgate$KindPattern" (7 : Nat) "Weaversgate$KindPattern" "kind" "C") ∈ lw_all := lw_g (lw_at lw_m7 6 rfl) rfl
theorem q1506 : (Jvm.Cond.laysFinal "Weaversgate$KindPattern" "Weaversgate$KindPattern" "kind" "C") ∈ lw_all := lw_g (lw_at lw_m7 7 rfl) rfl
theorem q1507 : (Jvm.Cond.soleField "Weaversgate$KindPattern" "kind") ∈ lw_all := lw_g (lw_at lw_m7 8 rfl) rfl
theorem q1508 : (Jvm.Cond.superclass "Weaversgate$KindPattern" "java/lang/Object") ∈ lw_all := lw_g (lw_at lw_m7 9 rfl) rfl
theorem q2037 : (Jvm.Cond.selects "Weaversgate$KindPattern" ({ cls := "java/lang/Object", name := "equals", desc := "(Ljava/lang/Object;)Z" } : Jvm.MethodName) ({ cls := "java/lang/Object", name := "equals", desc := "(Ljava/lang/Object;)Z" } : Jvm.MethodName)) ∈ lw_all := lw_g (lw_at lw_m9 58 rfl) rfl
theorem q2622 : (Jvm.Cond.castable "Weaversgate$KindPattern" "java/lang/Object") ∈ lw_tbl := lw_at lw_m11 163 rfl
theorem in_X17 : ∀ w ∈ wsX170, w ∈ lw_all := lw_in wsX170 [1506] (by decide +kernel) (by decide +kernel)

/-! Weaversgate$NumberedPattern -/
set_option maxRecDepth 100000
def RX18 : String := "Weaversgate$NumberedPattern"
def TX18 : u_T := fun k => match k with
  | 0 => ("Weaversgate$NumberedPattern", "inner", "LWeaversgate$Pattern;", true)
  | _ => ("Weaversgate$NumberedPattern", "bit", "I", true)
def tyX18 : Nat → FieldType := fun k => match k with
  | 0 => .object "Weaversgate$Pattern"
  | _ => .int
abbrev wsX180 : List Cond := u_ws RX18 TX18 2
theorem nmX18 : ∀ a, a < 2 → ∀ b, b < 2 → a ≠ b → (TX18 a).2.1 ≠ (TX18 b).2.1 := by decide +kernel
theorem tyX18_ok : ∀ k, k < 2 → parseFieldDescriptor (TX18 k).2.2.1 = some (tyX18 k) := by decide +kernel
abbrev cX18_at : ByteArray := prog_8_method_3_code
def yX18_at : MethodName := ⟨RX18, "at", "(LWeaversgate$Place;)C"⟩
def dkwX18_at_5 : List UInt8 := [172]
abbrev dktX18_at_5 : List UInt8 := dkwX18_at_5 ++ []
def dkwX18_at_4 : List UInt8 := [16, 121, 167, 0, 22, 43, 180, 0, 41, 42, 180, 0, 13, 126, 153, 0, 8, 16, 110, 167, 0, 5, 16, 109]
abbrev dktX18_at_4 : List UInt8 := dkwX18_at_4 ++ dktX18_at_5
def dkwX18_at_3 : List UInt8 := [180, 0, 13, 167, 0, 4, 3, 128, 181, 0, 41, 43, 180, 0, 38, 42, 180, 0, 13, 126, 153, 0, 8]
abbrev dktX18_at_3 : List UInt8 := dkwX18_at_3 ++ dktX18_at_4
def dkwX18_at_2 : List UInt8 := [180, 0, 13, 167, 0, 4, 3, 128, 181, 0, 38, 43, 89, 180, 0, 41, 28, 16, 110, 160, 0, 10, 42]
abbrev dktX18_at_2 : List UInt8 := dkwX18_at_2 ++ dktX18_at_3
def dkwX18_at_1 : List UInt8 := [89, 180, 0, 31, 42, 180, 0, 13, 128, 181, 0, 31, 43, 89, 180, 0, 38, 28, 16, 121, 160, 0, 10, 42]
abbrev dktX18_at_1 : List UInt8 := dkwX18_at_1 ++ dktX18_at_2
def dkwX18_at_0 : List UInt8 := [43, 180, 0, 31, 42, 180, 0, 13, 126, 154, 0, 73, 42, 180, 0, 7, 43, 185, 0, 34, 2, 0, 61, 43]
abbrev dktX18_at_0 : List UInt8 := dkwX18_at_0 ++ dktX18_at_1
theorem dksX18_at_0 : cX18_at.data.toList.drop 0 = dktX18_at_0 := by decide +kernel
theorem dksX18_at_1 : cX18_at.data.toList.drop 24 = dktX18_at_1 := dk_seg dksX18_at_0 24 rfl rfl
theorem dksX18_at_2 : cX18_at.data.toList.drop 48 = dktX18_at_2 := dk_seg dksX18_at_1 24 rfl rfl
theorem dksX18_at_3 : cX18_at.data.toList.drop 71 = dktX18_at_3 := dk_seg dksX18_at_2 23 rfl rfl
theorem dksX18_at_4 : cX18_at.data.toList.drop 94 = dktX18_at_4 := dk_seg dksX18_at_3 23 rfl rfl
theorem dksX18_at_5 : cX18_at.data.toList.drop 118 = dktX18_at_5 := dk_seg dksX18_at_4 24 rfl rfl
theorem dX18_at_0 : decode cX18_at 0 = .ok (.aload_n 1, 1) := dk_43 (dk_at dksX18_at_0 0 rfl rfl)
theorem dX18_at_1 : decode cX18_at 1 = .ok (.getfield 31, 3) := dk_180 0 31 (dk_at dksX18_at_0 1 rfl rfl)
theorem dX18_at_4 : decode cX18_at 4 = .ok (.aload_n 0, 1) := dk_42 (dk_at dksX18_at_0 4 rfl rfl)
theorem dX18_at_5 : decode cX18_at 5 = .ok (.getfield 13, 3) := dk_180 0 13 (dk_at dksX18_at_0 5 rfl rfl)
theorem dX18_at_8 : decode cX18_at 8 = .ok (.iand, 1) := dk_126 (dk_at dksX18_at_0 8 rfl rfl)
theorem dX18_at_9 : decode cX18_at 9 = .ok (.ifCond .ne 73, 3) := dk_154 0 73 (dk_at dksX18_at_0 9 rfl rfl)
theorem dX18_at_12 : decode cX18_at 12 = .ok (.aload_n 0, 1) := dk_42 (dk_at dksX18_at_0 12 rfl rfl)
theorem dX18_at_13 : decode cX18_at 13 = .ok (.getfield 7, 3) := dk_180 0 7 (dk_at dksX18_at_0 13 rfl rfl)
theorem dX18_at_16 : decode cX18_at 16 = .ok (.aload_n 1, 1) := dk_43 (dk_at dksX18_at_0 16 rfl rfl)
theorem dX18_at_17 : decode cX18_at 17 = .ok (.invokeinterface 34 2, 5) := by decide +kernel
theorem dX18_at_22 : decode cX18_at 22 = .ok (.istore_n 2, 1) := dk_61 (dk_at dksX18_at_0 22 rfl rfl)
theorem dX18_at_23 : decode cX18_at 23 = .ok (.aload_n 1, 1) := dk_43 (dk_at dksX18_at_0 23 rfl rfl)
theorem dX18_at_24 : decode cX18_at 24 = .ok (.dup, 1) := dk_89 (dk_at dksX18_at_1 0 rfl rfl)
theorem dX18_at_25 : decode cX18_at 25 = .ok (.getfield 31, 3) := dk_180 0 31 (dk_at dksX18_at_1 1 rfl rfl)
theorem dX18_at_28 : decode cX18_at 28 = .ok (.aload_n 0, 1) := dk_42 (dk_at dksX18_at_1 4 rfl rfl)
theorem dX18_at_29 : decode cX18_at 29 = .ok (.getfield 13, 3) := dk_180 0 13 (dk_at dksX18_at_1 5 rfl rfl)
theorem dX18_at_32 : decode cX18_at 32 = .ok (.ior, 1) := dk_128 (dk_at dksX18_at_1 8 rfl rfl)
theorem dX18_at_33 : decode cX18_at 33 = .ok (.putfield 31, 3) := dk_181 0 31 (dk_at dksX18_at_1 9 rfl rfl)
theorem dX18_at_36 : decode cX18_at 36 = .ok (.aload_n 1, 1) := dk_43 (dk_at dksX18_at_1 12 rfl rfl)
theorem dX18_at_37 : decode cX18_at 37 = .ok (.dup, 1) := dk_89 (dk_at dksX18_at_1 13 rfl rfl)
theorem dX18_at_38 : decode cX18_at 38 = .ok (.getfield 38, 3) := dk_180 0 38 (dk_at dksX18_at_1 14 rfl rfl)
theorem dX18_at_41 : decode cX18_at 41 = .ok (.iload_n 2, 1) := dk_28 (dk_at dksX18_at_1 17 rfl rfl)
theorem dX18_at_42 : decode cX18_at 42 = .ok (.bipush 121, 2) := dk_16 121 (dk_at dksX18_at_1 18 rfl rfl)
theorem dX18_at_44 : decode cX18_at 44 = .ok (.if_icmp .ne 10, 3) := dk_160 0 10 (dk_at dksX18_at_1 20 rfl rfl)
theorem dX18_at_47 : decode cX18_at 47 = .ok (.aload_n 0, 1) := dk_42 (dk_at dksX18_at_1 23 rfl rfl)
theorem dX18_at_48 : decode cX18_at 48 = .ok (.getfield 13, 3) := dk_180 0 13 (dk_at dksX18_at_2 0 rfl rfl)
theorem dX18_at_51 : decode cX18_at 51 = .ok (.goto 4, 3) := dk_167 0 4 (dk_at dksX18_at_2 3 rfl rfl)
theorem dX18_at_54 : decode cX18_at 54 = .ok (.iconst 0, 1) := dk_3 (dk_at dksX18_at_2 6 rfl rfl)
theorem dX18_at_55 : decode cX18_at 55 = .ok (.ior, 1) := dk_128 (dk_at dksX18_at_2 7 rfl rfl)
theorem dX18_at_56 : decode cX18_at 56 = .ok (.putfield 38, 3) := dk_181 0 38 (dk_at dksX18_at_2 8 rfl rfl)
theorem dX18_at_59 : decode cX18_at 59 = .ok (.aload_n 1, 1) := dk_43 (dk_at dksX18_at_2 11 rfl rfl)
theorem dX18_at_60 : decode cX18_at 60 = .ok (.dup, 1) := dk_89 (dk_at dksX18_at_2 12 rfl rfl)
theorem dX18_at_61 : decode cX18_at 61 = .ok (.getfield 41, 3) := dk_180 0 41 (dk_at dksX18_at_2 13 rfl rfl)
theorem dX18_at_64 : decode cX18_at 64 = .ok (.iload_n 2, 1) := dk_28 (dk_at dksX18_at_2 16 rfl rfl)
theorem dX18_at_65 : decode cX18_at 65 = .ok (.bipush 110, 2) := dk_16 110 (dk_at dksX18_at_2 17 rfl rfl)
theorem dX18_at_67 : decode cX18_at 67 = .ok (.if_icmp .ne 10, 3) := dk_160 0 10 (dk_at dksX18_at_2 19 rfl rfl)
theorem dX18_at_70 : decode cX18_at 70 = .ok (.aload_n 0, 1) := dk_42 (dk_at dksX18_at_2 22 rfl rfl)
theorem dX18_at_71 : decode cX18_at 71 = .ok (.getfield 13, 3) := dk_180 0 13 (dk_at dksX18_at_3 0 rfl rfl)
theorem dX18_at_74 : decode cX18_at 74 = .ok (.goto 4, 3) := dk_167 0 4 (dk_at dksX18_at_3 3 rfl rfl)
theorem dX18_at_77 : decode cX18_at 77 = .ok (.iconst 0, 1) := dk_3 (dk_at dksX18_at_3 6 rfl rfl)
theorem dX18_at_78 : decode cX18_at 78 = .ok (.ior, 1) := dk_128 (dk_at dksX18_at_3 7 rfl rfl)
theorem dX18_at_79 : decode cX18_at 79 = .ok (.putfield 41, 3) := dk_181 0 41 (dk_at dksX18_at_3 8 rfl rfl)
theorem dX18_at_82 : decode cX18_at 82 = .ok (.aload_n 1, 1) := dk_43 (dk_at dksX18_at_3 11 rfl rfl)
theorem dX18_at_83 : decode cX18_at 83 = .ok (.getfield 38, 3) := dk_180 0 38 (dk_at dksX18_at_3 12 rfl rfl)
theorem dX18_at_86 : decode cX18_at 86 = .ok (.aload_n 0, 1) := dk_42 (dk_at dksX18_at_3 15 rfl rfl)
theorem dX18_at_87 : decode cX18_at 87 = .ok (.getfield 13, 3) := dk_180 0 13 (dk_at dksX18_at_3 16 rfl rfl)
theorem dX18_at_90 : decode cX18_at 90 = .ok (.iand, 1) := dk_126 (dk_at dksX18_at_3 19 rfl rfl)
theorem dX18_at_91 : decode cX18_at 91 = .ok (.ifCond .eq 8, 3) := dk_153 0 8 (dk_at dksX18_at_3 20 rfl rfl)
theorem dX18_at_94 : decode cX18_at 94 = .ok (.bipush 121, 2) := dk_16 121 (dk_at dksX18_at_4 0 rfl rfl)
theorem dX18_at_96 : decode cX18_at 96 = .ok (.goto 22, 3) := dk_167 0 22 (dk_at dksX18_at_4 2 rfl rfl)
theorem dX18_at_99 : decode cX18_at 99 = .ok (.aload_n 1, 1) := dk_43 (dk_at dksX18_at_4 5 rfl rfl)
theorem dX18_at_100 : decode cX18_at 100 = .ok (.getfield 41, 3) := dk_180 0 41 (dk_at dksX18_at_4 6 rfl rfl)
theorem dX18_at_103 : decode cX18_at 103 = .ok (.aload_n 0, 1) := dk_42 (dk_at dksX18_at_4 9 rfl rfl)
theorem dX18_at_104 : decode cX18_at 104 = .ok (.getfield 13, 3) := dk_180 0 13 (dk_at dksX18_at_4 10 rfl rfl)
theorem dX18_at_107 : decode cX18_at 107 = .ok (.iand, 1) := dk_126 (dk_at dksX18_at_4 13 rfl rfl)
theorem dX18_at_108 : decode cX18_at 108 = .ok (.ifCond .eq 8, 3) := dk_153 0 8 (dk_at dksX18_at_4 14 rfl rfl)
theorem dX18_at_111 : decode cX18_at 111 = .ok (.bipush 110, 2) := dk_16 110 (dk_at dksX18_at_4 17 rfl rfl)
theorem dX18_at_113 : decode cX18_at 113 = .ok (.goto 5, 3) := dk_167 0 5 (dk_at dksX18_at_4 19 rfl rfl)
theorem dX18_at_116 : decode cX18_at 116 = .ok (.bipush 109, 2) := dk_16 109 (dk_at dksX18_at_4 22 rfl rfl)
theorem dX18_at_118 : decode cX18_at 118 = .ok (.ireturn, 1) := dk_172 (dk_at dksX18_at_5 0 rfl rfl)
abbrev cX18_holds : ByteArray := prog_8_method_2_code
def yX18_holds : MethodName := ⟨RX18, "holds", "(LWeaversgate$Point;)Z"⟩
def dkwX18_holds_3 : List UInt8 := [167, 0, 4, 3, 172]
abbrev dktX18_holds_3 : List UInt8 := dkwX18_holds_3 ++ []
def dkwX18_holds_2 : List UInt8 := [180, 0, 17, 42, 180, 0, 13, 128, 181, 0, 17, 43, 180, 0, 28, 42, 180, 0, 13, 126, 153, 0, 7, 4]
abbrev dktX18_holds_2 : List UInt8 := dkwX18_holds_2 ++ dktX18_holds_3
def dkwX18_holds_1 : List UInt8 := [89, 180, 0, 28, 28, 153, 0, 10, 42, 180, 0, 13, 167, 0, 4, 3, 128, 181, 0, 28, 43, 89]
abbrev dktX18_holds_1 : List UInt8 := dkwX18_holds_1 ++ dktX18_holds_2
def dkwX18_holds_0 : List UInt8 := [43, 180, 0, 17, 42, 180, 0, 13, 126, 154, 0, 48, 42, 180, 0, 7, 43, 185, 0, 22, 2, 0, 61, 43]
abbrev dktX18_holds_0 : List UInt8 := dkwX18_holds_0 ++ dktX18_holds_1
theorem dksX18_holds_0 : cX18_holds.data.toList.drop 0 = dktX18_holds_0 := by decide +kernel
theorem dksX18_holds_1 : cX18_holds.data.toList.drop 24 = dktX18_holds_1 := dk_seg dksX18_holds_0 24 rfl rfl
theorem dksX18_holds_2 : cX18_holds.data.toList.drop 46 = dktX18_holds_2 := dk_seg dksX18_holds_1 22 rfl rfl
theorem dksX18_holds_3 : cX18_holds.data.toList.drop 70 = dktX18_holds_3 := dk_seg dksX18_holds_2 24 rfl rfl
theorem dX18_holds_0 : decode cX18_holds 0 = .ok (.aload_n 1, 1) := dk_43 (dk_at dksX18_holds_0 0 rfl rfl)
theorem dX18_holds_1 : decode cX18_holds 1 = .ok (.getfield 17, 3) := dk_180 0 17 (dk_at dksX18_holds_0 1 rfl rfl)
theorem dX18_holds_4 : decode cX18_holds 4 = .ok (.aload_n 0, 1) := dk_42 (dk_at dksX18_holds_0 4 rfl rfl)
theorem dX18_holds_5 : decode cX18_holds 5 = .ok (.getfield 13, 3) := dk_180 0 13 (dk_at dksX18_holds_0 5 rfl rfl)
theorem dX18_holds_8 : decode cX18_holds 8 = .ok (.iand, 1) := dk_126 (dk_at dksX18_holds_0 8 rfl rfl)
theorem dX18_holds_9 : decode cX18_holds 9 = .ok (.ifCond .ne 48, 3) := dk_154 0 48 (dk_at dksX18_holds_0 9 rfl rfl)
theorem dX18_holds_12 : decode cX18_holds 12 = .ok (.aload_n 0, 1) := dk_42 (dk_at dksX18_holds_0 12 rfl rfl)
theorem dX18_holds_13 : decode cX18_holds 13 = .ok (.getfield 7, 3) := dk_180 0 7 (dk_at dksX18_holds_0 13 rfl rfl)
theorem dX18_holds_16 : decode cX18_holds 16 = .ok (.aload_n 1, 1) := dk_43 (dk_at dksX18_holds_0 16 rfl rfl)
theorem dX18_holds_17 : decode cX18_holds 17 = .ok (.invokeinterface 22 2, 5) := by decide +kernel
theorem dX18_holds_22 : decode cX18_holds 22 = .ok (.istore_n 2, 1) := dk_61 (dk_at dksX18_holds_0 22 rfl rfl)
theorem dX18_holds_23 : decode cX18_holds 23 = .ok (.aload_n 1, 1) := dk_43 (dk_at dksX18_holds_0 23 rfl rfl)
theorem dX18_holds_24 : decode cX18_holds 24 = .ok (.dup, 1) := dk_89 (dk_at dksX18_holds_1 0 rfl rfl)
theorem dX18_holds_25 : decode cX18_holds 25 = .ok (.getfield 28, 3) := dk_180 0 28 (dk_at dksX18_holds_1 1 rfl rfl)
theorem dX18_holds_28 : decode cX18_holds 28 = .ok (.iload_n 2, 1) := dk_28 (dk_at dksX18_holds_1 4 rfl rfl)
theorem dX18_holds_29 : decode cX18_holds 29 = .ok (.ifCond .eq 10, 3) := dk_153 0 10 (dk_at dksX18_holds_1 5 rfl rfl)
theorem dX18_holds_32 : decode cX18_holds 32 = .ok (.aload_n 0, 1) := dk_42 (dk_at dksX18_holds_1 8 rfl rfl)
theorem dX18_holds_33 : decode cX18_holds 33 = .ok (.getfield 13, 3) := dk_180 0 13 (dk_at dksX18_holds_1 9 rfl rfl)
theorem dX18_holds_36 : decode cX18_holds 36 = .ok (.goto 4, 3) := dk_167 0 4 (dk_at dksX18_holds_1 12 rfl rfl)
theorem dX18_holds_39 : decode cX18_holds 39 = .ok (.iconst 0, 1) := dk_3 (dk_at dksX18_holds_1 15 rfl rfl)
theorem dX18_holds_40 : decode cX18_holds 40 = .ok (.ior, 1) := dk_128 (dk_at dksX18_holds_1 16 rfl rfl)
theorem dX18_holds_41 : decode cX18_holds 41 = .ok (.putfield 28, 3) := dk_181 0 28 (dk_at dksX18_holds_1 17 rfl rfl)
theorem dX18_holds_44 : decode cX18_holds 44 = .ok (.aload_n 1, 1) := dk_43 (dk_at dksX18_holds_1 20 rfl rfl)
theorem dX18_holds_45 : decode cX18_holds 45 = .ok (.dup, 1) := dk_89 (dk_at dksX18_holds_1 21 rfl rfl)
theorem dX18_holds_46 : decode cX18_holds 46 = .ok (.getfield 17, 3) := dk_180 0 17 (dk_at dksX18_holds_2 0 rfl rfl)
theorem dX18_holds_49 : decode cX18_holds 49 = .ok (.aload_n 0, 1) := dk_42 (dk_at dksX18_holds_2 3 rfl rfl)
theorem dX18_holds_50 : decode cX18_holds 50 = .ok (.getfield 13, 3) := dk_180 0 13 (dk_at dksX18_holds_2 4 rfl rfl)
theorem dX18_holds_53 : decode cX18_holds 53 = .ok (.ior, 1) := dk_128 (dk_at dksX18_holds_2 7 rfl rfl)
theorem dX18_holds_54 : decode cX18_holds 54 = .ok (.putfield 17, 3) := dk_181 0 17 (dk_at dksX18_holds_2 8 rfl rfl)
theorem dX18_holds_57 : decode cX18_holds 57 = .ok (.aload_n 1, 1) := dk_43 (dk_at dksX18_holds_2 11 rfl rfl)
theorem dX18_holds_58 : decode cX18_holds 58 = .ok (.getfield 28, 3) := dk_180 0 28 (dk_at dksX18_holds_2 12 rfl rfl)
theorem dX18_holds_61 : decode cX18_holds 61 = .ok (.aload_n 0, 1) := dk_42 (dk_at dksX18_holds_2 15 rfl rfl)
theorem dX18_holds_62 : decode cX18_holds 62 = .ok (.getfield 13, 3) := dk_180 0 13 (dk_at dksX18_holds_2 16 rfl rfl)
theorem dX18_holds_65 : decode cX18_holds 65 = .ok (.iand, 1) := dk_126 (dk_at dksX18_holds_2 19 rfl rfl)
theorem dX18_holds_66 : decode cX18_holds 66 = .ok (.ifCond .eq 7, 3) := dk_153 0 7 (dk_at dksX18_holds_2 20 rfl rfl)
theorem dX18_holds_69 : decode cX18_holds 69 = .ok (.iconst 1, 1) := dk_4 (dk_at dksX18_holds_2 23 rfl rfl)
theorem dX18_holds_70 : decode cX18_holds 70 = .ok (.goto 4, 3) := dk_167 0 4 (dk_at dksX18_holds_3 0 rfl rfl)
theorem dX18_holds_73 : decode cX18_holds 73 = .ok (.iconst 0, 1) := dk_3 (dk_at dksX18_holds_3 3 rfl rfl)
theorem dX18_holds_74 : decode cX18_holds 74 = .ok (.ireturn, 1) := dk_172 (dk_at dksX18_holds_3 4 rfl rfl)
abbrev cX18_init : ByteArray := prog_8_method_1_code
def yX18_init : MethodName := ⟨RX18, "<init>", "(LWeaversgate$Pattern;I)V"⟩
def dkwX18_init_0 : List UInt8 := [42, 183, 0, 1, 42, 43, 181, 0, 7, 42, 4, 28, 120, 181, 0, 13, 177]
abbrev dktX18_init_0 : List UInt8 := dkwX18_init_0 ++ []
theorem dksX18_init_0 : cX18_init.data.toList.drop 0 = dktX18_init_0 := by decide +kernel
theorem dX18_init_0 : decode cX18_init 0 = .ok (.aload_n 0, 1) := dk_42 (dk_at dksX18_init_0 0 rfl rfl)
theorem dX18_init_1 : decode cX18_init 1 = .ok (.invokespecial 1, 3) := dk_183 0 1 (dk_at dksX18_init_0 1 rfl rfl)
theorem dX18_init_4 : decode cX18_init 4 = .ok (.aload_n 0, 1) := dk_42 (dk_at dksX18_init_0 4 rfl rfl)
theorem dX18_init_5 : decode cX18_init 5 = .ok (.aload_n 1, 1) := dk_43 (dk_at dksX18_init_0 5 rfl rfl)
theorem dX18_init_6 : decode cX18_init 6 = .ok (.putfield 7, 3) := dk_181 0 7 (dk_at dksX18_init_0 6 rfl rfl)
theorem dX18_init_9 : decode cX18_init 9 = .ok (.aload_n 0, 1) := dk_42 (dk_at dksX18_init_0 9 rfl rfl)
theorem dX18_init_10 : decode cX18_init 10 = .ok (.iconst 1, 1) := dk_4 (dk_at dksX18_init_0 10 rfl rfl)
theorem dX18_init_11 : decode cX18_init 11 = .ok (.iload_n 2, 1) := dk_28 (dk_at dksX18_init_0 11 rfl rfl)
theorem dX18_init_12 : decode cX18_init 12 = .ok (.ishl, 1) := dk_120 (dk_at dksX18_init_0 12 rfl rfl)
theorem dX18_init_13 : decode cX18_init 13 = .ok (.putfield 13, 3) := dk_181 0 13 (dk_at dksX18_init_0 13 rfl rfl)
theorem dX18_init_16 : decode cX18_init 16 = .ok (.return_, 1) := dk_177 (dk_at dksX18_init_0 16 rfl rfl)
theorem q95 : (Jvm.Cond.initialized "Weaversgate$NumberedPattern") ∈ lw_all := lw_g (lw_at lw_m1 36 rfl) rfl
theorem q733 : (Jvm.Cond.fieldLinkNest "Weaversgate$NumberedPattern" (31 : Nat) "Weaversgate$Place" "known" "I" "Weaversgate") ∈ lw_tbl := lw_at lw_m3 194 rfl
theorem q734 : (Jvm.Cond.fieldLinkNest "Weaversgate$NumberedPattern" (38 : Nat) "Weaversgate$Place" "sure" "I" "Weaversgate") ∈ lw_tbl := lw_at lw_m3 195 rfl
theorem q735 : (Jvm.Cond.fieldLinkNest "Weaversgate$NumberedPattern" (41 : Nat) "Weaversgate$Place" "never" "I" "Weaversgate") ∈ lw_tbl := lw_at lw_m3 196 rfl
theorem q780 : (Jvm.Cond.selects "Weaversgate$NumberedPattern" ({ cls := "java/lang/Object", name := "getClass", desc := "()Ljava/lang/Class;" } : Jvm.MethodName) ({ cls := "java/lang/Object", name := "getClass", desc := "()Ljava/lang/Class;" } : Jvm.MethodName)) ∈ lw_all := lw_g (lw_at lw_m4 1 rfl) rfl
theorem q858 : (Jvm.Cond.castable "Weaversgate$NumberedPattern" "Weaversgate$Pattern") ∈ lw_tbl := lw_at lw_m4 79 rfl
theorem q859 : (Jvm.Cond.selects "Weaversgate$NumberedPattern" ({ cls := "Weaversgate$Pattern", name := "at", desc := "(LWeaversgate$Place;)C" } : Jvm.MethodName) ({ cls := "Weaversgate$NumberedPattern", name := "at", desc := "(LWeaversgate$Place;)C" } : Jvm.MethodName)) ∈ lw_all := lw_g (lw_at lw_m4 80 rfl) rfl
theorem q860 : (Jvm.Cond.unhidden "Weaversgate$NumberedPattern" "at" "(LWeaversgate$Place;)C") ∈ lw_tbl := lw_at lw_m4 81 rfl
theorem q861 : (Jvm.Cond.instanceMethod ({ cls := "Weaversgate$NumberedPattern", name := "at", desc := "(LWeaversgate$Place;)C" } : Jvm.MethodName)) ∈ lw_all := lw_g (lw_at lw_m4 82 rfl) rfl
theorem q862 : (Jvm.Cond.publicMethod ({ cls := "Weaversgate$NumberedPattern", name := "at", desc := "(LWeaversgate$Place;)C" } : Jvm.MethodName)) ∈ lw_tbl := lw_at lw_m4 83 rfl
theorem q863 : (Jvm.Cond.code ({ cls := "Weaversgate$NumberedPattern", name := "at", desc := "(LWeaversgate$Place;)C" } : Jvm.MethodName) prog_8_method_3_code (3 : Nat) (Option.some Jvm.ClassFile.FieldType.char)) ∈ lw_all := lw_g (lw_at lw_m4 84 rfl) rfl
theorem q864 : (Jvm.Cond.interfaceEntry "Weaversgate$NumberedPattern" (34 : Nat)) ∈ lw_tbl := lw_at lw_m4 85 rfl
theorem q865 : (Jvm.Cond.methodLink "Weaversgate$NumberedPattern" (34 : Nat) ({ cls := "Weaversgate$Pattern", name := "at", desc := "(LWeaversgate$Place;)C" } : Jvm.MethodName)) ∈ lw_all := lw_g (lw_at lw_m4 86 rfl) rfl
theorem q1071 : (Jvm.Cond.fieldLinkNest "Weaversgate$NumberedPattern" (17 : Nat) "Weaversgate$Point" "known" "I" "Weaversgate") ∈ lw_tbl := lw_at lw_m5 52 rfl
theorem q1072 : (Jvm.Cond.fieldLinkNest "Weaversgate$NumberedPattern" (28 : Nat) "Weaversgate$Point" "held" "I" "Weaversgate") ∈ lw_tbl := lw_at lw_m5 53 rfl
theorem q1106 : (Jvm.Cond.unhidden "Weaversgate$NumberedPattern" "isAsked" "(LWeaversgate$Place;)Z") ∈ lw_tbl := lw_at lw_m5 87 rfl
theorem q1135 : (Jvm.Cond.selects "Weaversgate$NumberedPattern" ({ cls := "Weaversgate$Pattern", name := "holds", desc := "(LWeaversgate$Point;)Z" } : Jvm.MethodName) ({ cls := "Weaversgate$NumberedPattern", name := "holds", desc := "(LWeaversgate$Point;)Z" } : Jvm.MethodName)) ∈ lw_all := lw_g (lw_at lw_m5 116 rfl) rfl
theorem q1136 : (Jvm.Cond.unhidden "Weaversgate$NumberedPattern" "holds" "(LWeaversgate$Point;)Z") ∈ lw_tbl := lw_at lw_m5 117 rfl
theorem q1137 : (Jvm.Cond.instanceMethod ({ cls := "Weaversgate$NumberedPattern", name := "holds", desc := "(LWeaversgate$Point;)Z" } : Jvm.MethodName)) ∈ lw_all := lw_g (lw_at lw_m5 118 rfl) rfl
theorem q1138 : (Jvm.Cond.publicMethod ({ cls := "Weaversgate$NumberedPattern", name := "holds", desc := "(LWeaversgate$Point;)Z" } : Jvm.MethodName)) ∈ lw_tbl := lw_at lw_m5 119 rfl
theorem q1139 : (Jvm.Cond.code ({ cls := "Weaversgate$NumberedPattern", name := "holds", desc := "(LWeaversgate$Point;)Z" } : Jvm.MethodName) prog_8_method_2_code (3 : Nat) (Option.some Jvm.ClassFile.FieldType.boolean)) ∈ lw_all := lw_g (lw_at lw_m5 120 rfl) rfl
theorem q1140 : (Jvm.Cond.interfaceEntry "Weaversgate$NumberedPattern" (22 : Nat)) ∈ lw_tbl := lw_at lw_m5 121 rfl
theorem q1141 : (Jvm.Cond.methodLink "Weaversgate$NumberedPattern" (22 : Nat) ({ cls := "Weaversgate$Pattern", name := "holds", desc := "(LWeaversgate$Point;)Z" } : Jvm.MethodName)) ∈ lw_all := lw_g (lw_at lw_m5 122 rfl) rfl
theorem q1510 : (Jvm.Cond.instantiable "Weaversgate$NumberedPattern" (2 : Nat)) ∈ lw_all := lw_g (lw_at lw_m7 11 rfl) rfl
theorem q1512 : (Jvm.Cond.instanceMethod ({ cls := "Weaversgate$NumberedPattern", name := "<init>", desc := "(LWeaversgate$Pattern;I)V" } : Jvm.MethodName)) ∈ lw_all := lw_g (lw_at lw_m7 13 rfl) rfl
theorem q1513 : (Jvm.Cond.code ({ cls := "Weaversgate$NumberedPattern", name := "<init>", desc := "(LWeaversgate$Pattern;I)V" } : Jvm.MethodName) prog_8_method_1_code (3 : Nat) (Option.none : Option Jvm.ClassFile.FieldType)) ∈ lw_all := lw_g (lw_at lw_m7 14 rfl) rfl
theorem q1514 : (Jvm.Cond.methodLink "Weaversgate$NumberedPattern" (1 : Nat) ({ cls := "java/lang/Object", name := "<init>", desc := "()V" } : Jvm.MethodName)) ∈ lw_all := lw_g (lw_at lw_m7 15 rfl) rfl
theorem q1515 : (Jvm.Cond.fieldLink "Weaversgate$NumberedPattern" (7 : Nat) "Weaversgate$NumberedPattern" "inner" "LWeaversgate$Pattern;") ∈ lw_all := lw_g (lw_at lw_m7 16 rfl) rfl
theorem q1516 : (Jvm.Cond.fieldLink "Weaversgate$NumberedPattern" (13 : Nat) "Weaversgate$NumberedPattern" "bit" "I") ∈ lw_all := lw_g (lw_at lw_m7 17 rfl) rfl
theorem q1517 : (Jvm.Cond.laysFinal "Weaversgate$NumberedPattern" "Weaversgate$NumberedPattern" "inner" "LWeaversgate$Pattern;") ∈ lw_all := lw_g (lw_at lw_m7 18 rfl) rfl
theorem q1518 : (Jvm.Cond.soleField "Weaversgate$NumberedPattern" "inner") ∈ lw_all := lw_g (lw_at lw_m7 19 rfl) rfl
theorem q1519 : (Jvm.Cond.laysFinal "Weaversgate$NumberedPattern" "Weaversgate$NumberedPattern" "bit" "I") ∈ lw_all := lw_g (lw_at lw_m7 20 rfl) rfl
theorem q1520 : (Jvm.Cond.soleField "Weaversgate$NumberedPattern" "bit") ∈ lw_all := lw_g (lw_at lw_m7 21 rfl) rfl
theorem q1521 : (Jvm.Cond.superclass "Weaversgate$NumberedPattern" "java/lang/Object") ∈ lw_all := lw_g (lw_at lw_m7 22 rfl) rfl
theorem q2039 : (Jvm.Cond.selects "Weaversgate$NumberedPattern" ({ cls := "java/lang/Object", name := "equals", desc := "(Ljava/lang/Object;)Z" } : Jvm.MethodName) ({ cls := "java/lang/Object", name := "equals", desc := "(Ljava/lang/Object;)Z" } : Jvm.MethodName)) ∈ lw_all := lw_g (lw_at lw_m9 60 rfl) rfl
theorem q2623 : (Jvm.Cond.castable "Weaversgate$NumberedPattern" "java/lang/Object") ∈ lw_tbl := lw_at lw_m11 164 rfl
theorem in_X18 : ∀ w ∈ wsX180, w ∈ lw_all := lw_in wsX180 [1517, 1519] (by decide +kernel) (by decide +kernel)

/-! Weaversgate$Advice -/
set_option maxRecDepth 100000
def RX19 : String := "Weaversgate$Advice"
def TX19 : u_T := fun k => match k with
  | 0 => ("Weaversgate$Advice", "number", "I", true)
  | 1 => ("Weaversgate$Advice", "aspect", "I", true)
  | 2 => ("Weaversgate$Advice", "kind", "C", true)
  | 3 => ("Weaversgate$Advice", "pattern", "LWeaversgate$Pattern;", true)
  | 4 => ("Weaversgate$Advice", "more", "I", true)
  | 5 => ("Weaversgate$Advice", "times", "I", true)
  | _ => ("Weaversgate$Advice", "isOn", "Z", false)
def tyX19 : Nat → FieldType := fun k => match k with
  | 0 => .int
  | 1 => .int
  | 2 => .char
  | 3 => .object "Weaversgate$Pattern"
  | 4 => .int
  | 5 => .int
  | _ => .boolean
abbrev wsX190 : List Cond := u_ws RX19 TX19 7
theorem nmX19 : ∀ a, a < 7 → ∀ b, b < 7 → a ≠ b → (TX19 a).2.1 ≠ (TX19 b).2.1 := by decide +kernel
theorem tyX19_ok : ∀ k, k < 7 → parseFieldDescriptor (TX19 k).2.2.1 = some (tyX19 k) := by decide +kernel
abbrev cX19_init : ByteArray := prog_3_method_1_code
def yX19_init : MethodName := ⟨RX19, "<init>", "(IICLWeaversgate$Pattern;II)V"⟩
def dkwX19_init_1 : List UInt8 := [42, 25, 4, 181, 0, 24, 42, 21, 5, 181, 0, 28, 42, 21, 6, 181, 0, 31, 177]
abbrev dktX19_init_1 : List UInt8 := dkwX19_init_1 ++ []
def dkwX19_init_0 : List UInt8 := [42, 183, 0, 1, 42, 4, 181, 0, 7, 42, 27, 181, 0, 13, 42, 28, 181, 0, 17, 42, 29, 181, 0, 20]
abbrev dktX19_init_0 : List UInt8 := dkwX19_init_0 ++ dktX19_init_1
theorem dksX19_init_0 : cX19_init.data.toList.drop 0 = dktX19_init_0 := by decide +kernel
theorem dksX19_init_1 : cX19_init.data.toList.drop 24 = dktX19_init_1 := dk_seg dksX19_init_0 24 rfl rfl
theorem dX19_init_0 : decode cX19_init 0 = .ok (.aload_n 0, 1) := dk_42 (dk_at dksX19_init_0 0 rfl rfl)
theorem dX19_init_1 : decode cX19_init 1 = .ok (.invokespecial 1, 3) := dk_183 0 1 (dk_at dksX19_init_0 1 rfl rfl)
theorem dX19_init_4 : decode cX19_init 4 = .ok (.aload_n 0, 1) := dk_42 (dk_at dksX19_init_0 4 rfl rfl)
theorem dX19_init_5 : decode cX19_init 5 = .ok (.iconst 1, 1) := dk_4 (dk_at dksX19_init_0 5 rfl rfl)
theorem dX19_init_6 : decode cX19_init 6 = .ok (.putfield 7, 3) := dk_181 0 7 (dk_at dksX19_init_0 6 rfl rfl)
theorem dX19_init_9 : decode cX19_init 9 = .ok (.aload_n 0, 1) := dk_42 (dk_at dksX19_init_0 9 rfl rfl)
theorem dX19_init_10 : decode cX19_init 10 = .ok (.iload_n 1, 1) := dk_27 (dk_at dksX19_init_0 10 rfl rfl)
theorem dX19_init_11 : decode cX19_init 11 = .ok (.putfield 13, 3) := dk_181 0 13 (dk_at dksX19_init_0 11 rfl rfl)
theorem dX19_init_14 : decode cX19_init 14 = .ok (.aload_n 0, 1) := dk_42 (dk_at dksX19_init_0 14 rfl rfl)
theorem dX19_init_15 : decode cX19_init 15 = .ok (.iload_n 2, 1) := dk_28 (dk_at dksX19_init_0 15 rfl rfl)
theorem dX19_init_16 : decode cX19_init 16 = .ok (.putfield 17, 3) := dk_181 0 17 (dk_at dksX19_init_0 16 rfl rfl)
theorem dX19_init_19 : decode cX19_init 19 = .ok (.aload_n 0, 1) := dk_42 (dk_at dksX19_init_0 19 rfl rfl)
theorem dX19_init_20 : decode cX19_init 20 = .ok (.iload_n 3, 1) := dk_29 (dk_at dksX19_init_0 20 rfl rfl)
theorem dX19_init_21 : decode cX19_init 21 = .ok (.putfield 20, 3) := dk_181 0 20 (dk_at dksX19_init_0 21 rfl rfl)
theorem dX19_init_24 : decode cX19_init 24 = .ok (.aload_n 0, 1) := dk_42 (dk_at dksX19_init_1 0 rfl rfl)
theorem dX19_init_25 : decode cX19_init 25 = .ok (.aload 4, 2) := dk_25 4 (dk_at dksX19_init_1 1 rfl rfl)
theorem dX19_init_27 : decode cX19_init 27 = .ok (.putfield 24, 3) := dk_181 0 24 (dk_at dksX19_init_1 3 rfl rfl)
theorem dX19_init_30 : decode cX19_init 30 = .ok (.aload_n 0, 1) := dk_42 (dk_at dksX19_init_1 6 rfl rfl)
theorem dX19_init_31 : decode cX19_init 31 = .ok (.iload 5, 2) := dk_21 5 (dk_at dksX19_init_1 7 rfl rfl)
theorem dX19_init_33 : decode cX19_init 33 = .ok (.putfield 28, 3) := dk_181 0 28 (dk_at dksX19_init_1 9 rfl rfl)
theorem dX19_init_36 : decode cX19_init 36 = .ok (.aload_n 0, 1) := dk_42 (dk_at dksX19_init_1 12 rfl rfl)
theorem dX19_init_37 : decode cX19_init 37 = .ok (.iload 6, 2) := dk_21 6 (dk_at dksX19_init_1 13 rfl rfl)
theorem dX19_init_39 : decode cX19_init 39 = .ok (.putfield 31, 3) := dk_181 0 31 (dk_at dksX19_init_1 15 rfl rfl)
theorem dX19_init_42 : decode cX19_init 42 = .ok (.return_, 1) := dk_177 (dk_at dksX19_init_1 18 rfl rfl)
theorem q98 : (Jvm.Cond.initialized "Weaversgate$Advice") ∈ lw_all := lw_g (lw_at lw_m1 39 rfl) rfl
theorem q775 : (Jvm.Cond.selects "Weaversgate$Advice" ({ cls := "java/lang/Object", name := "getClass", desc := "()Ljava/lang/Class;" } : Jvm.MethodName) ({ cls := "java/lang/Object", name := "getClass", desc := "()Ljava/lang/Class;" } : Jvm.MethodName)) ∈ lw_all := lw_g (lw_at lw_m3 236 rfl) rfl
theorem q1532 : (Jvm.Cond.instantiable "Weaversgate$Advice" (7 : Nat)) ∈ lw_all := lw_g (lw_at lw_m7 33 rfl) rfl
theorem q1534 : (Jvm.Cond.instanceMethod ({ cls := "Weaversgate$Advice", name := "<init>", desc := "(IICLWeaversgate$Pattern;II)V" } : Jvm.MethodName)) ∈ lw_all := lw_g (lw_at lw_m7 35 rfl) rfl
theorem q1535 : (Jvm.Cond.code ({ cls := "Weaversgate$Advice", name := "<init>", desc := "(IICLWeaversgate$Pattern;II)V" } : Jvm.MethodName) prog_3_method_1_code (7 : Nat) (Option.none : Option Jvm.ClassFile.FieldType)) ∈ lw_all := lw_g (lw_at lw_m7 36 rfl) rfl
theorem q1536 : (Jvm.Cond.methodLink "Weaversgate$Advice" (1 : Nat) ({ cls := "java/lang/Object", name := "<init>", desc := "()V" } : Jvm.MethodName)) ∈ lw_all := lw_g (lw_at lw_m7 37 rfl) rfl
theorem q1537 : (Jvm.Cond.fieldLink "Weaversgate$Advice" (13 : Nat) "Weaversgate$Advice" "number" "I") ∈ lw_all := lw_g (lw_at lw_m7 38 rfl) rfl
theorem q1539 : (Jvm.Cond.fieldLink "Weaversgate$Advice" (17 : Nat) "Weaversgate$Advice" "aspect" "I") ∈ lw_all := lw_g (lw_at lw_m7 40 rfl) rfl
theorem q1541 : (Jvm.Cond.fieldLink "Weaversgate$Advice" (20 : Nat) "Weaversgate$Advice" "kind" "C") ∈ lw_all := lw_g (lw_at lw_m7 42 rfl) rfl
theorem q1544 : (Jvm.Cond.fieldLink "Weaversgate$Advice" (24 : Nat) "Weaversgate$Advice" "pattern" "LWeaversgate$Pattern;") ∈ lw_all := lw_g (lw_at lw_m7 45 rfl) rfl
theorem q1547 : (Jvm.Cond.fieldLink "Weaversgate$Advice" (28 : Nat) "Weaversgate$Advice" "more" "I") ∈ lw_all := lw_g (lw_at lw_m7 48 rfl) rfl
theorem q1549 : (Jvm.Cond.fieldLink "Weaversgate$Advice" (31 : Nat) "Weaversgate$Advice" "times" "I") ∈ lw_all := lw_g (lw_at lw_m7 50 rfl) rfl
theorem q1551 : (Jvm.Cond.fieldLink "Weaversgate$Advice" (7 : Nat) "Weaversgate$Advice" "isOn" "Z") ∈ lw_all := lw_g (lw_at lw_m7 52 rfl) rfl
theorem q1554 : (Jvm.Cond.laysFinal "Weaversgate$Advice" "Weaversgate$Advice" "number" "I") ∈ lw_all := lw_g (lw_at lw_m7 55 rfl) rfl
theorem q1555 : (Jvm.Cond.soleField "Weaversgate$Advice" "number") ∈ lw_all := lw_g (lw_at lw_m7 56 rfl) rfl
theorem q1556 : (Jvm.Cond.laysFinal "Weaversgate$Advice" "Weaversgate$Advice" "aspect" "I") ∈ lw_all := lw_g (lw_at lw_m7 57 rfl) rfl
theorem q1557 : (Jvm.Cond.soleField "Weaversgate$Advice" "aspect") ∈ lw_all := lw_g (lw_at lw_m7 58 rfl) rfl
theorem q1558 : (Jvm.Cond.laysFinal "Weaversgate$Advice" "Weaversgate$Advice" "kind" "C") ∈ lw_all := lw_g (lw_at lw_m7 59 rfl) rfl
theorem q1559 : (Jvm.Cond.soleField "Weaversgate$Advice" "kind") ∈ lw_all := lw_g (lw_at lw_m7 60 rfl) rfl
theorem q1560 : (Jvm.Cond.laysFinal "Weaversgate$Advice" "Weaversgate$Advice" "pattern" "LWeaversgate$Pattern;") ∈ lw_all := lw_g (lw_at lw_m7 61 rfl) rfl
theorem q1561 : (Jvm.Cond.soleField "Weaversgate$Advice" "pattern") ∈ lw_all := lw_g (lw_at lw_m7 62 rfl) rfl
theorem q1562 : (Jvm.Cond.laysFinal "Weaversgate$Advice" "Weaversgate$Advice" "more" "I") ∈ lw_all := lw_g (lw_at lw_m7 63 rfl) rfl
theorem q1563 : (Jvm.Cond.soleField "Weaversgate$Advice" "more") ∈ lw_all := lw_g (lw_at lw_m7 64 rfl) rfl
theorem q1564 : (Jvm.Cond.laysFinal "Weaversgate$Advice" "Weaversgate$Advice" "times" "I") ∈ lw_all := lw_g (lw_at lw_m7 65 rfl) rfl
theorem q1565 : (Jvm.Cond.soleField "Weaversgate$Advice" "times") ∈ lw_all := lw_g (lw_at lw_m7 66 rfl) rfl
theorem q1566 : (Jvm.Cond.lays "Weaversgate$Advice" "Weaversgate$Advice" "isOn" "Z") ∈ lw_all := lw_g (lw_at lw_m7 67 rfl) rfl
theorem q1567 : (Jvm.Cond.soleField "Weaversgate$Advice" "isOn") ∈ lw_all := lw_g (lw_at lw_m7 68 rfl) rfl
theorem q1568 : (Jvm.Cond.superclass "Weaversgate$Advice" "java/lang/Object") ∈ lw_all := lw_g (lw_at lw_m7 69 rfl) rfl
theorem q2034 : (Jvm.Cond.selects "Weaversgate$Advice" ({ cls := "java/lang/Object", name := "equals", desc := "(Ljava/lang/Object;)Z" } : Jvm.MethodName) ({ cls := "java/lang/Object", name := "equals", desc := "(Ljava/lang/Object;)Z" } : Jvm.MethodName)) ∈ lw_all := lw_g (lw_at lw_m9 55 rfl) rfl
theorem q2600 : (Jvm.Cond.castable "Weaversgate$Advice" "java/lang/Object") ∈ lw_tbl := lw_at lw_m11 141 rfl
theorem in_X19 : ∀ w ∈ wsX190, w ∈ lw_all := lw_in wsX190 [1554, 1556, 1558, 1560, 1562, 1564, 1566] (by decide +kernel) (by decide +kernel)

/-! Weaversgate$Place -/
set_option maxRecDepth 100000
def RX21 : String := "Weaversgate$Place"
def TX21 : u_T := fun k => match k with
  | 0 => ("Weaversgate$Place", "kind", "C", true)
  | 1 => ("Weaversgate$Place", "name", "I", true)
  | 2 => ("Weaversgate$Place", "within", "I", true)
  | 3 => ("Weaversgate$Place", "possible", "I", true)
  | 4 => ("Weaversgate$Place", "known", "I", false)
  | 5 => ("Weaversgate$Place", "sure", "I", false)
  | _ => ("Weaversgate$Place", "never", "I", false)
def tyX21 : Nat → FieldType := fun k => match k with
  | 0 => .char
  | 1 => .int
  | 2 => .int
  | 3 => .int
  | 4 => .int
  | 5 => .int
  | _ => .int
abbrev wsX210 : List Cond := u_ws RX21 TX21 7
theorem nmX21 : ∀ a, a < 7 → ∀ b, b < 7 → a ≠ b → (TX21 a).2.1 ≠ (TX21 b).2.1 := by decide +kernel
theorem tyX21_ok : ∀ k, k < 7 → parseFieldDescriptor (TX21 k).2.2.1 = some (tyX21 k) := by decide +kernel
abbrev cX21_init : ByteArray := prog_12_method_1_code
def yX21_init : MethodName := ⟨RX21, "<init>", "(CIII)V"⟩
def dkwX21_init_1 : List UInt8 := [181, 0, 20, 177]
abbrev dktX21_init_1 : List UInt8 := dkwX21_init_1 ++ []
def dkwX21_init_0 : List UInt8 := [42, 183, 0, 1, 42, 27, 181, 0, 7, 42, 28, 181, 0, 13, 42, 29, 181, 0, 17, 42, 21, 4]
abbrev dktX21_init_0 : List UInt8 := dkwX21_init_0 ++ dktX21_init_1
theorem dksX21_init_0 : cX21_init.data.toList.drop 0 = dktX21_init_0 := by decide +kernel
theorem dksX21_init_1 : cX21_init.data.toList.drop 22 = dktX21_init_1 := dk_seg dksX21_init_0 22 rfl rfl
theorem dX21_init_0 : decode cX21_init 0 = .ok (.aload_n 0, 1) := dk_42 (dk_at dksX21_init_0 0 rfl rfl)
theorem dX21_init_1 : decode cX21_init 1 = .ok (.invokespecial 1, 3) := dk_183 0 1 (dk_at dksX21_init_0 1 rfl rfl)
theorem dX21_init_4 : decode cX21_init 4 = .ok (.aload_n 0, 1) := dk_42 (dk_at dksX21_init_0 4 rfl rfl)
theorem dX21_init_5 : decode cX21_init 5 = .ok (.iload_n 1, 1) := dk_27 (dk_at dksX21_init_0 5 rfl rfl)
theorem dX21_init_6 : decode cX21_init 6 = .ok (.putfield 7, 3) := dk_181 0 7 (dk_at dksX21_init_0 6 rfl rfl)
theorem dX21_init_9 : decode cX21_init 9 = .ok (.aload_n 0, 1) := dk_42 (dk_at dksX21_init_0 9 rfl rfl)
theorem dX21_init_10 : decode cX21_init 10 = .ok (.iload_n 2, 1) := dk_28 (dk_at dksX21_init_0 10 rfl rfl)
theorem dX21_init_11 : decode cX21_init 11 = .ok (.putfield 13, 3) := dk_181 0 13 (dk_at dksX21_init_0 11 rfl rfl)
theorem dX21_init_14 : decode cX21_init 14 = .ok (.aload_n 0, 1) := dk_42 (dk_at dksX21_init_0 14 rfl rfl)
theorem dX21_init_15 : decode cX21_init 15 = .ok (.iload_n 3, 1) := dk_29 (dk_at dksX21_init_0 15 rfl rfl)
theorem dX21_init_16 : decode cX21_init 16 = .ok (.putfield 17, 3) := dk_181 0 17 (dk_at dksX21_init_0 16 rfl rfl)
theorem dX21_init_19 : decode cX21_init 19 = .ok (.aload_n 0, 1) := dk_42 (dk_at dksX21_init_0 19 rfl rfl)
theorem dX21_init_20 : decode cX21_init 20 = .ok (.iload 4, 2) := dk_21 4 (dk_at dksX21_init_0 20 rfl rfl)
theorem dX21_init_22 : decode cX21_init 22 = .ok (.putfield 20, 3) := dk_181 0 20 (dk_at dksX21_init_1 0 rfl rfl)
theorem dX21_init_25 : decode cX21_init 25 = .ok (.return_, 1) := dk_177 (dk_at dksX21_init_1 3 rfl rfl)
theorem q106 : (Jvm.Cond.initialized "Weaversgate$Place") ∈ lw_all := lw_g (lw_at lw_m1 47 rfl) rfl
theorem q719 : (Jvm.Cond.instantiable "Weaversgate$Place" (7 : Nat)) ∈ lw_all := lw_g (lw_at lw_m3 180 rfl) rfl
theorem q721 : (Jvm.Cond.instanceMethod ({ cls := "Weaversgate$Place", name := "<init>", desc := "(CIII)V" } : Jvm.MethodName)) ∈ lw_all := lw_g (lw_at lw_m3 182 rfl) rfl
theorem q722 : (Jvm.Cond.code ({ cls := "Weaversgate$Place", name := "<init>", desc := "(CIII)V" } : Jvm.MethodName) prog_12_method_1_code (5 : Nat) (Option.none : Option Jvm.ClassFile.FieldType)) ∈ lw_all := lw_g (lw_at lw_m3 183 rfl) rfl
theorem q723 : (Jvm.Cond.methodLink "Weaversgate$Place" (1 : Nat) ({ cls := "java/lang/Object", name := "<init>", desc := "()V" } : Jvm.MethodName)) ∈ lw_all := lw_g (lw_at lw_m3 184 rfl) rfl
theorem q724 : (Jvm.Cond.fieldLink "Weaversgate$Place" (7 : Nat) "Weaversgate$Place" "kind" "C") ∈ lw_all := lw_g (lw_at lw_m3 185 rfl) rfl
theorem q727 : (Jvm.Cond.fieldLink "Weaversgate$Place" (13 : Nat) "Weaversgate$Place" "name" "I") ∈ lw_all := lw_g (lw_at lw_m3 188 rfl) rfl
theorem q729 : (Jvm.Cond.fieldLink "Weaversgate$Place" (17 : Nat) "Weaversgate$Place" "within" "I") ∈ lw_all := lw_g (lw_at lw_m3 190 rfl) rfl
theorem q731 : (Jvm.Cond.fieldLink "Weaversgate$Place" (20 : Nat) "Weaversgate$Place" "possible" "I") ∈ lw_all := lw_g (lw_at lw_m3 192 rfl) rfl
theorem q736 : (Jvm.Cond.laysFinal "Weaversgate$Place" "Weaversgate$Place" "kind" "C") ∈ lw_all := lw_g (lw_at lw_m3 197 rfl) rfl
theorem q737 : (Jvm.Cond.soleField "Weaversgate$Place" "kind") ∈ lw_all := lw_g (lw_at lw_m3 198 rfl) rfl
theorem q738 : (Jvm.Cond.laysFinal "Weaversgate$Place" "Weaversgate$Place" "name" "I") ∈ lw_all := lw_g (lw_at lw_m3 199 rfl) rfl
theorem q739 : (Jvm.Cond.soleField "Weaversgate$Place" "name") ∈ lw_all := lw_g (lw_at lw_m3 200 rfl) rfl
theorem q740 : (Jvm.Cond.laysFinal "Weaversgate$Place" "Weaversgate$Place" "within" "I") ∈ lw_all := lw_g (lw_at lw_m3 201 rfl) rfl
theorem q741 : (Jvm.Cond.soleField "Weaversgate$Place" "within") ∈ lw_all := lw_g (lw_at lw_m3 202 rfl) rfl
theorem q742 : (Jvm.Cond.laysFinal "Weaversgate$Place" "Weaversgate$Place" "possible" "I") ∈ lw_all := lw_g (lw_at lw_m3 203 rfl) rfl
theorem q743 : (Jvm.Cond.soleField "Weaversgate$Place" "possible") ∈ lw_all := lw_g (lw_at lw_m3 204 rfl) rfl
theorem q744 : (Jvm.Cond.lays "Weaversgate$Place" "Weaversgate$Place" "known" "I") ∈ lw_all := lw_g (lw_at lw_m3 205 rfl) rfl
theorem q745 : (Jvm.Cond.soleField "Weaversgate$Place" "known") ∈ lw_all := lw_g (lw_at lw_m3 206 rfl) rfl
theorem q746 : (Jvm.Cond.lays "Weaversgate$Place" "Weaversgate$Place" "sure" "I") ∈ lw_all := lw_g (lw_at lw_m3 207 rfl) rfl
theorem q747 : (Jvm.Cond.soleField "Weaversgate$Place" "sure") ∈ lw_all := lw_g (lw_at lw_m3 208 rfl) rfl
theorem q748 : (Jvm.Cond.lays "Weaversgate$Place" "Weaversgate$Place" "never" "I") ∈ lw_all := lw_g (lw_at lw_m3 209 rfl) rfl
theorem q749 : (Jvm.Cond.soleField "Weaversgate$Place" "never") ∈ lw_all := lw_g (lw_at lw_m3 210 rfl) rfl
theorem q750 : (Jvm.Cond.superclass "Weaversgate$Place" "java/lang/Object") ∈ lw_all := lw_g (lw_at lw_m3 211 rfl) rfl
theorem q783 : (Jvm.Cond.selects "Weaversgate$Place" ({ cls := "java/lang/Object", name := "getClass", desc := "()Ljava/lang/Class;" } : Jvm.MethodName) ({ cls := "java/lang/Object", name := "getClass", desc := "()Ljava/lang/Class;" } : Jvm.MethodName)) ∈ lw_all := lw_g (lw_at lw_m4 4 rfl) rfl
theorem q2042 : (Jvm.Cond.selects "Weaversgate$Place" ({ cls := "java/lang/Object", name := "equals", desc := "(Ljava/lang/Object;)Z" } : Jvm.MethodName) ({ cls := "java/lang/Object", name := "equals", desc := "(Ljava/lang/Object;)Z" } : Jvm.MethodName)) ∈ lw_all := lw_g (lw_at lw_m9 63 rfl) rfl
theorem q2629 : (Jvm.Cond.castable "Weaversgate$Place" "java/lang/Object") ∈ lw_tbl := lw_at lw_m11 170 rfl
theorem in_X21 : ∀ w ∈ wsX210, w ∈ lw_all := lw_in wsX210 [736, 738, 740, 742, 744, 746, 748] (by decide +kernel) (by decide +kernel)

/-! Weaversgate$Thing -/
set_option maxRecDepth 100000
def RX22 : String := "Weaversgate$Thing"
def TX22 : u_T := fun k => match k with
  | 0 => ("Weaversgate$Thing", "type", "LWeaversgate$Type;", true)
  | _ => ("Weaversgate$Thing", "fields", "[I", true)
def tyX22 : Nat → FieldType := fun k => match k with
  | 0 => .object "Weaversgate$Type"
  | _ => .array .int
abbrev wsX220 : List Cond := u_ws RX22 TX22 2
theorem nmX22 : ∀ a, a < 2 → ∀ b, b < 2 → a ≠ b → (TX22 a).2.1 ≠ (TX22 b).2.1 := by decide +kernel
theorem tyX22_ok : ∀ k, k < 2 → parseFieldDescriptor (TX22 k).2.2.1 = some (tyX22 k) := by decide +kernel
abbrev cX22_init : ByteArray := prog_16_method_1_code
def yX22_init : MethodName := ⟨RX22, "<init>", "(LWeaversgate$Type;)V"⟩
def dkwX22_init_0 : List UInt8 := [42, 183, 0, 3, 42, 7, 188, 10, 181, 0, 9, 42, 43, 181, 0, 15, 177]
abbrev dktX22_init_0 : List UInt8 := dkwX22_init_0 ++ []
theorem dksX22_init_0 : cX22_init.data.toList.drop 0 = dktX22_init_0 := by decide +kernel
theorem dX22_init_0 : decode cX22_init 0 = .ok (.aload_n 0, 1) := dk_42 (dk_at dksX22_init_0 0 rfl rfl)
theorem dX22_init_1 : decode cX22_init 1 = .ok (.invokespecial 3, 3) := dk_183 0 3 (dk_at dksX22_init_0 1 rfl rfl)
theorem dX22_init_4 : decode cX22_init 4 = .ok (.aload_n 0, 1) := dk_42 (dk_at dksX22_init_0 4 rfl rfl)
theorem dX22_init_5 : decode cX22_init 5 = .ok (.iconst 4, 1) := dk_7 (dk_at dksX22_init_0 5 rfl rfl)
theorem dX22_init_6 : decode cX22_init 6 = .ok (.newarray .int, 2) := dk_188_10 (dk_at dksX22_init_0 6 rfl rfl)
theorem dX22_init_8 : decode cX22_init 8 = .ok (.putfield 9, 3) := dk_181 0 9 (dk_at dksX22_init_0 8 rfl rfl)
theorem dX22_init_11 : decode cX22_init 11 = .ok (.aload_n 0, 1) := dk_42 (dk_at dksX22_init_0 11 rfl rfl)
theorem dX22_init_12 : decode cX22_init 12 = .ok (.aload_n 1, 1) := dk_43 (dk_at dksX22_init_0 12 rfl rfl)
theorem dX22_init_13 : decode cX22_init 13 = .ok (.putfield 15, 3) := dk_181 0 15 (dk_at dksX22_init_0 13 rfl rfl)
theorem dX22_init_16 : decode cX22_init 16 = .ok (.return_, 1) := dk_177 (dk_at dksX22_init_0 16 rfl rfl)
theorem q108 : (Jvm.Cond.initialized "Weaversgate$Thing") ∈ lw_all := lw_g (lw_at lw_m1 49 rfl) rfl
theorem q787 : (Jvm.Cond.selects "Weaversgate$Thing" ({ cls := "java/lang/Object", name := "getClass", desc := "()Ljava/lang/Class;" } : Jvm.MethodName) ({ cls := "java/lang/Object", name := "getClass", desc := "()Ljava/lang/Class;" } : Jvm.MethodName)) ∈ lw_all := lw_g (lw_at lw_m4 8 rfl) rfl
theorem q953 : (Jvm.Cond.instantiable "Weaversgate$Thing" (2 : Nat)) ∈ lw_all := lw_g (lw_at lw_m4 174 rfl) rfl
theorem q955 : (Jvm.Cond.instanceMethod ({ cls := "Weaversgate$Thing", name := "<init>", desc := "(LWeaversgate$Type;)V" } : Jvm.MethodName)) ∈ lw_all := lw_g (lw_at lw_m4 176 rfl) rfl
theorem q956 : (Jvm.Cond.code ({ cls := "Weaversgate$Thing", name := "<init>", desc := "(LWeaversgate$Type;)V" } : Jvm.MethodName) prog_16_method_1_code (2 : Nat) (Option.none : Option Jvm.ClassFile.FieldType)) ∈ lw_all := lw_g (lw_at lw_m4 177 rfl) rfl
theorem q957 : (Jvm.Cond.methodLink "Weaversgate$Thing" (3 : Nat) ({ cls := "java/lang/Object", name := "<init>", desc := "()V" } : Jvm.MethodName)) ∈ lw_all := lw_g (lw_at lw_m4 178 rfl) rfl
theorem q958 : (Jvm.Cond.fieldLink "Weaversgate$Thing" (15 : Nat) "Weaversgate$Thing" "type" "LWeaversgate$Type;") ∈ lw_all := lw_g (lw_at lw_m4 179 rfl) rfl
theorem q960 : (Jvm.Cond.fieldLink "Weaversgate$Thing" (9 : Nat) "Weaversgate$Thing" "fields" "[I") ∈ lw_all := lw_g (lw_at lw_m4 181 rfl) rfl
theorem q962 : (Jvm.Cond.laysFinal "Weaversgate$Thing" "Weaversgate$Thing" "type" "LWeaversgate$Type;") ∈ lw_all := lw_g (lw_at lw_m4 183 rfl) rfl
theorem q963 : (Jvm.Cond.soleField "Weaversgate$Thing" "type") ∈ lw_all := lw_g (lw_at lw_m4 184 rfl) rfl
theorem q964 : (Jvm.Cond.laysFinal "Weaversgate$Thing" "Weaversgate$Thing" "fields" "[I") ∈ lw_all := lw_g (lw_at lw_m4 185 rfl) rfl
theorem q965 : (Jvm.Cond.soleField "Weaversgate$Thing" "fields") ∈ lw_all := lw_g (lw_at lw_m4 186 rfl) rfl
theorem q966 : (Jvm.Cond.superclass "Weaversgate$Thing" "java/lang/Object") ∈ lw_all := lw_g (lw_at lw_m4 187 rfl) rfl
theorem q2046 : (Jvm.Cond.selects "Weaversgate$Thing" ({ cls := "java/lang/Object", name := "equals", desc := "(Ljava/lang/Object;)Z" } : Jvm.MethodName) ({ cls := "java/lang/Object", name := "equals", desc := "(Ljava/lang/Object;)Z" } : Jvm.MethodName)) ∈ lw_all := lw_g (lw_at lw_m9 67 rfl) rfl
theorem q2631 : (Jvm.Cond.castable "Weaversgate$Thing" "java/lang/Object") ∈ lw_tbl := lw_at lw_m11 172 rfl
theorem in_X22 : ∀ w ∈ wsX220, w ∈ lw_all := lw_in wsX220 [962, 964] (by decide +kernel) (by decide +kernel)

/-! Weaversgate$Thrown -/
set_option maxRecDepth 100000
def RX23 : String := "Weaversgate$Thrown"
def TX23 : u_T := fun k => match k with
  | 0 => ("java/lang/Throwable", "cause", "Ljava/lang/Throwable;", false)
  | 1 => ("java/lang/Throwable", "stackTrace", "[Ljava/lang/StackTraceElement;", false)
  | 2 => ("java/lang/Throwable", "suppressedExceptions", "Ljava/util/List;", false)
  | 3 => ("java/lang/Throwable", "detailMessage", "Ljava/lang/String;", false)
  | 4 => ("java/lang/Throwable", "backtrace", "Ljava/lang/Object;", false)
  | 5 => ("java/lang/Throwable", "depth", "I", false)
  | _ => ("Weaversgate$Thrown", "number", "I", true)
def tyX23 : Nat → FieldType := fun k => match k with
  | 0 => .object "java/lang/Throwable"
  | 1 => .array (.object "java/lang/StackTraceElement")
  | 2 => .object "java/util/List"
  | 3 => .object "java/lang/String"
  | 4 => .object "java/lang/Object"
  | 5 => .int
  | _ => .int
abbrev wsX230 : List Cond := u_ws RX23 TX23 7
theorem nmX23 : ∀ a, a < 7 → ∀ b, b < 7 → a ≠ b → (TX23 a).2.1 ≠ (TX23 b).2.1 := by decide +kernel
theorem tyX23_ok : ∀ k, k < 7 → parseFieldDescriptor (TX23 k).2.2.1 = some (tyX23 k) := by decide +kernel
abbrev cX23_init : ByteArray := prog_17_method_1_code
def yX23_init : MethodName := ⟨RX23, "<init>", "(I)V"⟩
def dkwX23_init_0 : List UInt8 := [42, 183, 0, 1, 42, 27, 181, 0, 7, 177]
abbrev dktX23_init_0 : List UInt8 := dkwX23_init_0 ++ []
theorem dksX23_init_0 : cX23_init.data.toList.drop 0 = dktX23_init_0 := by decide +kernel
theorem dX23_init_0 : decode cX23_init 0 = .ok (.aload_n 0, 1) := dk_42 (dk_at dksX23_init_0 0 rfl rfl)
theorem dX23_init_1 : decode cX23_init 1 = .ok (.invokespecial 1, 3) := dk_183 0 1 (dk_at dksX23_init_0 1 rfl rfl)
theorem dX23_init_4 : decode cX23_init 4 = .ok (.aload_n 0, 1) := dk_42 (dk_at dksX23_init_0 4 rfl rfl)
theorem dX23_init_5 : decode cX23_init 5 = .ok (.iload_n 1, 1) := dk_27 (dk_at dksX23_init_0 5 rfl rfl)
theorem dX23_init_6 : decode cX23_init 6 = .ok (.putfield 7, 3) := dk_181 0 7 (dk_at dksX23_init_0 6 rfl rfl)
theorem dX23_init_9 : decode cX23_init 9 = .ok (.return_, 1) := dk_177 (dk_at dksX23_init_0 9 rfl rfl)
theorem q109 : (Jvm.Cond.initialized "Weaversgate$Thrown") ∈ lw_all := lw_g (lw_at lw_m1 50 rfl) rfl
theorem q414 : (Jvm.Cond.selects "Weaversgate$Thrown" ({ cls := "java/lang/Throwable", name := "fillInStackTrace", desc := "()Ljava/lang/Throwable;" } : Jvm.MethodName) ({ cls := "java/lang/Throwable", name := "fillInStackTrace", desc := "()Ljava/lang/Throwable;" } : Jvm.MethodName)) ∈ lw_all := lw_g (lw_at lw_m2 115 rfl) rfl
theorem q788 : (Jvm.Cond.selects "Weaversgate$Thrown" ({ cls := "java/lang/Object", name := "getClass", desc := "()Ljava/lang/Class;" } : Jvm.MethodName) ({ cls := "java/lang/Object", name := "getClass", desc := "()Ljava/lang/Class;" } : Jvm.MethodName)) ∈ lw_all := lw_g (lw_at lw_m4 9 rfl) rfl
theorem q979 : (Jvm.Cond.instantiable "Weaversgate$Thrown" (7 : Nat)) ∈ lw_all := lw_g (lw_at lw_m4 200 rfl) rfl
theorem q980 : (Jvm.Cond.castable "Weaversgate$Thrown" "Weaversgate$Thrown") ∈ lw_tbl := lw_at lw_m4 201 rfl
theorem q981 : (Jvm.Cond.selects "Weaversgate$Thrown" ({ cls := "java/lang/Throwable", name := "fillInStackTrace", desc := "(I)Ljava/lang/Throwable;" } : Jvm.MethodName) ({ cls := "java/lang/Throwable", name := "fillInStackTrace", desc := "(I)Ljava/lang/Throwable;" } : Jvm.MethodName)) ∈ lw_all := lw_g (lw_at lw_m4 202 rfl) rfl
theorem q982 : (Jvm.Cond.lays "Weaversgate$Thrown" "java/lang/Throwable" "cause" "Ljava/lang/Throwable;") ∈ lw_all := lw_g (lw_at lw_m4 203 rfl) rfl
theorem q983 : (Jvm.Cond.lays "Weaversgate$Thrown" "java/lang/Throwable" "stackTrace" "[Ljava/lang/StackTraceElement;") ∈ lw_all := lw_g (lw_at lw_m4 204 rfl) rfl
theorem q984 : (Jvm.Cond.lays "Weaversgate$Thrown" "java/lang/Throwable" "suppressedExceptions" "Ljava/util/List;") ∈ lw_all := lw_g (lw_at lw_m4 205 rfl) rfl
theorem q985 : (Jvm.Cond.lays "Weaversgate$Thrown" "java/lang/Throwable" "detailMessage" "Ljava/lang/String;") ∈ lw_all := lw_g (lw_at lw_m4 206 rfl) rfl
theorem q986 : (Jvm.Cond.lays "Weaversgate$Thrown" "java/lang/Throwable" "backtrace" "Ljava/lang/Object;") ∈ lw_all := lw_g (lw_at lw_m4 207 rfl) rfl
theorem q988 : (Jvm.Cond.instanceMethod ({ cls := "Weaversgate$Thrown", name := "<init>", desc := "(I)V" } : Jvm.MethodName)) ∈ lw_all := lw_g (lw_at lw_m4 209 rfl) rfl
theorem q989 : (Jvm.Cond.code ({ cls := "Weaversgate$Thrown", name := "<init>", desc := "(I)V" } : Jvm.MethodName) prog_17_method_1_code (2 : Nat) (Option.none : Option Jvm.ClassFile.FieldType)) ∈ lw_all := lw_g (lw_at lw_m4 210 rfl) rfl
theorem q990 : (Jvm.Cond.methodLink "Weaversgate$Thrown" (1 : Nat) ({ cls := "java/lang/Exception", name := "<init>", desc := "()V" } : Jvm.MethodName)) ∈ lw_all := lw_g (lw_at lw_m4 211 rfl) rfl
theorem q994 : (Jvm.Cond.fieldLink "Weaversgate$Thrown" (7 : Nat) "Weaversgate$Thrown" "number" "I") ∈ lw_all := lw_g (lw_at lw_m4 215 rfl) rfl
theorem q996 : (Jvm.Cond.laysFinal "Weaversgate$Thrown" "Weaversgate$Thrown" "number" "I") ∈ lw_all := lw_g (lw_at lw_m4 217 rfl) rfl
theorem q997 : (Jvm.Cond.soleField "Weaversgate$Thrown" "number") ∈ lw_all := lw_g (lw_at lw_m4 218 rfl) rfl
theorem q998 : (Jvm.Cond.lays "Weaversgate$Thrown" "java/lang/Throwable" "depth" "I") ∈ lw_all := lw_g (lw_at lw_m4 219 rfl) rfl
theorem q999 : (Jvm.Cond.superclass "Weaversgate$Thrown" "java/lang/Exception") ∈ lw_all := lw_g (lw_at lw_m4 220 rfl) rfl
theorem q2047 : (Jvm.Cond.selects "Weaversgate$Thrown" ({ cls := "java/lang/Object", name := "equals", desc := "(Ljava/lang/Object;)Z" } : Jvm.MethodName) ({ cls := "java/lang/Object", name := "equals", desc := "(Ljava/lang/Object;)Z" } : Jvm.MethodName)) ∈ lw_all := lw_g (lw_at lw_m9 68 rfl) rfl
theorem q2632 : (Jvm.Cond.castable "Weaversgate$Thrown" "java/lang/Object") ∈ lw_tbl := lw_at lw_m11 173 rfl
theorem in_X23 : ∀ w ∈ wsX230, w ∈ lw_all := lw_in wsX230 [982, 983, 984, 985, 986, 998, 996] (by decide +kernel) (by decide +kernel)

/-! Weaversgate$GivenUp -/
set_option maxRecDepth 100000
def RX24 : String := "Weaversgate$GivenUp"
def TX24 : u_T := fun k => match k with
  | 0 => ("java/lang/Throwable", "cause", "Ljava/lang/Throwable;", false)
  | 1 => ("java/lang/Throwable", "stackTrace", "[Ljava/lang/StackTraceElement;", false)
  | 2 => ("java/lang/Throwable", "suppressedExceptions", "Ljava/util/List;", false)
  | 3 => ("java/lang/Throwable", "detailMessage", "Ljava/lang/String;", false)
  | 4 => ("java/lang/Throwable", "backtrace", "Ljava/lang/Object;", false)
  | _ => ("java/lang/Throwable", "depth", "I", false)
def tyX24 : Nat → FieldType := fun k => match k with
  | 0 => .object "java/lang/Throwable"
  | 1 => .array (.object "java/lang/StackTraceElement")
  | 2 => .object "java/util/List"
  | 3 => .object "java/lang/String"
  | 4 => .object "java/lang/Object"
  | _ => .int
abbrev wsX240 : List Cond := u_ws RX24 TX24 6
theorem nmX24 : ∀ a, a < 6 → ∀ b, b < 6 → a ≠ b → (TX24 a).2.1 ≠ (TX24 b).2.1 := by decide +kernel
theorem tyX24_ok : ∀ k, k < 6 → parseFieldDescriptor (TX24 k).2.2.1 = some (tyX24 k) := by decide +kernel
abbrev cX24_init : ByteArray := prog_5_method_1_code
def yX24_init : MethodName := ⟨RX24, "<init>", "()V"⟩
theorem dX24_init_0 : decode cX24_init 0 = .ok (.aload_n 0, 1) := by decide +kernel
theorem dX24_init_1 : decode cX24_init 1 = .ok (.invokespecial 1, 3) := by decide +kernel
theorem dX24_init_4 : decode cX24_init 4 = .ok (.return_, 1) := by decide +kernel
theorem q110 : (Jvm.Cond.initialized "Weaversgate$GivenUp") ∈ lw_all := lw_g (lw_at lw_m1 51 rfl) rfl
theorem q413 : (Jvm.Cond.selects "Weaversgate$GivenUp" ({ cls := "java/lang/Throwable", name := "fillInStackTrace", desc := "()Ljava/lang/Throwable;" } : Jvm.MethodName) ({ cls := "java/lang/Throwable", name := "fillInStackTrace", desc := "()Ljava/lang/Throwable;" } : Jvm.MethodName)) ∈ lw_all := lw_g (lw_at lw_m2 114 rfl) rfl
theorem q777 : (Jvm.Cond.selects "Weaversgate$GivenUp" ({ cls := "java/lang/Object", name := "getClass", desc := "()Ljava/lang/Class;" } : Jvm.MethodName) ({ cls := "java/lang/Object", name := "getClass", desc := "()Ljava/lang/Class;" } : Jvm.MethodName)) ∈ lw_all := lw_g (lw_at lw_m3 238 rfl) rfl
theorem q1036 : (Jvm.Cond.instantiable "Weaversgate$GivenUp" (6 : Nat)) ∈ lw_all := lw_g (lw_at lw_m5 17 rfl) rfl
theorem q1037 : (Jvm.Cond.castable "Weaversgate$GivenUp" "Weaversgate$GivenUp") ∈ lw_tbl := lw_at lw_m5 18 rfl
theorem q1038 : (Jvm.Cond.selects "Weaversgate$GivenUp" ({ cls := "java/lang/Throwable", name := "fillInStackTrace", desc := "(I)Ljava/lang/Throwable;" } : Jvm.MethodName) ({ cls := "java/lang/Throwable", name := "fillInStackTrace", desc := "(I)Ljava/lang/Throwable;" } : Jvm.MethodName)) ∈ lw_all := lw_g (lw_at lw_m5 19 rfl) rfl
theorem q1039 : (Jvm.Cond.lays "Weaversgate$GivenUp" "java/lang/Throwable" "cause" "Ljava/lang/Throwable;") ∈ lw_all := lw_g (lw_at lw_m5 20 rfl) rfl
theorem q1040 : (Jvm.Cond.lays "Weaversgate$GivenUp" "java/lang/Throwable" "stackTrace" "[Ljava/lang/StackTraceElement;") ∈ lw_all := lw_g (lw_at lw_m5 21 rfl) rfl
theorem q1041 : (Jvm.Cond.lays "Weaversgate$GivenUp" "java/lang/Throwable" "suppressedExceptions" "Ljava/util/List;") ∈ lw_all := lw_g (lw_at lw_m5 22 rfl) rfl
theorem q1042 : (Jvm.Cond.lays "Weaversgate$GivenUp" "java/lang/Throwable" "detailMessage" "Ljava/lang/String;") ∈ lw_all := lw_g (lw_at lw_m5 23 rfl) rfl
theorem q1043 : (Jvm.Cond.lays "Weaversgate$GivenUp" "java/lang/Throwable" "backtrace" "Ljava/lang/Object;") ∈ lw_all := lw_g (lw_at lw_m5 24 rfl) rfl
theorem q1045 : (Jvm.Cond.instanceMethod ({ cls := "Weaversgate$GivenUp", name := "<init>", desc := "()V" } : Jvm.MethodName)) ∈ lw_all := lw_g (lw_at lw_m5 26 rfl) rfl
theorem q1046 : (Jvm.Cond.code ({ cls := "Weaversgate$GivenUp", name := "<init>", desc := "()V" } : Jvm.MethodName) prog_5_method_1_code (1 : Nat) (Option.none : Option Jvm.ClassFile.FieldType)) ∈ lw_all := lw_g (lw_at lw_m5 27 rfl) rfl
theorem q1047 : (Jvm.Cond.methodLink "Weaversgate$GivenUp" (1 : Nat) ({ cls := "java/lang/RuntimeException", name := "<init>", desc := "()V" } : Jvm.MethodName)) ∈ lw_all := lw_g (lw_at lw_m5 28 rfl) rfl
theorem q1051 : (Jvm.Cond.lays "Weaversgate$GivenUp" "java/lang/Throwable" "depth" "I") ∈ lw_all := lw_g (lw_at lw_m5 32 rfl) rfl
theorem q1052 : (Jvm.Cond.superclass "Weaversgate$GivenUp" "java/lang/RuntimeException") ∈ lw_all := lw_g (lw_at lw_m5 33 rfl) rfl
theorem q2036 : (Jvm.Cond.selects "Weaversgate$GivenUp" ({ cls := "java/lang/Object", name := "equals", desc := "(Ljava/lang/Object;)Z" } : Jvm.MethodName) ({ cls := "java/lang/Object", name := "equals", desc := "(Ljava/lang/Object;)Z" } : Jvm.MethodName)) ∈ lw_all := lw_g (lw_at lw_m9 57 rfl) rfl
theorem q2633 : (Jvm.Cond.castable "Weaversgate$GivenUp" "java/lang/Object") ∈ lw_tbl := lw_at lw_m11 174 rfl
theorem in_X24 : ∀ w ∈ wsX240, w ∈ lw_all := lw_in wsX240 [1039, 1040, 1041, 1042, 1043, 1051] (by decide +kernel) (by decide +kernel)

/-! Weaversgate$Point -/
set_option maxRecDepth 100000
def RX25 : String := "Weaversgate$Point"
def TX25 : u_T := fun k => match k with
  | 0 => ("Weaversgate$Point", "kind", "C", true)
  | 1 => ("Weaversgate$Point", "name", "I", true)
  | 2 => ("Weaversgate$Point", "type", "LWeaversgate$Type;", true)
  | 3 => ("Weaversgate$Point", "within", "I", true)
  | 4 => ("Weaversgate$Point", "value", "I", true)
  | 5 => ("Weaversgate$Point", "outer", "LWeaversgate$Point;", true)
  | 6 => ("Weaversgate$Point", "known", "I", false)
  | _ => ("Weaversgate$Point", "held", "I", false)
def tyX25 : Nat → FieldType := fun k => match k with
  | 0 => .char
  | 1 => .int
  | 2 => .object "Weaversgate$Type"
  | 3 => .int
  | 4 => .int
  | 5 => .object "Weaversgate$Point"
  | 6 => .int
  | _ => .int
abbrev wsX250 : List Cond := u_ws RX25 TX25 8
theorem nmX25 : ∀ a, a < 8 → ∀ b, b < 8 → a ≠ b → (TX25 a).2.1 ≠ (TX25 b).2.1 := by decide +kernel
theorem tyX25_ok : ∀ k, k < 8 → parseFieldDescriptor (TX25 k).2.2.1 = some (tyX25 k) := by decide +kernel
abbrev cX25_goingOn : ByteArray := prog_13_method_2_code
def yX25_goingOn : MethodName := ⟨RX25, "goingOn", "()I"⟩
def dkwX25_goingOn_0 : List UInt8 := [42, 180, 0, 27, 199, 0, 7, 4, 167, 0, 12, 42, 180, 0, 27, 182, 0, 31, 4, 96, 172]
abbrev dktX25_goingOn_0 : List UInt8 := dkwX25_goingOn_0 ++ []
theorem dksX25_goingOn_0 : cX25_goingOn.data.toList.drop 0 = dktX25_goingOn_0 := by decide +kernel
theorem dX25_goingOn_0 : decode cX25_goingOn 0 = .ok (.aload_n 0, 1) := dk_42 (dk_at dksX25_goingOn_0 0 rfl rfl)
theorem dX25_goingOn_1 : decode cX25_goingOn 1 = .ok (.getfield 27, 3) := dk_180 0 27 (dk_at dksX25_goingOn_0 1 rfl rfl)
theorem dX25_goingOn_4 : decode cX25_goingOn 4 = .ok (.ifnonnull 7, 3) := dk_199 0 7 (dk_at dksX25_goingOn_0 4 rfl rfl)
theorem dX25_goingOn_7 : decode cX25_goingOn 7 = .ok (.iconst 1, 1) := dk_4 (dk_at dksX25_goingOn_0 7 rfl rfl)
theorem dX25_goingOn_8 : decode cX25_goingOn 8 = .ok (.goto 12, 3) := dk_167 0 12 (dk_at dksX25_goingOn_0 8 rfl rfl)
theorem dX25_goingOn_11 : decode cX25_goingOn 11 = .ok (.aload_n 0, 1) := dk_42 (dk_at dksX25_goingOn_0 11 rfl rfl)
theorem dX25_goingOn_12 : decode cX25_goingOn 12 = .ok (.getfield 27, 3) := dk_180 0 27 (dk_at dksX25_goingOn_0 12 rfl rfl)
theorem dX25_goingOn_15 : decode cX25_goingOn 15 = .ok (.invokevirtual 31, 3) := dk_182 0 31 (dk_at dksX25_goingOn_0 15 rfl rfl)
theorem dX25_goingOn_18 : decode cX25_goingOn 18 = .ok (.iconst 1, 1) := dk_4 (dk_at dksX25_goingOn_0 18 rfl rfl)
theorem dX25_goingOn_19 : decode cX25_goingOn 19 = .ok (.iadd, 1) := dk_96 (dk_at dksX25_goingOn_0 19 rfl rfl)
theorem dX25_goingOn_20 : decode cX25_goingOn 20 = .ok (.ireturn, 1) := dk_172 (dk_at dksX25_goingOn_0 20 rfl rfl)
abbrev cX25_init : ByteArray := prog_13_method_1_code
def yX25_init : MethodName := ⟨RX25, "<init>", "(CILWeaversgate$Type;IILWeaversgate$Point;)V"⟩
def dkwX25_init_1 : List UInt8 := [181, 0, 21, 42, 21, 5, 181, 0, 24, 42, 25, 6, 181, 0, 27, 177]
abbrev dktX25_init_1 : List UInt8 := dkwX25_init_1 ++ []
def dkwX25_init_0 : List UInt8 := [42, 183, 0, 1, 42, 27, 181, 0, 7, 42, 28, 181, 0, 13, 42, 45, 181, 0, 17, 42, 21, 4]
abbrev dktX25_init_0 : List UInt8 := dkwX25_init_0 ++ dktX25_init_1
theorem dksX25_init_0 : cX25_init.data.toList.drop 0 = dktX25_init_0 := by decide +kernel
theorem dksX25_init_1 : cX25_init.data.toList.drop 22 = dktX25_init_1 := dk_seg dksX25_init_0 22 rfl rfl
theorem dX25_init_0 : decode cX25_init 0 = .ok (.aload_n 0, 1) := dk_42 (dk_at dksX25_init_0 0 rfl rfl)
theorem dX25_init_1 : decode cX25_init 1 = .ok (.invokespecial 1, 3) := dk_183 0 1 (dk_at dksX25_init_0 1 rfl rfl)
theorem dX25_init_4 : decode cX25_init 4 = .ok (.aload_n 0, 1) := dk_42 (dk_at dksX25_init_0 4 rfl rfl)
theorem dX25_init_5 : decode cX25_init 5 = .ok (.iload_n 1, 1) := dk_27 (dk_at dksX25_init_0 5 rfl rfl)
theorem dX25_init_6 : decode cX25_init 6 = .ok (.putfield 7, 3) := dk_181 0 7 (dk_at dksX25_init_0 6 rfl rfl)
theorem dX25_init_9 : decode cX25_init 9 = .ok (.aload_n 0, 1) := dk_42 (dk_at dksX25_init_0 9 rfl rfl)
theorem dX25_init_10 : decode cX25_init 10 = .ok (.iload_n 2, 1) := dk_28 (dk_at dksX25_init_0 10 rfl rfl)
theorem dX25_init_11 : decode cX25_init 11 = .ok (.putfield 13, 3) := dk_181 0 13 (dk_at dksX25_init_0 11 rfl rfl)
theorem dX25_init_14 : decode cX25_init 14 = .ok (.aload_n 0, 1) := dk_42 (dk_at dksX25_init_0 14 rfl rfl)
theorem dX25_init_15 : decode cX25_init 15 = .ok (.aload_n 3, 1) := dk_45 (dk_at dksX25_init_0 15 rfl rfl)
theorem dX25_init_16 : decode cX25_init 16 = .ok (.putfield 17, 3) := dk_181 0 17 (dk_at dksX25_init_0 16 rfl rfl)
theorem dX25_init_19 : decode cX25_init 19 = .ok (.aload_n 0, 1) := dk_42 (dk_at dksX25_init_0 19 rfl rfl)
theorem dX25_init_20 : decode cX25_init 20 = .ok (.iload 4, 2) := dk_21 4 (dk_at dksX25_init_0 20 rfl rfl)
theorem dX25_init_22 : decode cX25_init 22 = .ok (.putfield 21, 3) := dk_181 0 21 (dk_at dksX25_init_1 0 rfl rfl)
theorem dX25_init_25 : decode cX25_init 25 = .ok (.aload_n 0, 1) := dk_42 (dk_at dksX25_init_1 3 rfl rfl)
theorem dX25_init_26 : decode cX25_init 26 = .ok (.iload 5, 2) := dk_21 5 (dk_at dksX25_init_1 4 rfl rfl)
theorem dX25_init_28 : decode cX25_init 28 = .ok (.putfield 24, 3) := dk_181 0 24 (dk_at dksX25_init_1 6 rfl rfl)
theorem dX25_init_31 : decode cX25_init 31 = .ok (.aload_n 0, 1) := dk_42 (dk_at dksX25_init_1 9 rfl rfl)
theorem dX25_init_32 : decode cX25_init 32 = .ok (.aload 6, 2) := dk_25 6 (dk_at dksX25_init_1 10 rfl rfl)
theorem dX25_init_34 : decode cX25_init 34 = .ok (.putfield 27, 3) := dk_181 0 27 (dk_at dksX25_init_1 12 rfl rfl)
theorem dX25_init_37 : decode cX25_init 37 = .ok (.return_, 1) := dk_177 (dk_at dksX25_init_1 15 rfl rfl)
theorem q111 : (Jvm.Cond.initialized "Weaversgate$Point") ∈ lw_all := lw_g (lw_at lw_m1 52 rfl) rfl
theorem q784 : (Jvm.Cond.selects "Weaversgate$Point" ({ cls := "java/lang/Object", name := "getClass", desc := "()Ljava/lang/Class;" } : Jvm.MethodName) ({ cls := "java/lang/Object", name := "getClass", desc := "()Ljava/lang/Class;" } : Jvm.MethodName)) ∈ lw_all := lw_g (lw_at lw_m4 5 rfl) rfl
theorem q1032 : (Jvm.Cond.instanceMethod ({ cls := "Weaversgate$Point", name := "goingOn", desc := "()I" } : Jvm.MethodName)) ∈ lw_all := lw_g (lw_at lw_m5 13 rfl) rfl
theorem q1033 : (Jvm.Cond.selects "Weaversgate$Point" ({ cls := "Weaversgate$Point", name := "goingOn", desc := "()I" } : Jvm.MethodName) ({ cls := "Weaversgate$Point", name := "goingOn", desc := "()I" } : Jvm.MethodName)) ∈ lw_all := lw_g (lw_at lw_m5 14 rfl) rfl
theorem q1034 : (Jvm.Cond.code ({ cls := "Weaversgate$Point", name := "goingOn", desc := "()I" } : Jvm.MethodName) prog_13_method_2_code (1 : Nat) (Option.some Jvm.ClassFile.FieldType.int)) ∈ lw_all := lw_g (lw_at lw_m5 15 rfl) rfl
theorem q1035 : (Jvm.Cond.methodLink "Weaversgate$Point" (31 : Nat) ({ cls := "Weaversgate$Point", name := "goingOn", desc := "()I" } : Jvm.MethodName)) ∈ lw_all := lw_g (lw_at lw_m5 16 rfl) rfl
theorem q1054 : (Jvm.Cond.instantiable "Weaversgate$Point" (8 : Nat)) ∈ lw_all := lw_g (lw_at lw_m5 35 rfl) rfl
theorem q1056 : (Jvm.Cond.instanceMethod ({ cls := "Weaversgate$Point", name := "<init>", desc := "(CILWeaversgate$Type;IILWeaversgate$Point;)V" } : Jvm.MethodName)) ∈ lw_all := lw_g (lw_at lw_m5 37 rfl) rfl
theorem q1057 : (Jvm.Cond.code ({ cls := "Weaversgate$Point", name := "<init>", desc := "(CILWeaversgate$Type;IILWeaversgate$Point;)V" } : Jvm.MethodName) prog_13_method_1_code (7 : Nat) (Option.none : Option Jvm.ClassFile.FieldType)) ∈ lw_all := lw_g (lw_at lw_m5 38 rfl) rfl
theorem q1058 : (Jvm.Cond.methodLink "Weaversgate$Point" (1 : Nat) ({ cls := "java/lang/Object", name := "<init>", desc := "()V" } : Jvm.MethodName)) ∈ lw_all := lw_g (lw_at lw_m5 39 rfl) rfl
theorem q1059 : (Jvm.Cond.fieldLink "Weaversgate$Point" (7 : Nat) "Weaversgate$Point" "kind" "C") ∈ lw_all := lw_g (lw_at lw_m5 40 rfl) rfl
theorem q1061 : (Jvm.Cond.fieldLink "Weaversgate$Point" (13 : Nat) "Weaversgate$Point" "name" "I") ∈ lw_all := lw_g (lw_at lw_m5 42 rfl) rfl
theorem q1063 : (Jvm.Cond.fieldLink "Weaversgate$Point" (17 : Nat) "Weaversgate$Point" "type" "LWeaversgate$Type;") ∈ lw_all := lw_g (lw_at lw_m5 44 rfl) rfl
theorem q1065 : (Jvm.Cond.fieldLink "Weaversgate$Point" (21 : Nat) "Weaversgate$Point" "within" "I") ∈ lw_all := lw_g (lw_at lw_m5 46 rfl) rfl
theorem q1067 : (Jvm.Cond.fieldLink "Weaversgate$Point" (24 : Nat) "Weaversgate$Point" "value" "I") ∈ lw_all := lw_g (lw_at lw_m5 48 rfl) rfl
theorem q1069 : (Jvm.Cond.fieldLink "Weaversgate$Point" (27 : Nat) "Weaversgate$Point" "outer" "LWeaversgate$Point;") ∈ lw_all := lw_g (lw_at lw_m5 50 rfl) rfl
theorem q1073 : (Jvm.Cond.laysFinal "Weaversgate$Point" "Weaversgate$Point" "kind" "C") ∈ lw_all := lw_g (lw_at lw_m5 54 rfl) rfl
theorem q1074 : (Jvm.Cond.soleField "Weaversgate$Point" "kind") ∈ lw_all := lw_g (lw_at lw_m5 55 rfl) rfl
theorem q1075 : (Jvm.Cond.laysFinal "Weaversgate$Point" "Weaversgate$Point" "name" "I") ∈ lw_all := lw_g (lw_at lw_m5 56 rfl) rfl
theorem q1076 : (Jvm.Cond.soleField "Weaversgate$Point" "name") ∈ lw_all := lw_g (lw_at lw_m5 57 rfl) rfl
theorem q1077 : (Jvm.Cond.laysFinal "Weaversgate$Point" "Weaversgate$Point" "type" "LWeaversgate$Type;") ∈ lw_all := lw_g (lw_at lw_m5 58 rfl) rfl
theorem q1078 : (Jvm.Cond.soleField "Weaversgate$Point" "type") ∈ lw_all := lw_g (lw_at lw_m5 59 rfl) rfl
theorem q1079 : (Jvm.Cond.laysFinal "Weaversgate$Point" "Weaversgate$Point" "within" "I") ∈ lw_all := lw_g (lw_at lw_m5 60 rfl) rfl
theorem q1080 : (Jvm.Cond.soleField "Weaversgate$Point" "within") ∈ lw_all := lw_g (lw_at lw_m5 61 rfl) rfl
theorem q1081 : (Jvm.Cond.laysFinal "Weaversgate$Point" "Weaversgate$Point" "value" "I") ∈ lw_all := lw_g (lw_at lw_m5 62 rfl) rfl
theorem q1082 : (Jvm.Cond.soleField "Weaversgate$Point" "value") ∈ lw_all := lw_g (lw_at lw_m5 63 rfl) rfl
theorem q1083 : (Jvm.Cond.laysFinal "Weaversgate$Point" "Weaversgate$Point" "outer" "LWeaversgate$Point;") ∈ lw_all := lw_g (lw_at lw_m5 64 rfl) rfl
theorem q1084 : (Jvm.Cond.soleField "Weaversgate$Point" "outer") ∈ lw_all := lw_g (lw_at lw_m5 65 rfl) rfl
theorem q1085 : (Jvm.Cond.lays "Weaversgate$Point" "Weaversgate$Point" "known" "I") ∈ lw_all := lw_g (lw_at lw_m5 66 rfl) rfl
theorem q1086 : (Jvm.Cond.soleField "Weaversgate$Point" "known") ∈ lw_all := lw_g (lw_at lw_m5 67 rfl) rfl
theorem q1087 : (Jvm.Cond.lays "Weaversgate$Point" "Weaversgate$Point" "held" "I") ∈ lw_all := lw_g (lw_at lw_m5 68 rfl) rfl
theorem q1088 : (Jvm.Cond.soleField "Weaversgate$Point" "held") ∈ lw_all := lw_g (lw_at lw_m5 69 rfl) rfl
theorem q1089 : (Jvm.Cond.superclass "Weaversgate$Point" "java/lang/Object") ∈ lw_all := lw_g (lw_at lw_m5 70 rfl) rfl
theorem q2043 : (Jvm.Cond.selects "Weaversgate$Point" ({ cls := "java/lang/Object", name := "equals", desc := "(Ljava/lang/Object;)Z" } : Jvm.MethodName) ({ cls := "java/lang/Object", name := "equals", desc := "(Ljava/lang/Object;)Z" } : Jvm.MethodName)) ∈ lw_all := lw_g (lw_at lw_m9 64 rfl) rfl
theorem q2634 : (Jvm.Cond.castable "Weaversgate$Point" "java/lang/Object") ∈ lw_tbl := lw_at lw_m11 175 rfl
theorem in_X25 : ∀ w ∈ wsX250, w ∈ lw_all := lw_in wsX250 [1073, 1075, 1077, 1079, 1081, 1083, 1085, 1087] (by decide +kernel) (by decide +kernel)
