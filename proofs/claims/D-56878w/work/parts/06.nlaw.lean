/-! WeaversgateLaw -/
set_option maxRecDepth 100000
def RX0 : String := "WeaversgateLaw"
abbrev cX0_addClass : ByteArray := method_3_code
def yX0_addClass : MethodName := ⟨RX0, "addClass", "(LWeaversgate;I[J)I"⟩
def dkwX0_addClass_0 : List UInt8 := [44, 3, 42, 27, 182, 0, 7, 133, 80, 167, 0, 9, 78, 4, 172, 78, 5, 172, 3, 172]
abbrev dktX0_addClass_0 : List UInt8 := dkwX0_addClass_0 ++ []
theorem dksX0_addClass_0 : cX0_addClass.data.toList.drop 0 = dktX0_addClass_0 := by decide +kernel
theorem dX0_addClass_0 : decode cX0_addClass 0 = .ok (.aload_n 2, 1) := dk_44 (dk_at dksX0_addClass_0 0 rfl rfl)
theorem dX0_addClass_1 : decode cX0_addClass 1 = .ok (.iconst 0, 1) := dk_3 (dk_at dksX0_addClass_0 1 rfl rfl)
theorem dX0_addClass_2 : decode cX0_addClass 2 = .ok (.aload_n 0, 1) := dk_42 (dk_at dksX0_addClass_0 2 rfl rfl)
theorem dX0_addClass_3 : decode cX0_addClass 3 = .ok (.iload_n 1, 1) := dk_27 (dk_at dksX0_addClass_0 3 rfl rfl)
theorem dX0_addClass_4 : decode cX0_addClass 4 = .ok (.invokevirtual 7, 3) := dk_182 0 7 (dk_at dksX0_addClass_0 4 rfl rfl)
theorem dX0_addClass_7 : decode cX0_addClass 7 = .ok (.i2l, 1) := dk_133 (dk_at dksX0_addClass_0 7 rfl rfl)
theorem dX0_addClass_8 : decode cX0_addClass 8 = .ok (.lastore, 1) := dk_80 (dk_at dksX0_addClass_0 8 rfl rfl)
theorem dX0_addClass_9 : decode cX0_addClass 9 = .ok (.goto 9, 3) := dk_167 0 9 (dk_at dksX0_addClass_0 9 rfl rfl)
theorem dX0_addClass_12 : decode cX0_addClass 12 = .ok (.astore_n 3, 1) := dk_78 (dk_at dksX0_addClass_0 12 rfl rfl)
theorem dX0_addClass_13 : decode cX0_addClass 13 = .ok (.iconst 1, 1) := dk_4 (dk_at dksX0_addClass_0 13 rfl rfl)
theorem dX0_addClass_14 : decode cX0_addClass 14 = .ok (.ireturn, 1) := dk_172 (dk_at dksX0_addClass_0 14 rfl rfl)
theorem dX0_addClass_15 : decode cX0_addClass 15 = .ok (.astore_n 3, 1) := dk_78 (dk_at dksX0_addClass_0 15 rfl rfl)
theorem dX0_addClass_16 : decode cX0_addClass 16 = .ok (.iconst 2, 1) := dk_5 (dk_at dksX0_addClass_0 16 rfl rfl)
theorem dX0_addClass_17 : decode cX0_addClass 17 = .ok (.ireturn, 1) := dk_172 (dk_at dksX0_addClass_0 17 rfl rfl)
theorem dX0_addClass_18 : decode cX0_addClass 18 = .ok (.iconst 0, 1) := dk_3 (dk_at dksX0_addClass_0 18 rfl rfl)
theorem dX0_addClass_19 : decode cX0_addClass 19 = .ok (.ireturn, 1) := dk_172 (dk_at dksX0_addClass_0 19 rfl rfl)
abbrev cX0_addStep : ByteArray := method_4_code
def yX0_addStep : MethodName := ⟨RX0, "addStep", "(LWeaversgate;IICII[J)I"⟩
def dkwX0_addStep_1 : List UInt8 := [58, 7, 5, 172, 58, 7, 6, 172, 3, 172]
abbrev dktX0_addStep_1 : List UInt8 := dkwX0_addStep_1 ++ []
def dkwX0_addStep_0 : List UInt8 := [25, 6, 3, 42, 27, 28, 29, 21, 4, 21, 5, 182, 0, 17, 133, 80, 167, 0, 15, 58, 7, 4, 172]
abbrev dktX0_addStep_0 : List UInt8 := dkwX0_addStep_0 ++ dktX0_addStep_1
theorem dksX0_addStep_0 : cX0_addStep.data.toList.drop 0 = dktX0_addStep_0 := by decide +kernel
theorem dksX0_addStep_1 : cX0_addStep.data.toList.drop 23 = dktX0_addStep_1 := dk_seg dksX0_addStep_0 23 rfl rfl
theorem dX0_addStep_0 : decode cX0_addStep 0 = .ok (.aload 6, 2) := dk_25 6 (dk_at dksX0_addStep_0 0 rfl rfl)
theorem dX0_addStep_2 : decode cX0_addStep 2 = .ok (.iconst 0, 1) := dk_3 (dk_at dksX0_addStep_0 2 rfl rfl)
theorem dX0_addStep_3 : decode cX0_addStep 3 = .ok (.aload_n 0, 1) := dk_42 (dk_at dksX0_addStep_0 3 rfl rfl)
theorem dX0_addStep_4 : decode cX0_addStep 4 = .ok (.iload_n 1, 1) := dk_27 (dk_at dksX0_addStep_0 4 rfl rfl)
theorem dX0_addStep_5 : decode cX0_addStep 5 = .ok (.iload_n 2, 1) := dk_28 (dk_at dksX0_addStep_0 5 rfl rfl)
theorem dX0_addStep_6 : decode cX0_addStep 6 = .ok (.iload_n 3, 1) := dk_29 (dk_at dksX0_addStep_0 6 rfl rfl)
theorem dX0_addStep_7 : decode cX0_addStep 7 = .ok (.iload 4, 2) := dk_21 4 (dk_at dksX0_addStep_0 7 rfl rfl)
theorem dX0_addStep_9 : decode cX0_addStep 9 = .ok (.iload 5, 2) := dk_21 5 (dk_at dksX0_addStep_0 9 rfl rfl)
theorem dX0_addStep_11 : decode cX0_addStep 11 = .ok (.invokevirtual 17, 3) := dk_182 0 17 (dk_at dksX0_addStep_0 11 rfl rfl)
theorem dX0_addStep_14 : decode cX0_addStep 14 = .ok (.i2l, 1) := dk_133 (dk_at dksX0_addStep_0 14 rfl rfl)
theorem dX0_addStep_15 : decode cX0_addStep 15 = .ok (.lastore, 1) := dk_80 (dk_at dksX0_addStep_0 15 rfl rfl)
theorem dX0_addStep_16 : decode cX0_addStep 16 = .ok (.goto 15, 3) := dk_167 0 15 (dk_at dksX0_addStep_0 16 rfl rfl)
theorem dX0_addStep_19 : decode cX0_addStep 19 = .ok (.astore 7, 2) := dk_58 7 (dk_at dksX0_addStep_0 19 rfl rfl)
theorem dX0_addStep_21 : decode cX0_addStep 21 = .ok (.iconst 1, 1) := dk_4 (dk_at dksX0_addStep_0 21 rfl rfl)
theorem dX0_addStep_22 : decode cX0_addStep 22 = .ok (.ireturn, 1) := dk_172 (dk_at dksX0_addStep_0 22 rfl rfl)
theorem dX0_addStep_23 : decode cX0_addStep 23 = .ok (.astore 7, 2) := dk_58 7 (dk_at dksX0_addStep_1 0 rfl rfl)
theorem dX0_addStep_25 : decode cX0_addStep 25 = .ok (.iconst 2, 1) := dk_5 (dk_at dksX0_addStep_1 2 rfl rfl)
theorem dX0_addStep_26 : decode cX0_addStep 26 = .ok (.ireturn, 1) := dk_172 (dk_at dksX0_addStep_1 3 rfl rfl)
theorem dX0_addStep_27 : decode cX0_addStep 27 = .ok (.astore 7, 2) := dk_58 7 (dk_at dksX0_addStep_1 4 rfl rfl)
theorem dX0_addStep_29 : decode cX0_addStep 29 = .ok (.iconst 3, 1) := dk_6 (dk_at dksX0_addStep_1 6 rfl rfl)
theorem dX0_addStep_30 : decode cX0_addStep 30 = .ok (.ireturn, 1) := dk_172 (dk_at dksX0_addStep_1 7 rfl rfl)
theorem dX0_addStep_31 : decode cX0_addStep 31 = .ok (.iconst 0, 1) := dk_3 (dk_at dksX0_addStep_1 8 rfl rfl)
theorem dX0_addStep_32 : decode cX0_addStep 32 = .ok (.ireturn, 1) := dk_172 (dk_at dksX0_addStep_1 9 rfl rfl)
abbrev cX0_dropBody : ByteArray := method_5_code
def yX0_dropBody : MethodName := ⟨RX0, "dropBody", "(LWeaversgate;II[J)I"⟩
def dkwX0_dropBody_0 : List UInt8 := [45, 3, 42, 27, 28, 182, 0, 23, 133, 80, 167, 0, 11, 58, 4, 4, 172, 58, 4, 5, 172, 3, 172]
abbrev dktX0_dropBody_0 : List UInt8 := dkwX0_dropBody_0 ++ []
theorem dksX0_dropBody_0 : cX0_dropBody.data.toList.drop 0 = dktX0_dropBody_0 := by decide +kernel
theorem dX0_dropBody_0 : decode cX0_dropBody 0 = .ok (.aload_n 3, 1) := dk_45 (dk_at dksX0_dropBody_0 0 rfl rfl)
theorem dX0_dropBody_1 : decode cX0_dropBody 1 = .ok (.iconst 0, 1) := dk_3 (dk_at dksX0_dropBody_0 1 rfl rfl)
theorem dX0_dropBody_2 : decode cX0_dropBody 2 = .ok (.aload_n 0, 1) := dk_42 (dk_at dksX0_dropBody_0 2 rfl rfl)
theorem dX0_dropBody_3 : decode cX0_dropBody 3 = .ok (.iload_n 1, 1) := dk_27 (dk_at dksX0_dropBody_0 3 rfl rfl)
theorem dX0_dropBody_4 : decode cX0_dropBody 4 = .ok (.iload_n 2, 1) := dk_28 (dk_at dksX0_dropBody_0 4 rfl rfl)
theorem dX0_dropBody_5 : decode cX0_dropBody 5 = .ok (.invokevirtual 23, 3) := dk_182 0 23 (dk_at dksX0_dropBody_0 5 rfl rfl)
theorem dX0_dropBody_8 : decode cX0_dropBody 8 = .ok (.i2l, 1) := dk_133 (dk_at dksX0_dropBody_0 8 rfl rfl)
theorem dX0_dropBody_9 : decode cX0_dropBody 9 = .ok (.lastore, 1) := dk_80 (dk_at dksX0_dropBody_0 9 rfl rfl)
theorem dX0_dropBody_10 : decode cX0_dropBody 10 = .ok (.goto 11, 3) := dk_167 0 11 (dk_at dksX0_dropBody_0 10 rfl rfl)
theorem dX0_dropBody_13 : decode cX0_dropBody 13 = .ok (.astore 4, 2) := dk_58 4 (dk_at dksX0_dropBody_0 13 rfl rfl)
theorem dX0_dropBody_15 : decode cX0_dropBody 15 = .ok (.iconst 1, 1) := dk_4 (dk_at dksX0_dropBody_0 15 rfl rfl)
theorem dX0_dropBody_16 : decode cX0_dropBody 16 = .ok (.ireturn, 1) := dk_172 (dk_at dksX0_dropBody_0 16 rfl rfl)
theorem dX0_dropBody_17 : decode cX0_dropBody 17 = .ok (.astore 4, 2) := dk_58 4 (dk_at dksX0_dropBody_0 17 rfl rfl)
theorem dX0_dropBody_19 : decode cX0_dropBody 19 = .ok (.iconst 2, 1) := dk_5 (dk_at dksX0_dropBody_0 19 rfl rfl)
theorem dX0_dropBody_20 : decode cX0_dropBody 20 = .ok (.ireturn, 1) := dk_172 (dk_at dksX0_dropBody_0 20 rfl rfl)
theorem dX0_dropBody_21 : decode cX0_dropBody 21 = .ok (.iconst 0, 1) := dk_3 (dk_at dksX0_dropBody_0 21 rfl rfl)
theorem dX0_dropBody_22 : decode cX0_dropBody 22 = .ok (.ireturn, 1) := dk_172 (dk_at dksX0_dropBody_0 22 rfl rfl)
abbrev cX0_finds : ByteArray := method_6_code
def yX0_finds : MethodName := ⟨RX0, "finds", "(LWeaversgate;II[J)I"⟩
def dkwX0_finds_0 : List UInt8 := [45, 3, 42, 27, 28, 182, 0, 27, 133, 80, 167, 0, 11, 58, 4, 4, 172, 58, 4, 5, 172, 3, 172]
abbrev dktX0_finds_0 : List UInt8 := dkwX0_finds_0 ++ []
theorem dksX0_finds_0 : cX0_finds.data.toList.drop 0 = dktX0_finds_0 := by decide +kernel
theorem dX0_finds_0 : decode cX0_finds 0 = .ok (.aload_n 3, 1) := dk_45 (dk_at dksX0_finds_0 0 rfl rfl)
theorem dX0_finds_1 : decode cX0_finds 1 = .ok (.iconst 0, 1) := dk_3 (dk_at dksX0_finds_0 1 rfl rfl)
theorem dX0_finds_2 : decode cX0_finds 2 = .ok (.aload_n 0, 1) := dk_42 (dk_at dksX0_finds_0 2 rfl rfl)
theorem dX0_finds_3 : decode cX0_finds 3 = .ok (.iload_n 1, 1) := dk_27 (dk_at dksX0_finds_0 3 rfl rfl)
theorem dX0_finds_4 : decode cX0_finds 4 = .ok (.iload_n 2, 1) := dk_28 (dk_at dksX0_finds_0 4 rfl rfl)
theorem dX0_finds_5 : decode cX0_finds 5 = .ok (.invokevirtual 27, 3) := dk_182 0 27 (dk_at dksX0_finds_0 5 rfl rfl)
theorem dX0_finds_8 : decode cX0_finds 8 = .ok (.i2l, 1) := dk_133 (dk_at dksX0_finds_0 8 rfl rfl)
theorem dX0_finds_9 : decode cX0_finds 9 = .ok (.lastore, 1) := dk_80 (dk_at dksX0_finds_0 9 rfl rfl)
theorem dX0_finds_10 : decode cX0_finds 10 = .ok (.goto 11, 3) := dk_167 0 11 (dk_at dksX0_finds_0 10 rfl rfl)
theorem dX0_finds_13 : decode cX0_finds 13 = .ok (.astore 4, 2) := dk_58 4 (dk_at dksX0_finds_0 13 rfl rfl)
theorem dX0_finds_15 : decode cX0_finds 15 = .ok (.iconst 1, 1) := dk_4 (dk_at dksX0_finds_0 15 rfl rfl)
theorem dX0_finds_16 : decode cX0_finds 16 = .ok (.ireturn, 1) := dk_172 (dk_at dksX0_finds_0 16 rfl rfl)
theorem dX0_finds_17 : decode cX0_finds 17 = .ok (.astore 4, 2) := dk_58 4 (dk_at dksX0_finds_0 17 rfl rfl)
theorem dX0_finds_19 : decode cX0_finds 19 = .ok (.iconst 2, 1) := dk_5 (dk_at dksX0_finds_0 19 rfl rfl)
theorem dX0_finds_20 : decode cX0_finds 20 = .ok (.ireturn, 1) := dk_172 (dk_at dksX0_finds_0 20 rfl rfl)
theorem dX0_finds_21 : decode cX0_finds 21 = .ok (.iconst 0, 1) := dk_3 (dk_at dksX0_finds_0 21 rfl rfl)
theorem dX0_finds_22 : decode cX0_finds 22 = .ok (.ireturn, 1) := dk_172 (dk_at dksX0_finds_0 22 rfl rfl)
abbrev cX0_addPattern : ByteArray := method_7_code
def yX0_addPattern : MethodName := ⟨RX0, "addPattern", "(LWeaversgate;CII[J)I"⟩
def dkwX0_addPattern_1 : List UInt8 := [58, 5, 6, 172, 3, 172]
abbrev dktX0_addPattern_1 : List UInt8 := dkwX0_addPattern_1 ++ []
def dkwX0_addPattern_0 : List UInt8 := [25, 4, 3, 42, 27, 28, 29, 182, 0, 30, 133, 80, 167, 0, 15, 58, 5, 4, 172, 58, 5, 5, 172]
abbrev dktX0_addPattern_0 : List UInt8 := dkwX0_addPattern_0 ++ dktX0_addPattern_1
theorem dksX0_addPattern_0 : cX0_addPattern.data.toList.drop 0 = dktX0_addPattern_0 := by decide +kernel
theorem dksX0_addPattern_1 : cX0_addPattern.data.toList.drop 23 = dktX0_addPattern_1 := dk_seg dksX0_addPattern_0 23 rfl rfl
theorem dX0_addPattern_0 : decode cX0_addPattern 0 = .ok (.aload 4, 2) := dk_25 4 (dk_at dksX0_addPattern_0 0 rfl rfl)
theorem dX0_addPattern_2 : decode cX0_addPattern 2 = .ok (.iconst 0, 1) := dk_3 (dk_at dksX0_addPattern_0 2 rfl rfl)
theorem dX0_addPattern_3 : decode cX0_addPattern 3 = .ok (.aload_n 0, 1) := dk_42 (dk_at dksX0_addPattern_0 3 rfl rfl)
theorem dX0_addPattern_4 : decode cX0_addPattern 4 = .ok (.iload_n 1, 1) := dk_27 (dk_at dksX0_addPattern_0 4 rfl rfl)
theorem dX0_addPattern_5 : decode cX0_addPattern 5 = .ok (.iload_n 2, 1) := dk_28 (dk_at dksX0_addPattern_0 5 rfl rfl)
theorem dX0_addPattern_6 : decode cX0_addPattern 6 = .ok (.iload_n 3, 1) := dk_29 (dk_at dksX0_addPattern_0 6 rfl rfl)
theorem dX0_addPattern_7 : decode cX0_addPattern 7 = .ok (.invokevirtual 30, 3) := dk_182 0 30 (dk_at dksX0_addPattern_0 7 rfl rfl)
theorem dX0_addPattern_10 : decode cX0_addPattern 10 = .ok (.i2l, 1) := dk_133 (dk_at dksX0_addPattern_0 10 rfl rfl)
theorem dX0_addPattern_11 : decode cX0_addPattern 11 = .ok (.lastore, 1) := dk_80 (dk_at dksX0_addPattern_0 11 rfl rfl)
theorem dX0_addPattern_12 : decode cX0_addPattern 12 = .ok (.goto 15, 3) := dk_167 0 15 (dk_at dksX0_addPattern_0 12 rfl rfl)
theorem dX0_addPattern_15 : decode cX0_addPattern 15 = .ok (.astore 5, 2) := dk_58 5 (dk_at dksX0_addPattern_0 15 rfl rfl)
theorem dX0_addPattern_17 : decode cX0_addPattern 17 = .ok (.iconst 1, 1) := dk_4 (dk_at dksX0_addPattern_0 17 rfl rfl)
theorem dX0_addPattern_18 : decode cX0_addPattern 18 = .ok (.ireturn, 1) := dk_172 (dk_at dksX0_addPattern_0 18 rfl rfl)
theorem dX0_addPattern_19 : decode cX0_addPattern 19 = .ok (.astore 5, 2) := dk_58 5 (dk_at dksX0_addPattern_0 19 rfl rfl)
theorem dX0_addPattern_21 : decode cX0_addPattern 21 = .ok (.iconst 2, 1) := dk_5 (dk_at dksX0_addPattern_0 21 rfl rfl)
theorem dX0_addPattern_22 : decode cX0_addPattern 22 = .ok (.ireturn, 1) := dk_172 (dk_at dksX0_addPattern_0 22 rfl rfl)
theorem dX0_addPattern_23 : decode cX0_addPattern 23 = .ok (.astore 5, 2) := dk_58 5 (dk_at dksX0_addPattern_1 0 rfl rfl)
theorem dX0_addPattern_25 : decode cX0_addPattern 25 = .ok (.iconst 3, 1) := dk_6 (dk_at dksX0_addPattern_1 2 rfl rfl)
theorem dX0_addPattern_26 : decode cX0_addPattern 26 = .ok (.ireturn, 1) := dk_172 (dk_at dksX0_addPattern_1 3 rfl rfl)
theorem dX0_addPattern_27 : decode cX0_addPattern 27 = .ok (.iconst 0, 1) := dk_3 (dk_at dksX0_addPattern_1 4 rfl rfl)
theorem dX0_addPattern_28 : decode cX0_addPattern 28 = .ok (.ireturn, 1) := dk_172 (dk_at dksX0_addPattern_1 5 rfl rfl)
abbrev cX0_addAdvice : ByteArray := method_8_code
def yX0_addAdvice : MethodName := ⟨RX0, "addAdvice", "(LWeaversgate;ICIII[J)I"⟩
def dkwX0_addAdvice_1 : List UInt8 := [58, 7, 5, 172, 58, 7, 6, 172, 3, 172]
abbrev dktX0_addAdvice_1 : List UInt8 := dkwX0_addAdvice_1 ++ []
def dkwX0_addAdvice_0 : List UInt8 := [25, 6, 3, 42, 27, 28, 29, 21, 4, 21, 5, 182, 0, 36, 133, 80, 167, 0, 15, 58, 7, 4, 172]
abbrev dktX0_addAdvice_0 : List UInt8 := dkwX0_addAdvice_0 ++ dktX0_addAdvice_1
theorem dksX0_addAdvice_0 : cX0_addAdvice.data.toList.drop 0 = dktX0_addAdvice_0 := by decide +kernel
theorem dksX0_addAdvice_1 : cX0_addAdvice.data.toList.drop 23 = dktX0_addAdvice_1 := dk_seg dksX0_addAdvice_0 23 rfl rfl
theorem dX0_addAdvice_0 : decode cX0_addAdvice 0 = .ok (.aload 6, 2) := dk_25 6 (dk_at dksX0_addAdvice_0 0 rfl rfl)
theorem dX0_addAdvice_2 : decode cX0_addAdvice 2 = .ok (.iconst 0, 1) := dk_3 (dk_at dksX0_addAdvice_0 2 rfl rfl)
theorem dX0_addAdvice_3 : decode cX0_addAdvice 3 = .ok (.aload_n 0, 1) := dk_42 (dk_at dksX0_addAdvice_0 3 rfl rfl)
theorem dX0_addAdvice_4 : decode cX0_addAdvice 4 = .ok (.iload_n 1, 1) := dk_27 (dk_at dksX0_addAdvice_0 4 rfl rfl)
theorem dX0_addAdvice_5 : decode cX0_addAdvice 5 = .ok (.iload_n 2, 1) := dk_28 (dk_at dksX0_addAdvice_0 5 rfl rfl)
theorem dX0_addAdvice_6 : decode cX0_addAdvice 6 = .ok (.iload_n 3, 1) := dk_29 (dk_at dksX0_addAdvice_0 6 rfl rfl)
theorem dX0_addAdvice_7 : decode cX0_addAdvice 7 = .ok (.iload 4, 2) := dk_21 4 (dk_at dksX0_addAdvice_0 7 rfl rfl)
theorem dX0_addAdvice_9 : decode cX0_addAdvice 9 = .ok (.iload 5, 2) := dk_21 5 (dk_at dksX0_addAdvice_0 9 rfl rfl)
theorem dX0_addAdvice_11 : decode cX0_addAdvice 11 = .ok (.invokevirtual 36, 3) := dk_182 0 36 (dk_at dksX0_addAdvice_0 11 rfl rfl)
theorem dX0_addAdvice_14 : decode cX0_addAdvice 14 = .ok (.i2l, 1) := dk_133 (dk_at dksX0_addAdvice_0 14 rfl rfl)
theorem dX0_addAdvice_15 : decode cX0_addAdvice 15 = .ok (.lastore, 1) := dk_80 (dk_at dksX0_addAdvice_0 15 rfl rfl)
theorem dX0_addAdvice_16 : decode cX0_addAdvice 16 = .ok (.goto 15, 3) := dk_167 0 15 (dk_at dksX0_addAdvice_0 16 rfl rfl)
theorem dX0_addAdvice_19 : decode cX0_addAdvice 19 = .ok (.astore 7, 2) := dk_58 7 (dk_at dksX0_addAdvice_0 19 rfl rfl)
theorem dX0_addAdvice_21 : decode cX0_addAdvice 21 = .ok (.iconst 1, 1) := dk_4 (dk_at dksX0_addAdvice_0 21 rfl rfl)
theorem dX0_addAdvice_22 : decode cX0_addAdvice 22 = .ok (.ireturn, 1) := dk_172 (dk_at dksX0_addAdvice_0 22 rfl rfl)
theorem dX0_addAdvice_23 : decode cX0_addAdvice 23 = .ok (.astore 7, 2) := dk_58 7 (dk_at dksX0_addAdvice_1 0 rfl rfl)
theorem dX0_addAdvice_25 : decode cX0_addAdvice 25 = .ok (.iconst 2, 1) := dk_5 (dk_at dksX0_addAdvice_1 2 rfl rfl)
theorem dX0_addAdvice_26 : decode cX0_addAdvice 26 = .ok (.ireturn, 1) := dk_172 (dk_at dksX0_addAdvice_1 3 rfl rfl)
theorem dX0_addAdvice_27 : decode cX0_addAdvice 27 = .ok (.astore 7, 2) := dk_58 7 (dk_at dksX0_addAdvice_1 4 rfl rfl)
theorem dX0_addAdvice_29 : decode cX0_addAdvice 29 = .ok (.iconst 3, 1) := dk_6 (dk_at dksX0_addAdvice_1 6 rfl rfl)
theorem dX0_addAdvice_30 : decode cX0_addAdvice 30 = .ok (.ireturn, 1) := dk_172 (dk_at dksX0_addAdvice_1 7 rfl rfl)
theorem dX0_addAdvice_31 : decode cX0_addAdvice 31 = .ok (.iconst 0, 1) := dk_3 (dk_at dksX0_addAdvice_1 8 rfl rfl)
theorem dX0_addAdvice_32 : decode cX0_addAdvice 32 = .ok (.ireturn, 1) := dk_172 (dk_at dksX0_addAdvice_1 9 rfl rfl)
abbrev cX0_turn : ByteArray := method_9_code
def yX0_turn : MethodName := ⟨RX0, "turn", "(LWeaversgate;IZ[J)I"⟩
def dkwX0_turn_1 : List UInt8 := [3, 172]
abbrev dktX0_turn_1 : List UInt8 := dkwX0_turn_1 ++ []
def dkwX0_turn_0 : List UInt8 := [45, 3, 42, 27, 28, 182, 0, 40, 153, 0, 7, 10, 167, 0, 4, 9, 80, 167, 0, 7, 58, 4, 4, 172]
abbrev dktX0_turn_0 : List UInt8 := dkwX0_turn_0 ++ dktX0_turn_1
theorem dksX0_turn_0 : cX0_turn.data.toList.drop 0 = dktX0_turn_0 := by decide +kernel
theorem dksX0_turn_1 : cX0_turn.data.toList.drop 24 = dktX0_turn_1 := dk_seg dksX0_turn_0 24 rfl rfl
theorem dX0_turn_0 : decode cX0_turn 0 = .ok (.aload_n 3, 1) := dk_45 (dk_at dksX0_turn_0 0 rfl rfl)
theorem dX0_turn_1 : decode cX0_turn 1 = .ok (.iconst 0, 1) := dk_3 (dk_at dksX0_turn_0 1 rfl rfl)
theorem dX0_turn_2 : decode cX0_turn 2 = .ok (.aload_n 0, 1) := dk_42 (dk_at dksX0_turn_0 2 rfl rfl)
theorem dX0_turn_3 : decode cX0_turn 3 = .ok (.iload_n 1, 1) := dk_27 (dk_at dksX0_turn_0 3 rfl rfl)
theorem dX0_turn_4 : decode cX0_turn 4 = .ok (.iload_n 2, 1) := dk_28 (dk_at dksX0_turn_0 4 rfl rfl)
theorem dX0_turn_5 : decode cX0_turn 5 = .ok (.invokevirtual 40, 3) := dk_182 0 40 (dk_at dksX0_turn_0 5 rfl rfl)
theorem dX0_turn_8 : decode cX0_turn 8 = .ok (.ifCond .eq 7, 3) := dk_153 0 7 (dk_at dksX0_turn_0 8 rfl rfl)
theorem dX0_turn_11 : decode cX0_turn 11 = .ok (.lconst 1, 1) := dk_10 (dk_at dksX0_turn_0 11 rfl rfl)
theorem dX0_turn_12 : decode cX0_turn 12 = .ok (.goto 4, 3) := dk_167 0 4 (dk_at dksX0_turn_0 12 rfl rfl)
theorem dX0_turn_15 : decode cX0_turn 15 = .ok (.lconst 0, 1) := dk_9 (dk_at dksX0_turn_0 15 rfl rfl)
theorem dX0_turn_16 : decode cX0_turn 16 = .ok (.lastore, 1) := dk_80 (dk_at dksX0_turn_0 16 rfl rfl)
theorem dX0_turn_17 : decode cX0_turn 17 = .ok (.goto 7, 3) := dk_167 0 7 (dk_at dksX0_turn_0 17 rfl rfl)
theorem dX0_turn_20 : decode cX0_turn 20 = .ok (.astore 4, 2) := dk_58 4 (dk_at dksX0_turn_0 20 rfl rfl)
theorem dX0_turn_22 : decode cX0_turn 22 = .ok (.iconst 1, 1) := dk_4 (dk_at dksX0_turn_0 22 rfl rfl)
theorem dX0_turn_23 : decode cX0_turn 23 = .ok (.ireturn, 1) := dk_172 (dk_at dksX0_turn_0 23 rfl rfl)
theorem dX0_turn_24 : decode cX0_turn 24 = .ok (.iconst 0, 1) := dk_3 (dk_at dksX0_turn_1 0 rfl rfl)
theorem dX0_turn_25 : decode cX0_turn 25 = .ok (.ireturn, 1) := dk_172 (dk_at dksX0_turn_1 1 rfl rfl)
abbrev cX0_precede : ByteArray := method_10_code
def yX0_precede : MethodName := ⟨RX0, "precede", "(LWeaversgate;IIZ[J)I"⟩
def dkwX0_precede_1 : List UInt8 := [4, 172, 3, 172]
abbrev dktX0_precede_1 : List UInt8 := dkwX0_precede_1 ++ []
def dkwX0_precede_0 : List UInt8 := [25, 4, 3, 42, 27, 28, 29, 182, 0, 44, 153, 0, 7, 10, 167, 0, 4, 9, 80, 167, 0, 7, 58, 5]
abbrev dktX0_precede_0 : List UInt8 := dkwX0_precede_0 ++ dktX0_precede_1
theorem dksX0_precede_0 : cX0_precede.data.toList.drop 0 = dktX0_precede_0 := by decide +kernel
theorem dksX0_precede_1 : cX0_precede.data.toList.drop 24 = dktX0_precede_1 := dk_seg dksX0_precede_0 24 rfl rfl
theorem dX0_precede_0 : decode cX0_precede 0 = .ok (.aload 4, 2) := dk_25 4 (dk_at dksX0_precede_0 0 rfl rfl)
theorem dX0_precede_2 : decode cX0_precede 2 = .ok (.iconst 0, 1) := dk_3 (dk_at dksX0_precede_0 2 rfl rfl)
theorem dX0_precede_3 : decode cX0_precede 3 = .ok (.aload_n 0, 1) := dk_42 (dk_at dksX0_precede_0 3 rfl rfl)
theorem dX0_precede_4 : decode cX0_precede 4 = .ok (.iload_n 1, 1) := dk_27 (dk_at dksX0_precede_0 4 rfl rfl)
theorem dX0_precede_5 : decode cX0_precede 5 = .ok (.iload_n 2, 1) := dk_28 (dk_at dksX0_precede_0 5 rfl rfl)
theorem dX0_precede_6 : decode cX0_precede 6 = .ok (.iload_n 3, 1) := dk_29 (dk_at dksX0_precede_0 6 rfl rfl)
theorem dX0_precede_7 : decode cX0_precede 7 = .ok (.invokevirtual 44, 3) := dk_182 0 44 (dk_at dksX0_precede_0 7 rfl rfl)
theorem dX0_precede_10 : decode cX0_precede 10 = .ok (.ifCond .eq 7, 3) := dk_153 0 7 (dk_at dksX0_precede_0 10 rfl rfl)
theorem dX0_precede_13 : decode cX0_precede 13 = .ok (.lconst 1, 1) := dk_10 (dk_at dksX0_precede_0 13 rfl rfl)
theorem dX0_precede_14 : decode cX0_precede 14 = .ok (.goto 4, 3) := dk_167 0 4 (dk_at dksX0_precede_0 14 rfl rfl)
theorem dX0_precede_17 : decode cX0_precede 17 = .ok (.lconst 0, 1) := dk_9 (dk_at dksX0_precede_0 17 rfl rfl)
theorem dX0_precede_18 : decode cX0_precede 18 = .ok (.lastore, 1) := dk_80 (dk_at dksX0_precede_0 18 rfl rfl)
theorem dX0_precede_19 : decode cX0_precede 19 = .ok (.goto 7, 3) := dk_167 0 7 (dk_at dksX0_precede_0 19 rfl rfl)
theorem dX0_precede_22 : decode cX0_precede 22 = .ok (.astore 5, 2) := dk_58 5 (dk_at dksX0_precede_0 22 rfl rfl)
theorem dX0_precede_24 : decode cX0_precede 24 = .ok (.iconst 1, 1) := dk_4 (dk_at dksX0_precede_1 0 rfl rfl)
theorem dX0_precede_25 : decode cX0_precede 25 = .ok (.ireturn, 1) := dk_172 (dk_at dksX0_precede_1 1 rfl rfl)
theorem dX0_precede_26 : decode cX0_precede 26 = .ok (.iconst 0, 1) := dk_3 (dk_at dksX0_precede_1 2 rfl rfl)
theorem dX0_precede_27 : decode cX0_precede 27 = .ok (.ireturn, 1) := dk_172 (dk_at dksX0_precede_1 3 rfl rfl)
abbrev cX0_aspectAt : ByteArray := method_11_code
def yX0_aspectAt : MethodName := ⟨RX0, "aspectAt", "(LWeaversgate;I[J)I"⟩
def dkwX0_aspectAt_0 : List UInt8 := [44, 3, 42, 27, 182, 0, 48, 133, 80, 167, 0, 9, 78, 4, 172, 78, 5, 172, 3, 172]
abbrev dktX0_aspectAt_0 : List UInt8 := dkwX0_aspectAt_0 ++ []
theorem dksX0_aspectAt_0 : cX0_aspectAt.data.toList.drop 0 = dktX0_aspectAt_0 := by decide +kernel
theorem dX0_aspectAt_0 : decode cX0_aspectAt 0 = .ok (.aload_n 2, 1) := dk_44 (dk_at dksX0_aspectAt_0 0 rfl rfl)
theorem dX0_aspectAt_1 : decode cX0_aspectAt 1 = .ok (.iconst 0, 1) := dk_3 (dk_at dksX0_aspectAt_0 1 rfl rfl)
theorem dX0_aspectAt_2 : decode cX0_aspectAt 2 = .ok (.aload_n 0, 1) := dk_42 (dk_at dksX0_aspectAt_0 2 rfl rfl)
theorem dX0_aspectAt_3 : decode cX0_aspectAt 3 = .ok (.iload_n 1, 1) := dk_27 (dk_at dksX0_aspectAt_0 3 rfl rfl)
theorem dX0_aspectAt_4 : decode cX0_aspectAt 4 = .ok (.invokevirtual 48, 3) := dk_182 0 48 (dk_at dksX0_aspectAt_0 4 rfl rfl)
theorem dX0_aspectAt_7 : decode cX0_aspectAt 7 = .ok (.i2l, 1) := dk_133 (dk_at dksX0_aspectAt_0 7 rfl rfl)
theorem dX0_aspectAt_8 : decode cX0_aspectAt 8 = .ok (.lastore, 1) := dk_80 (dk_at dksX0_aspectAt_0 8 rfl rfl)
theorem dX0_aspectAt_9 : decode cX0_aspectAt 9 = .ok (.goto 9, 3) := dk_167 0 9 (dk_at dksX0_aspectAt_0 9 rfl rfl)
theorem dX0_aspectAt_12 : decode cX0_aspectAt 12 = .ok (.astore_n 3, 1) := dk_78 (dk_at dksX0_aspectAt_0 12 rfl rfl)
theorem dX0_aspectAt_13 : decode cX0_aspectAt 13 = .ok (.iconst 1, 1) := dk_4 (dk_at dksX0_aspectAt_0 13 rfl rfl)
theorem dX0_aspectAt_14 : decode cX0_aspectAt 14 = .ok (.ireturn, 1) := dk_172 (dk_at dksX0_aspectAt_0 14 rfl rfl)
theorem dX0_aspectAt_15 : decode cX0_aspectAt 15 = .ok (.astore_n 3, 1) := dk_78 (dk_at dksX0_aspectAt_0 15 rfl rfl)
theorem dX0_aspectAt_16 : decode cX0_aspectAt 16 = .ok (.iconst 2, 1) := dk_5 (dk_at dksX0_aspectAt_0 16 rfl rfl)
theorem dX0_aspectAt_17 : decode cX0_aspectAt 17 = .ok (.ireturn, 1) := dk_172 (dk_at dksX0_aspectAt_0 17 rfl rfl)
theorem dX0_aspectAt_18 : decode cX0_aspectAt 18 = .ok (.iconst 0, 1) := dk_3 (dk_at dksX0_aspectAt_0 18 rfl rfl)
theorem dX0_aspectAt_19 : decode cX0_aspectAt 19 = .ok (.ireturn, 1) := dk_172 (dk_at dksX0_aspectAt_0 19 rfl rfl)
abbrev cX0_places : ByteArray := method_12_code
def yX0_places : MethodName := ⟨RX0, "places", "(LWeaversgate;II[J)I"⟩
def dkwX0_places_0 : List UInt8 := [45, 3, 42, 27, 28, 182, 0, 51, 133, 80, 167, 0, 11, 58, 4, 4, 172, 58, 4, 5, 172, 3, 172]
abbrev dktX0_places_0 : List UInt8 := dkwX0_places_0 ++ []
theorem dksX0_places_0 : cX0_places.data.toList.drop 0 = dktX0_places_0 := by decide +kernel
theorem dX0_places_0 : decode cX0_places 0 = .ok (.aload_n 3, 1) := dk_45 (dk_at dksX0_places_0 0 rfl rfl)
theorem dX0_places_1 : decode cX0_places 1 = .ok (.iconst 0, 1) := dk_3 (dk_at dksX0_places_0 1 rfl rfl)
theorem dX0_places_2 : decode cX0_places 2 = .ok (.aload_n 0, 1) := dk_42 (dk_at dksX0_places_0 2 rfl rfl)
theorem dX0_places_3 : decode cX0_places 3 = .ok (.iload_n 1, 1) := dk_27 (dk_at dksX0_places_0 3 rfl rfl)
theorem dX0_places_4 : decode cX0_places 4 = .ok (.iload_n 2, 1) := dk_28 (dk_at dksX0_places_0 4 rfl rfl)
theorem dX0_places_5 : decode cX0_places 5 = .ok (.invokevirtual 51, 3) := dk_182 0 51 (dk_at dksX0_places_0 5 rfl rfl)
theorem dX0_places_8 : decode cX0_places 8 = .ok (.i2l, 1) := dk_133 (dk_at dksX0_places_0 8 rfl rfl)
theorem dX0_places_9 : decode cX0_places 9 = .ok (.lastore, 1) := dk_80 (dk_at dksX0_places_0 9 rfl rfl)
theorem dX0_places_10 : decode cX0_places 10 = .ok (.goto 11, 3) := dk_167 0 11 (dk_at dksX0_places_0 10 rfl rfl)
theorem dX0_places_13 : decode cX0_places 13 = .ok (.astore 4, 2) := dk_58 4 (dk_at dksX0_places_0 13 rfl rfl)
theorem dX0_places_15 : decode cX0_places 15 = .ok (.iconst 1, 1) := dk_4 (dk_at dksX0_places_0 15 rfl rfl)
theorem dX0_places_16 : decode cX0_places 16 = .ok (.ireturn, 1) := dk_172 (dk_at dksX0_places_0 16 rfl rfl)
theorem dX0_places_17 : decode cX0_places 17 = .ok (.astore 4, 2) := dk_58 4 (dk_at dksX0_places_0 17 rfl rfl)
theorem dX0_places_19 : decode cX0_places 19 = .ok (.iconst 2, 1) := dk_5 (dk_at dksX0_places_0 19 rfl rfl)
theorem dX0_places_20 : decode cX0_places 20 = .ok (.ireturn, 1) := dk_172 (dk_at dksX0_places_0 20 rfl rfl)
theorem dX0_places_21 : decode cX0_places 21 = .ok (.iconst 0, 1) := dk_3 (dk_at dksX0_places_0 21 rfl rfl)
theorem dX0_places_22 : decode cX0_places 22 = .ok (.ireturn, 1) := dk_172 (dk_at dksX0_places_0 22 rfl rfl)
abbrev cX0_match : ByteArray := method_13_code
def yX0_match : MethodName := ⟨RX0, "match", "(LWeaversgate;IIII[J)I"⟩
def dkwX0_match_1 : List UInt8 := [172, 58, 6, 6, 172, 3, 172]
abbrev dktX0_match_1 : List UInt8 := dkwX0_match_1 ++ []
def dkwX0_match_0 : List UInt8 := [25, 5, 3, 42, 27, 28, 29, 21, 4, 182, 0, 54, 133, 80, 167, 0, 15, 58, 6, 4, 172, 58, 6, 5]
abbrev dktX0_match_0 : List UInt8 := dkwX0_match_0 ++ dktX0_match_1
theorem dksX0_match_0 : cX0_match.data.toList.drop 0 = dktX0_match_0 := by decide +kernel
theorem dksX0_match_1 : cX0_match.data.toList.drop 24 = dktX0_match_1 := dk_seg dksX0_match_0 24 rfl rfl
theorem dX0_match_0 : decode cX0_match 0 = .ok (.aload 5, 2) := dk_25 5 (dk_at dksX0_match_0 0 rfl rfl)
theorem dX0_match_2 : decode cX0_match 2 = .ok (.iconst 0, 1) := dk_3 (dk_at dksX0_match_0 2 rfl rfl)
theorem dX0_match_3 : decode cX0_match 3 = .ok (.aload_n 0, 1) := dk_42 (dk_at dksX0_match_0 3 rfl rfl)
theorem dX0_match_4 : decode cX0_match 4 = .ok (.iload_n 1, 1) := dk_27 (dk_at dksX0_match_0 4 rfl rfl)
theorem dX0_match_5 : decode cX0_match 5 = .ok (.iload_n 2, 1) := dk_28 (dk_at dksX0_match_0 5 rfl rfl)
theorem dX0_match_6 : decode cX0_match 6 = .ok (.iload_n 3, 1) := dk_29 (dk_at dksX0_match_0 6 rfl rfl)
theorem dX0_match_7 : decode cX0_match 7 = .ok (.iload 4, 2) := dk_21 4 (dk_at dksX0_match_0 7 rfl rfl)
theorem dX0_match_9 : decode cX0_match 9 = .ok (.invokevirtual 54, 3) := dk_182 0 54 (dk_at dksX0_match_0 9 rfl rfl)
theorem dX0_match_12 : decode cX0_match 12 = .ok (.i2l, 1) := dk_133 (dk_at dksX0_match_0 12 rfl rfl)
theorem dX0_match_13 : decode cX0_match 13 = .ok (.lastore, 1) := dk_80 (dk_at dksX0_match_0 13 rfl rfl)
theorem dX0_match_14 : decode cX0_match 14 = .ok (.goto 15, 3) := dk_167 0 15 (dk_at dksX0_match_0 14 rfl rfl)
theorem dX0_match_17 : decode cX0_match 17 = .ok (.astore 6, 2) := dk_58 6 (dk_at dksX0_match_0 17 rfl rfl)
theorem dX0_match_19 : decode cX0_match 19 = .ok (.iconst 1, 1) := dk_4 (dk_at dksX0_match_0 19 rfl rfl)
theorem dX0_match_20 : decode cX0_match 20 = .ok (.ireturn, 1) := dk_172 (dk_at dksX0_match_0 20 rfl rfl)
theorem dX0_match_21 : decode cX0_match 21 = .ok (.astore 6, 2) := dk_58 6 (dk_at dksX0_match_0 21 rfl rfl)
theorem dX0_match_23 : decode cX0_match 23 = .ok (.iconst 2, 1) := dk_5 (dk_at dksX0_match_0 23 rfl rfl)
theorem dX0_match_24 : decode cX0_match 24 = .ok (.ireturn, 1) := dk_172 (dk_at dksX0_match_1 0 rfl rfl)
theorem dX0_match_25 : decode cX0_match 25 = .ok (.astore 6, 2) := dk_58 6 (dk_at dksX0_match_1 1 rfl rfl)
theorem dX0_match_27 : decode cX0_match 27 = .ok (.iconst 3, 1) := dk_6 (dk_at dksX0_match_1 3 rfl rfl)
theorem dX0_match_28 : decode cX0_match 28 = .ok (.ireturn, 1) := dk_172 (dk_at dksX0_match_1 4 rfl rfl)
theorem dX0_match_29 : decode cX0_match 29 = .ok (.iconst 0, 1) := dk_3 (dk_at dksX0_match_1 5 rfl rfl)
theorem dX0_match_30 : decode cX0_match 30 = .ok (.ireturn, 1) := dk_172 (dk_at dksX0_match_1 6 rfl rfl)
abbrev cX0_run : ByteArray := method_14_code
def yX0_run : MethodName := ⟨RX0, "run", "(LWeaversgate;III[J)I"⟩
def dkwX0_run_1 : List UInt8 := [58, 5, 6, 172, 3, 172]
abbrev dktX0_run_1 : List UInt8 := dkwX0_run_1 ++ []
def dkwX0_run_0 : List UInt8 := [25, 4, 3, 42, 27, 28, 29, 182, 0, 58, 133, 80, 167, 0, 15, 58, 5, 4, 172, 58, 5, 5, 172]
abbrev dktX0_run_0 : List UInt8 := dkwX0_run_0 ++ dktX0_run_1
theorem dksX0_run_0 : cX0_run.data.toList.drop 0 = dktX0_run_0 := by decide +kernel
theorem dksX0_run_1 : cX0_run.data.toList.drop 23 = dktX0_run_1 := dk_seg dksX0_run_0 23 rfl rfl
theorem dX0_run_0 : decode cX0_run 0 = .ok (.aload 4, 2) := dk_25 4 (dk_at dksX0_run_0 0 rfl rfl)
theorem dX0_run_2 : decode cX0_run 2 = .ok (.iconst 0, 1) := dk_3 (dk_at dksX0_run_0 2 rfl rfl)
theorem dX0_run_3 : decode cX0_run 3 = .ok (.aload_n 0, 1) := dk_42 (dk_at dksX0_run_0 3 rfl rfl)
theorem dX0_run_4 : decode cX0_run 4 = .ok (.iload_n 1, 1) := dk_27 (dk_at dksX0_run_0 4 rfl rfl)
theorem dX0_run_5 : decode cX0_run 5 = .ok (.iload_n 2, 1) := dk_28 (dk_at dksX0_run_0 5 rfl rfl)
theorem dX0_run_6 : decode cX0_run 6 = .ok (.iload_n 3, 1) := dk_29 (dk_at dksX0_run_0 6 rfl rfl)
theorem dX0_run_7 : decode cX0_run 7 = .ok (.invokevirtual 58, 3) := dk_182 0 58 (dk_at dksX0_run_0 7 rfl rfl)
theorem dX0_run_10 : decode cX0_run 10 = .ok (.i2l, 1) := dk_133 (dk_at dksX0_run_0 10 rfl rfl)
theorem dX0_run_11 : decode cX0_run 11 = .ok (.lastore, 1) := dk_80 (dk_at dksX0_run_0 11 rfl rfl)
theorem dX0_run_12 : decode cX0_run 12 = .ok (.goto 15, 3) := dk_167 0 15 (dk_at dksX0_run_0 12 rfl rfl)
theorem dX0_run_15 : decode cX0_run 15 = .ok (.astore 5, 2) := dk_58 5 (dk_at dksX0_run_0 15 rfl rfl)
theorem dX0_run_17 : decode cX0_run 17 = .ok (.iconst 1, 1) := dk_4 (dk_at dksX0_run_0 17 rfl rfl)
theorem dX0_run_18 : decode cX0_run 18 = .ok (.ireturn, 1) := dk_172 (dk_at dksX0_run_0 18 rfl rfl)
theorem dX0_run_19 : decode cX0_run 19 = .ok (.astore 5, 2) := dk_58 5 (dk_at dksX0_run_0 19 rfl rfl)
theorem dX0_run_21 : decode cX0_run 21 = .ok (.iconst 2, 1) := dk_5 (dk_at dksX0_run_0 21 rfl rfl)
theorem dX0_run_22 : decode cX0_run 22 = .ok (.ireturn, 1) := dk_172 (dk_at dksX0_run_0 22 rfl rfl)
theorem dX0_run_23 : decode cX0_run 23 = .ok (.astore 5, 2) := dk_58 5 (dk_at dksX0_run_1 0 rfl rfl)
theorem dX0_run_25 : decode cX0_run 25 = .ok (.iconst 3, 1) := dk_6 (dk_at dksX0_run_1 2 rfl rfl)
theorem dX0_run_26 : decode cX0_run 26 = .ok (.ireturn, 1) := dk_172 (dk_at dksX0_run_1 3 rfl rfl)
theorem dX0_run_27 : decode cX0_run 27 = .ok (.iconst 0, 1) := dk_3 (dk_at dksX0_run_1 4 rfl rfl)
theorem dX0_run_28 : decode cX0_run 28 = .ok (.ireturn, 1) := dk_172 (dk_at dksX0_run_1 5 rfl rfl)
abbrev cX0_runAsking : ByteArray := method_15_code
def yX0_runAsking : MethodName := ⟨RX0, "runAsking", "(LWeaversgate;III[J)I"⟩
def dkwX0_runAsking_1 : List UInt8 := [58, 5, 6, 172, 3, 172]
abbrev dktX0_runAsking_1 : List UInt8 := dkwX0_runAsking_1 ++ []
def dkwX0_runAsking_0 : List UInt8 := [25, 4, 3, 42, 27, 28, 29, 182, 0, 62, 133, 80, 167, 0, 15, 58, 5, 4, 172, 58, 5, 5, 172]
abbrev dktX0_runAsking_0 : List UInt8 := dkwX0_runAsking_0 ++ dktX0_runAsking_1
theorem dksX0_runAsking_0 : cX0_runAsking.data.toList.drop 0 = dktX0_runAsking_0 := by decide +kernel
theorem dksX0_runAsking_1 : cX0_runAsking.data.toList.drop 23 = dktX0_runAsking_1 := dk_seg dksX0_runAsking_0 23 rfl rfl
theorem dX0_runAsking_0 : decode cX0_runAsking 0 = .ok (.aload 4, 2) := dk_25 4 (dk_at dksX0_runAsking_0 0 rfl rfl)
theorem dX0_runAsking_2 : decode cX0_runAsking 2 = .ok (.iconst 0, 1) := dk_3 (dk_at dksX0_runAsking_0 2 rfl rfl)
theorem dX0_runAsking_3 : decode cX0_runAsking 3 = .ok (.aload_n 0, 1) := dk_42 (dk_at dksX0_runAsking_0 3 rfl rfl)
theorem dX0_runAsking_4 : decode cX0_runAsking 4 = .ok (.iload_n 1, 1) := dk_27 (dk_at dksX0_runAsking_0 4 rfl rfl)
theorem dX0_runAsking_5 : decode cX0_runAsking 5 = .ok (.iload_n 2, 1) := dk_28 (dk_at dksX0_runAsking_0 5 rfl rfl)
theorem dX0_runAsking_6 : decode cX0_runAsking 6 = .ok (.iload_n 3, 1) := dk_29 (dk_at dksX0_runAsking_0 6 rfl rfl)
theorem dX0_runAsking_7 : decode cX0_runAsking 7 = .ok (.invokevirtual 62, 3) := dk_182 0 62 (dk_at dksX0_runAsking_0 7 rfl rfl)
theorem dX0_runAsking_10 : decode cX0_runAsking 10 = .ok (.i2l, 1) := dk_133 (dk_at dksX0_runAsking_0 10 rfl rfl)
theorem dX0_runAsking_11 : decode cX0_runAsking 11 = .ok (.lastore, 1) := dk_80 (dk_at dksX0_runAsking_0 11 rfl rfl)
theorem dX0_runAsking_12 : decode cX0_runAsking 12 = .ok (.goto 15, 3) := dk_167 0 15 (dk_at dksX0_runAsking_0 12 rfl rfl)
theorem dX0_runAsking_15 : decode cX0_runAsking 15 = .ok (.astore 5, 2) := dk_58 5 (dk_at dksX0_runAsking_0 15 rfl rfl)
theorem dX0_runAsking_17 : decode cX0_runAsking 17 = .ok (.iconst 1, 1) := dk_4 (dk_at dksX0_runAsking_0 17 rfl rfl)
theorem dX0_runAsking_18 : decode cX0_runAsking 18 = .ok (.ireturn, 1) := dk_172 (dk_at dksX0_runAsking_0 18 rfl rfl)
theorem dX0_runAsking_19 : decode cX0_runAsking 19 = .ok (.astore 5, 2) := dk_58 5 (dk_at dksX0_runAsking_0 19 rfl rfl)
theorem dX0_runAsking_21 : decode cX0_runAsking 21 = .ok (.iconst 2, 1) := dk_5 (dk_at dksX0_runAsking_0 21 rfl rfl)
theorem dX0_runAsking_22 : decode cX0_runAsking 22 = .ok (.ireturn, 1) := dk_172 (dk_at dksX0_runAsking_0 22 rfl rfl)
theorem dX0_runAsking_23 : decode cX0_runAsking 23 = .ok (.astore 5, 2) := dk_58 5 (dk_at dksX0_runAsking_1 0 rfl rfl)
theorem dX0_runAsking_25 : decode cX0_runAsking 25 = .ok (.iconst 3, 1) := dk_6 (dk_at dksX0_runAsking_1 2 rfl rfl)
theorem dX0_runAsking_26 : decode cX0_runAsking 26 = .ok (.ireturn, 1) := dk_172 (dk_at dksX0_runAsking_1 3 rfl rfl)
theorem dX0_runAsking_27 : decode cX0_runAsking 27 = .ok (.iconst 0, 1) := dk_3 (dk_at dksX0_runAsking_1 4 rfl rfl)
theorem dX0_runAsking_28 : decode cX0_runAsking 28 = .ok (.ireturn, 1) := dk_172 (dk_at dksX0_runAsking_1 5 rfl rfl)
abbrev cX0_result : ByteArray := method_16_code
def yX0_result : MethodName := ⟨RX0, "result", "(LWeaversgate;[J)I"⟩
def dkwX0_result_0 : List UInt8 := [43, 3, 42, 182, 0, 65, 133, 80, 167, 0, 6, 77, 4, 172, 3, 172]
abbrev dktX0_result_0 : List UInt8 := dkwX0_result_0 ++ []
theorem dksX0_result_0 : cX0_result.data.toList.drop 0 = dktX0_result_0 := by decide +kernel
theorem dX0_result_0 : decode cX0_result 0 = .ok (.aload_n 1, 1) := dk_43 (dk_at dksX0_result_0 0 rfl rfl)
theorem dX0_result_1 : decode cX0_result 1 = .ok (.iconst 0, 1) := dk_3 (dk_at dksX0_result_0 1 rfl rfl)
theorem dX0_result_2 : decode cX0_result 2 = .ok (.aload_n 0, 1) := dk_42 (dk_at dksX0_result_0 2 rfl rfl)
theorem dX0_result_3 : decode cX0_result 3 = .ok (.invokevirtual 65, 3) := dk_182 0 65 (dk_at dksX0_result_0 3 rfl rfl)
theorem dX0_result_6 : decode cX0_result 6 = .ok (.i2l, 1) := dk_133 (dk_at dksX0_result_0 6 rfl rfl)
theorem dX0_result_7 : decode cX0_result 7 = .ok (.lastore, 1) := dk_80 (dk_at dksX0_result_0 7 rfl rfl)
theorem dX0_result_8 : decode cX0_result 8 = .ok (.goto 6, 3) := dk_167 0 6 (dk_at dksX0_result_0 8 rfl rfl)
theorem dX0_result_11 : decode cX0_result 11 = .ok (.astore_n 2, 1) := dk_77 (dk_at dksX0_result_0 11 rfl rfl)
theorem dX0_result_12 : decode cX0_result 12 = .ok (.iconst 1, 1) := dk_4 (dk_at dksX0_result_0 12 rfl rfl)
theorem dX0_result_13 : decode cX0_result 13 = .ok (.ireturn, 1) := dk_172 (dk_at dksX0_result_0 13 rfl rfl)
theorem dX0_result_14 : decode cX0_result 14 = .ok (.iconst 0, 1) := dk_3 (dk_at dksX0_result_0 14 rfl rfl)
theorem dX0_result_15 : decode cX0_result 15 = .ok (.ireturn, 1) := dk_172 (dk_at dksX0_result_0 15 rfl rfl)
abbrev cX0_traceKind : ByteArray := method_17_code
def yX0_traceKind : MethodName := ⟨RX0, "traceKind", "(LWeaversgate;I[J)I"⟩
def dkwX0_traceKind_0 : List UInt8 := [44, 3, 42, 27, 182, 0, 69, 133, 80, 167, 0, 6, 78, 4, 172, 3, 172]
abbrev dktX0_traceKind_0 : List UInt8 := dkwX0_traceKind_0 ++ []
theorem dksX0_traceKind_0 : cX0_traceKind.data.toList.drop 0 = dktX0_traceKind_0 := by decide +kernel
theorem dX0_traceKind_0 : decode cX0_traceKind 0 = .ok (.aload_n 2, 1) := dk_44 (dk_at dksX0_traceKind_0 0 rfl rfl)
theorem dX0_traceKind_1 : decode cX0_traceKind 1 = .ok (.iconst 0, 1) := dk_3 (dk_at dksX0_traceKind_0 1 rfl rfl)
theorem dX0_traceKind_2 : decode cX0_traceKind 2 = .ok (.aload_n 0, 1) := dk_42 (dk_at dksX0_traceKind_0 2 rfl rfl)
theorem dX0_traceKind_3 : decode cX0_traceKind 3 = .ok (.iload_n 1, 1) := dk_27 (dk_at dksX0_traceKind_0 3 rfl rfl)
theorem dX0_traceKind_4 : decode cX0_traceKind 4 = .ok (.invokevirtual 69, 3) := dk_182 0 69 (dk_at dksX0_traceKind_0 4 rfl rfl)
theorem dX0_traceKind_7 : decode cX0_traceKind 7 = .ok (.i2l, 1) := dk_133 (dk_at dksX0_traceKind_0 7 rfl rfl)
theorem dX0_traceKind_8 : decode cX0_traceKind 8 = .ok (.lastore, 1) := dk_80 (dk_at dksX0_traceKind_0 8 rfl rfl)
theorem dX0_traceKind_9 : decode cX0_traceKind 9 = .ok (.goto 6, 3) := dk_167 0 6 (dk_at dksX0_traceKind_0 9 rfl rfl)
theorem dX0_traceKind_12 : decode cX0_traceKind 12 = .ok (.astore_n 3, 1) := dk_78 (dk_at dksX0_traceKind_0 12 rfl rfl)
theorem dX0_traceKind_13 : decode cX0_traceKind 13 = .ok (.iconst 1, 1) := dk_4 (dk_at dksX0_traceKind_0 13 rfl rfl)
theorem dX0_traceKind_14 : decode cX0_traceKind 14 = .ok (.ireturn, 1) := dk_172 (dk_at dksX0_traceKind_0 14 rfl rfl)
theorem dX0_traceKind_15 : decode cX0_traceKind 15 = .ok (.iconst 0, 1) := dk_3 (dk_at dksX0_traceKind_0 15 rfl rfl)
theorem dX0_traceKind_16 : decode cX0_traceKind 16 = .ok (.ireturn, 1) := dk_172 (dk_at dksX0_traceKind_0 16 rfl rfl)
abbrev cX0_traceValue : ByteArray := method_18_code
def yX0_traceValue : MethodName := ⟨RX0, "traceValue", "(LWeaversgate;I[J)I"⟩
def dkwX0_traceValue_0 : List UInt8 := [44, 3, 42, 27, 182, 0, 73, 133, 80, 167, 0, 6, 78, 4, 172, 3, 172]
abbrev dktX0_traceValue_0 : List UInt8 := dkwX0_traceValue_0 ++ []
theorem dksX0_traceValue_0 : cX0_traceValue.data.toList.drop 0 = dktX0_traceValue_0 := by decide +kernel
theorem dX0_traceValue_0 : decode cX0_traceValue 0 = .ok (.aload_n 2, 1) := dk_44 (dk_at dksX0_traceValue_0 0 rfl rfl)
theorem dX0_traceValue_1 : decode cX0_traceValue 1 = .ok (.iconst 0, 1) := dk_3 (dk_at dksX0_traceValue_0 1 rfl rfl)
theorem dX0_traceValue_2 : decode cX0_traceValue 2 = .ok (.aload_n 0, 1) := dk_42 (dk_at dksX0_traceValue_0 2 rfl rfl)
theorem dX0_traceValue_3 : decode cX0_traceValue 3 = .ok (.iload_n 1, 1) := dk_27 (dk_at dksX0_traceValue_0 3 rfl rfl)
theorem dX0_traceValue_4 : decode cX0_traceValue 4 = .ok (.invokevirtual 73, 3) := dk_182 0 73 (dk_at dksX0_traceValue_0 4 rfl rfl)
theorem dX0_traceValue_7 : decode cX0_traceValue 7 = .ok (.i2l, 1) := dk_133 (dk_at dksX0_traceValue_0 7 rfl rfl)
theorem dX0_traceValue_8 : decode cX0_traceValue 8 = .ok (.lastore, 1) := dk_80 (dk_at dksX0_traceValue_0 8 rfl rfl)
theorem dX0_traceValue_9 : decode cX0_traceValue 9 = .ok (.goto 6, 3) := dk_167 0 6 (dk_at dksX0_traceValue_0 9 rfl rfl)
theorem dX0_traceValue_12 : decode cX0_traceValue 12 = .ok (.astore_n 3, 1) := dk_78 (dk_at dksX0_traceValue_0 12 rfl rfl)
theorem dX0_traceValue_13 : decode cX0_traceValue 13 = .ok (.iconst 1, 1) := dk_4 (dk_at dksX0_traceValue_0 13 rfl rfl)
theorem dX0_traceValue_14 : decode cX0_traceValue 14 = .ok (.ireturn, 1) := dk_172 (dk_at dksX0_traceValue_0 14 rfl rfl)
theorem dX0_traceValue_15 : decode cX0_traceValue 15 = .ok (.iconst 0, 1) := dk_3 (dk_at dksX0_traceValue_0 15 rfl rfl)
theorem dX0_traceValue_16 : decode cX0_traceValue 16 = .ok (.ireturn, 1) := dk_172 (dk_at dksX0_traceValue_0 16 rfl rfl)
abbrev cX0_traceAdvice : ByteArray := method_19_code
def yX0_traceAdvice : MethodName := ⟨RX0, "traceAdvice", "(LWeaversgate;I[J)I"⟩
def dkwX0_traceAdvice_0 : List UInt8 := [44, 3, 42, 27, 182, 0, 76, 133, 80, 167, 0, 6, 78, 4, 172, 3, 172]
abbrev dktX0_traceAdvice_0 : List UInt8 := dkwX0_traceAdvice_0 ++ []
theorem dksX0_traceAdvice_0 : cX0_traceAdvice.data.toList.drop 0 = dktX0_traceAdvice_0 := by decide +kernel
theorem dX0_traceAdvice_0 : decode cX0_traceAdvice 0 = .ok (.aload_n 2, 1) := dk_44 (dk_at dksX0_traceAdvice_0 0 rfl rfl)
theorem dX0_traceAdvice_1 : decode cX0_traceAdvice 1 = .ok (.iconst 0, 1) := dk_3 (dk_at dksX0_traceAdvice_0 1 rfl rfl)
theorem dX0_traceAdvice_2 : decode cX0_traceAdvice 2 = .ok (.aload_n 0, 1) := dk_42 (dk_at dksX0_traceAdvice_0 2 rfl rfl)
theorem dX0_traceAdvice_3 : decode cX0_traceAdvice 3 = .ok (.iload_n 1, 1) := dk_27 (dk_at dksX0_traceAdvice_0 3 rfl rfl)
theorem dX0_traceAdvice_4 : decode cX0_traceAdvice 4 = .ok (.invokevirtual 76, 3) := dk_182 0 76 (dk_at dksX0_traceAdvice_0 4 rfl rfl)
theorem dX0_traceAdvice_7 : decode cX0_traceAdvice 7 = .ok (.i2l, 1) := dk_133 (dk_at dksX0_traceAdvice_0 7 rfl rfl)
theorem dX0_traceAdvice_8 : decode cX0_traceAdvice 8 = .ok (.lastore, 1) := dk_80 (dk_at dksX0_traceAdvice_0 8 rfl rfl)
theorem dX0_traceAdvice_9 : decode cX0_traceAdvice 9 = .ok (.goto 6, 3) := dk_167 0 6 (dk_at dksX0_traceAdvice_0 9 rfl rfl)
theorem dX0_traceAdvice_12 : decode cX0_traceAdvice 12 = .ok (.astore_n 3, 1) := dk_78 (dk_at dksX0_traceAdvice_0 12 rfl rfl)
theorem dX0_traceAdvice_13 : decode cX0_traceAdvice 13 = .ok (.iconst 1, 1) := dk_4 (dk_at dksX0_traceAdvice_0 13 rfl rfl)
theorem dX0_traceAdvice_14 : decode cX0_traceAdvice 14 = .ok (.ireturn, 1) := dk_172 (dk_at dksX0_traceAdvice_0 14 rfl rfl)
theorem dX0_traceAdvice_15 : decode cX0_traceAdvice 15 = .ok (.iconst 0, 1) := dk_3 (dk_at dksX0_traceAdvice_0 15 rfl rfl)
theorem dX0_traceAdvice_16 : decode cX0_traceAdvice 16 = .ok (.ireturn, 1) := dk_172 (dk_at dksX0_traceAdvice_0 16 rfl rfl)
abbrev cX0_acted : ByteArray := method_20_code
def yX0_acted : MethodName := ⟨RX0, "acted", "(LWeaversgate;C[J)I"⟩
def dkwX0_acted_0 : List UInt8 := [44, 3, 42, 27, 182, 0, 79, 133, 80, 167, 0, 6, 78, 4, 172, 3, 172]
abbrev dktX0_acted_0 : List UInt8 := dkwX0_acted_0 ++ []
theorem dksX0_acted_0 : cX0_acted.data.toList.drop 0 = dktX0_acted_0 := by decide +kernel
theorem dX0_acted_0 : decode cX0_acted 0 = .ok (.aload_n 2, 1) := dk_44 (dk_at dksX0_acted_0 0 rfl rfl)
theorem dX0_acted_1 : decode cX0_acted 1 = .ok (.iconst 0, 1) := dk_3 (dk_at dksX0_acted_0 1 rfl rfl)
theorem dX0_acted_2 : decode cX0_acted 2 = .ok (.aload_n 0, 1) := dk_42 (dk_at dksX0_acted_0 2 rfl rfl)
theorem dX0_acted_3 : decode cX0_acted 3 = .ok (.iload_n 1, 1) := dk_27 (dk_at dksX0_acted_0 3 rfl rfl)
theorem dX0_acted_4 : decode cX0_acted 4 = .ok (.invokevirtual 79, 3) := dk_182 0 79 (dk_at dksX0_acted_0 4 rfl rfl)
theorem dX0_acted_7 : decode cX0_acted 7 = .ok (.i2l, 1) := dk_133 (dk_at dksX0_acted_0 7 rfl rfl)
theorem dX0_acted_8 : decode cX0_acted 8 = .ok (.lastore, 1) := dk_80 (dk_at dksX0_acted_0 8 rfl rfl)
theorem dX0_acted_9 : decode cX0_acted 9 = .ok (.goto 6, 3) := dk_167 0 6 (dk_at dksX0_acted_0 9 rfl rfl)
theorem dX0_acted_12 : decode cX0_acted 12 = .ok (.astore_n 3, 1) := dk_78 (dk_at dksX0_acted_0 12 rfl rfl)
theorem dX0_acted_13 : decode cX0_acted 13 = .ok (.iconst 1, 1) := dk_4 (dk_at dksX0_acted_0 13 rfl rfl)
theorem dX0_acted_14 : decode cX0_acted 14 = .ok (.ireturn, 1) := dk_172 (dk_at dksX0_acted_0 14 rfl rfl)
theorem dX0_acted_15 : decode cX0_acted 15 = .ok (.iconst 0, 1) := dk_3 (dk_at dksX0_acted_0 15 rfl rfl)
theorem dX0_acted_16 : decode cX0_acted 16 = .ok (.ireturn, 1) := dk_172 (dk_at dksX0_acted_0 16 rfl rfl)
abbrev cX0_sureShare : ByteArray := method_21_code
def yX0_sureShare : MethodName := ⟨RX0, "sureShare", "(LWeaversgate;[D)I"⟩
def dkwX0_sureShare_0 : List UInt8 := [43, 3, 42, 182, 0, 83, 141, 82, 167, 0, 6, 77, 4, 172, 3, 172]
abbrev dktX0_sureShare_0 : List UInt8 := dkwX0_sureShare_0 ++ []
theorem dksX0_sureShare_0 : cX0_sureShare.data.toList.drop 0 = dktX0_sureShare_0 := by decide +kernel
theorem dX0_sureShare_0 : decode cX0_sureShare 0 = .ok (.aload_n 1, 1) := dk_43 (dk_at dksX0_sureShare_0 0 rfl rfl)
theorem dX0_sureShare_1 : decode cX0_sureShare 1 = .ok (.iconst 0, 1) := dk_3 (dk_at dksX0_sureShare_0 1 rfl rfl)
theorem dX0_sureShare_2 : decode cX0_sureShare 2 = .ok (.aload_n 0, 1) := dk_42 (dk_at dksX0_sureShare_0 2 rfl rfl)
theorem dX0_sureShare_3 : decode cX0_sureShare 3 = .ok (.invokevirtual 83, 3) := dk_182 0 83 (dk_at dksX0_sureShare_0 3 rfl rfl)
theorem dX0_sureShare_6 : decode cX0_sureShare 6 = .ok (.f2d, 1) := dk_141 (dk_at dksX0_sureShare_0 6 rfl rfl)
theorem dX0_sureShare_7 : decode cX0_sureShare 7 = .ok (.dastore, 1) := dk_82 (dk_at dksX0_sureShare_0 7 rfl rfl)
theorem dX0_sureShare_8 : decode cX0_sureShare 8 = .ok (.goto 6, 3) := dk_167 0 6 (dk_at dksX0_sureShare_0 8 rfl rfl)
theorem dX0_sureShare_11 : decode cX0_sureShare 11 = .ok (.astore_n 2, 1) := dk_77 (dk_at dksX0_sureShare_0 11 rfl rfl)
theorem dX0_sureShare_12 : decode cX0_sureShare 12 = .ok (.iconst 1, 1) := dk_4 (dk_at dksX0_sureShare_0 12 rfl rfl)
theorem dX0_sureShare_13 : decode cX0_sureShare 13 = .ok (.ireturn, 1) := dk_172 (dk_at dksX0_sureShare_0 13 rfl rfl)
theorem dX0_sureShare_14 : decode cX0_sureShare 14 = .ok (.iconst 0, 1) := dk_3 (dk_at dksX0_sureShare_0 14 rfl rfl)
theorem dX0_sureShare_15 : decode cX0_sureShare 15 = .ok (.ireturn, 1) := dk_172 (dk_at dksX0_sureShare_0 15 rfl rfl)
abbrev cX0_meanSteps : ByteArray := method_22_code
def yX0_meanSteps : MethodName := ⟨RX0, "meanSteps", "(LWeaversgate;[D)I"⟩
def dkwX0_meanSteps_0 : List UInt8 := [43, 3, 42, 182, 0, 89, 82, 167, 0, 6, 77, 4, 172, 3, 172]
abbrev dktX0_meanSteps_0 : List UInt8 := dkwX0_meanSteps_0 ++ []
theorem dksX0_meanSteps_0 : cX0_meanSteps.data.toList.drop 0 = dktX0_meanSteps_0 := by decide +kernel
theorem dX0_meanSteps_0 : decode cX0_meanSteps 0 = .ok (.aload_n 1, 1) := dk_43 (dk_at dksX0_meanSteps_0 0 rfl rfl)
theorem dX0_meanSteps_1 : decode cX0_meanSteps 1 = .ok (.iconst 0, 1) := dk_3 (dk_at dksX0_meanSteps_0 1 rfl rfl)
theorem dX0_meanSteps_2 : decode cX0_meanSteps 2 = .ok (.aload_n 0, 1) := dk_42 (dk_at dksX0_meanSteps_0 2 rfl rfl)
theorem dX0_meanSteps_3 : decode cX0_meanSteps 3 = .ok (.invokevirtual 89, 3) := dk_182 0 89 (dk_at dksX0_meanSteps_0 3 rfl rfl)
theorem dX0_meanSteps_6 : decode cX0_meanSteps 6 = .ok (.dastore, 1) := dk_82 (dk_at dksX0_meanSteps_0 6 rfl rfl)
theorem dX0_meanSteps_7 : decode cX0_meanSteps 7 = .ok (.goto 6, 3) := dk_167 0 6 (dk_at dksX0_meanSteps_0 7 rfl rfl)
theorem dX0_meanSteps_10 : decode cX0_meanSteps 10 = .ok (.astore_n 2, 1) := dk_77 (dk_at dksX0_meanSteps_0 10 rfl rfl)
theorem dX0_meanSteps_11 : decode cX0_meanSteps 11 = .ok (.iconst 1, 1) := dk_4 (dk_at dksX0_meanSteps_0 11 rfl rfl)
theorem dX0_meanSteps_12 : decode cX0_meanSteps 12 = .ok (.ireturn, 1) := dk_172 (dk_at dksX0_meanSteps_0 12 rfl rfl)
theorem dX0_meanSteps_13 : decode cX0_meanSteps 13 = .ok (.iconst 0, 1) := dk_3 (dk_at dksX0_meanSteps_0 13 rfl rfl)
theorem dX0_meanSteps_14 : decode cX0_meanSteps 14 = .ok (.ireturn, 1) := dk_172 (dk_at dksX0_meanSteps_0 14 rfl rfl)
theorem q59 : (Jvm.Cond.initialized "WeaversgateLaw") ∈ lw_all := lw_g (lw_at lw_m1 0 rfl) rfl
theorem q119 : (Jvm.Cond.classLink "WeaversgateLaw" (8 : Nat) "Weaversgate") ∈ lw_all := lw_g (lw_at lw_m1 60 rfl) rfl
theorem q121 : (Jvm.Cond.methodLink "WeaversgateLaw" (93 : Nat) ({ cls := "Weaversgate", name := "<init>", desc := "()V" } : Jvm.MethodName)) ∈ lw_all := lw_g (lw_at lw_m1 62 rfl) rfl
theorem q249 : (Jvm.Cond.methodLink "WeaversgateLaw" (133 : Nat) ({ cls := "Weaversgate", name := "isRing", desc := "()Z" } : Jvm.MethodName)) ∈ lw_all := lw_g (lw_at lw_m1 190 rfl) rfl
theorem q261 : (Jvm.Cond.methodLink "WeaversgateLaw" (148 : Nat) ({ cls := "Weaversgate", name := "residues", desc := "()I" } : Jvm.MethodName)) ∈ lw_all := lw_g (lw_at lw_m1 202 rfl) rfl
theorem q910 : (Jvm.Cond.methodLink "WeaversgateLaw" (152 : Nat) ({ cls := "Weaversgate", name := "woven", desc := "()I" } : Jvm.MethodName)) ∈ lw_all := lw_g (lw_at lw_m4 131 rfl) rfl
theorem q914 : (Jvm.Cond.methodLink "WeaversgateLaw" (167 : Nat) ({ cls := "Weaversgate", name := "points", desc := "()I" } : Jvm.MethodName)) ∈ lw_all := lw_g (lw_at lw_m4 135 rfl) rfl
theorem q918 : (Jvm.Cond.methodLink "WeaversgateLaw" (171 : Nat) ({ cls := "Weaversgate", name := "asked", desc := "()I" } : Jvm.MethodName)) ∈ lw_all := lw_g (lw_at lw_m4 139 rfl) rfl
theorem q922 : (Jvm.Cond.methodLink "WeaversgateLaw" (175 : Nat) ({ cls := "Weaversgate", name := "traceLength", desc := "()I" } : Jvm.MethodName)) ∈ lw_all := lw_g (lw_at lw_m4 143 rfl) rfl
theorem q930 : (Jvm.Cond.methodLink "WeaversgateLaw" (188 : Nat) ({ cls := "Weaversgate", name := "traceSum", desc := "()J" } : Jvm.MethodName)) ∈ lw_all := lw_g (lw_at lw_m4 151 rfl) rfl
theorem q935 : (Jvm.Cond.methodLink "WeaversgateLaw" (204 : Nat) ({ cls := "Weaversgate", name := "isSound", desc := "()Z" } : Jvm.MethodName)) ∈ lw_all := lw_g (lw_at lw_m4 156 rfl) rfl
theorem q1212 : (Jvm.Cond.methodLink "WeaversgateLaw" (97 : Nat) ({ cls := "WeaversgateLaw", name := "addClass", desc := "(LWeaversgate;I[J)I" } : Jvm.MethodName)) ∈ lw_all := lw_g (lw_at lw_m5 193 rfl) rfl
theorem q1213 : (Jvm.Cond.static ({ cls := "WeaversgateLaw", name := "addClass", desc := "(LWeaversgate;I[J)I" } : Jvm.MethodName)) ∈ lw_all := lw_g (lw_at lw_m5 194 rfl) rfl
theorem q1214 : (Jvm.Cond.codeWith ({ cls := "WeaversgateLaw", name := "addClass", desc := "(LWeaversgate;I[J)I" } : Jvm.MethodName) method_3_code (4 : Nat) (Option.some Jvm.ClassFile.FieldType.int) [((0 : Nat), (9 : Nat), (12 : Nat), (13 : Nat)), ((0 : Nat), (9 : Nat), (15 : Nat), (15 : Nat))]) ∈ lw_all := lw_g (lw_at lw_m5 195 rfl) rfl
theorem q1215 : (Jvm.Cond.classLink "WeaversgateLaw" (13 : Nat) "java/lang/IndexOutOfBoundsException") ∈ lw_all := lw_g (lw_at lw_m5 196 rfl) rfl
theorem q1234 : (Jvm.Cond.classLink "WeaversgateLaw" (15 : Nat) "java/lang/IllegalStateException") ∈ lw_all := lw_g (lw_at lw_m5 215 rfl) rfl
theorem q1235 : (Jvm.Cond.methodLink "WeaversgateLaw" (7 : Nat) ({ cls := "Weaversgate", name := "addClass", desc := "(I)I" } : Jvm.MethodName)) ∈ lw_all := lw_g (lw_at lw_m5 216 rfl) rfl
theorem q1315 : (Jvm.Cond.methodLink "WeaversgateLaw" (106 : Nat) ({ cls := "WeaversgateLaw", name := "addStep", desc := "(LWeaversgate;IICII[J)I" } : Jvm.MethodName)) ∈ lw_all := lw_g (lw_at lw_m6 56 rfl) rfl
theorem q1316 : (Jvm.Cond.static ({ cls := "WeaversgateLaw", name := "addStep", desc := "(LWeaversgate;IICII[J)I" } : Jvm.MethodName)) ∈ lw_all := lw_g (lw_at lw_m6 57 rfl) rfl
theorem q1317 : (Jvm.Cond.codeWith ({ cls := "WeaversgateLaw", name := "addStep", desc := "(LWeaversgate;IICII[J)I" } : Jvm.MethodName) method_4_code (8 : Nat) (Option.some Jvm.ClassFile.FieldType.int) [((0 : Nat), (16 : Nat), (19 : Nat), (13 : Nat)), ((0 : Nat), (16 : Nat), (23 : Nat), (21 : Nat)), ((0 : Nat), (16 : Nat), (27 : Nat), (15 : Nat))]) ∈ lw_all := lw_g (lw_at lw_m6 58 rfl) rfl
theorem q1318 : (Jvm.Cond.classLink "WeaversgateLaw" (21 : Nat) "java/lang/IllegalArgumentException") ∈ lw_all := lw_g (lw_at lw_m6 59 rfl) rfl
theorem q1319 : (Jvm.Cond.methodLink "WeaversgateLaw" (17 : Nat) ({ cls := "Weaversgate", name := "addStep", desc := "(IICII)I" } : Jvm.MethodName)) ∈ lw_all := lw_g (lw_at lw_m6 60 rfl) rfl
theorem q1359 : (Jvm.Cond.methodLink "WeaversgateLaw" (110 : Nat) ({ cls := "WeaversgateLaw", name := "dropBody", desc := "(LWeaversgate;II[J)I" } : Jvm.MethodName)) ∈ lw_all := lw_g (lw_at lw_m6 100 rfl) rfl
theorem q1360 : (Jvm.Cond.static ({ cls := "WeaversgateLaw", name := "dropBody", desc := "(LWeaversgate;II[J)I" } : Jvm.MethodName)) ∈ lw_all := lw_g (lw_at lw_m6 101 rfl) rfl
theorem q1361 : (Jvm.Cond.codeWith ({ cls := "WeaversgateLaw", name := "dropBody", desc := "(LWeaversgate;II[J)I" } : Jvm.MethodName) method_5_code (5 : Nat) (Option.some Jvm.ClassFile.FieldType.int) [((0 : Nat), (10 : Nat), (13 : Nat), (13 : Nat)), ((0 : Nat), (10 : Nat), (17 : Nat), (21 : Nat))]) ∈ lw_all := lw_g (lw_at lw_m6 102 rfl) rfl
theorem q1362 : (Jvm.Cond.methodLink "WeaversgateLaw" (23 : Nat) ({ cls := "Weaversgate", name := "dropBody", desc := "(II)I" } : Jvm.MethodName)) ∈ lw_all := lw_g (lw_at lw_m6 103 rfl) rfl
theorem q1366 : (Jvm.Cond.methodLink "WeaversgateLaw" (114 : Nat) ({ cls := "WeaversgateLaw", name := "finds", desc := "(LWeaversgate;II[J)I" } : Jvm.MethodName)) ∈ lw_all := lw_g (lw_at lw_m6 107 rfl) rfl
theorem q1367 : (Jvm.Cond.static ({ cls := "WeaversgateLaw", name := "finds", desc := "(LWeaversgate;II[J)I" } : Jvm.MethodName)) ∈ lw_all := lw_g (lw_at lw_m6 108 rfl) rfl
theorem q1368 : (Jvm.Cond.codeWith ({ cls := "WeaversgateLaw", name := "finds", desc := "(LWeaversgate;II[J)I" } : Jvm.MethodName) method_6_code (5 : Nat) (Option.some Jvm.ClassFile.FieldType.int) [((0 : Nat), (10 : Nat), (13 : Nat), (13 : Nat)), ((0 : Nat), (10 : Nat), (17 : Nat), (21 : Nat))]) ∈ lw_all := lw_g (lw_at lw_m6 109 rfl) rfl
theorem q1369 : (Jvm.Cond.methodLink "WeaversgateLaw" (27 : Nat) ({ cls := "Weaversgate", name := "finds", desc := "(II)I" } : Jvm.MethodName)) ∈ lw_all := lw_g (lw_at lw_m6 110 rfl) rfl
theorem q1373 : (Jvm.Cond.methodLink "WeaversgateLaw" (117 : Nat) ({ cls := "WeaversgateLaw", name := "addPattern", desc := "(LWeaversgate;CII[J)I" } : Jvm.MethodName)) ∈ lw_all := lw_g (lw_at lw_m6 114 rfl) rfl
theorem q1374 : (Jvm.Cond.static ({ cls := "WeaversgateLaw", name := "addPattern", desc := "(LWeaversgate;CII[J)I" } : Jvm.MethodName)) ∈ lw_all := lw_g (lw_at lw_m6 115 rfl) rfl
theorem q1375 : (Jvm.Cond.codeWith ({ cls := "WeaversgateLaw", name := "addPattern", desc := "(LWeaversgate;CII[J)I" } : Jvm.MethodName) method_7_code (6 : Nat) (Option.some Jvm.ClassFile.FieldType.int) [((0 : Nat), (12 : Nat), (15 : Nat), (21 : Nat)), ((0 : Nat), (12 : Nat), (19 : Nat), (34 : Nat)), ((0 : Nat), (12 : Nat), (23 : Nat), (15 : Nat))]) ∈ lw_all := lw_g (lw_at lw_m6 116 rfl) rfl
theorem q1376 : (Jvm.Cond.classLink "WeaversgateLaw" (34 : Nat) "java/util/NoSuchElementException") ∈ lw_all := lw_g (lw_at lw_m6 117 rfl) rfl
theorem q1377 : (Jvm.Cond.methodLink "WeaversgateLaw" (30 : Nat) ({ cls := "Weaversgate", name := "addPattern", desc := "(CII)I" } : Jvm.MethodName)) ∈ lw_all := lw_g (lw_at lw_m6 118 rfl) rfl
theorem q1522 : (Jvm.Cond.methodLink "WeaversgateLaw" (121 : Nat) ({ cls := "WeaversgateLaw", name := "addAdvice", desc := "(LWeaversgate;ICIII[J)I" } : Jvm.MethodName)) ∈ lw_all := lw_g (lw_at lw_m7 23 rfl) rfl
theorem q1523 : (Jvm.Cond.static ({ cls := "WeaversgateLaw", name := "addAdvice", desc := "(LWeaversgate;ICIII[J)I" } : Jvm.MethodName)) ∈ lw_all := lw_g (lw_at lw_m7 24 rfl) rfl
theorem q1524 : (Jvm.Cond.codeWith ({ cls := "WeaversgateLaw", name := "addAdvice", desc := "(LWeaversgate;ICIII[J)I" } : Jvm.MethodName) method_8_code (8 : Nat) (Option.some Jvm.ClassFile.FieldType.int) [((0 : Nat), (16 : Nat), (19 : Nat), (21 : Nat)), ((0 : Nat), (16 : Nat), (23 : Nat), (34 : Nat)), ((0 : Nat), (16 : Nat), (27 : Nat), (15 : Nat))]) ∈ lw_all := lw_g (lw_at lw_m7 25 rfl) rfl
theorem q1525 : (Jvm.Cond.methodLink "WeaversgateLaw" (36 : Nat) ({ cls := "Weaversgate", name := "addAdvice", desc := "(ICIII)I" } : Jvm.MethodName)) ∈ lw_all := lw_g (lw_at lw_m7 26 rfl) rfl
theorem q1569 : (Jvm.Cond.methodLink "WeaversgateLaw" (125 : Nat) ({ cls := "WeaversgateLaw", name := "turn", desc := "(LWeaversgate;IZ[J)I" } : Jvm.MethodName)) ∈ lw_all := lw_g (lw_at lw_m7 70 rfl) rfl
theorem q1570 : (Jvm.Cond.static ({ cls := "WeaversgateLaw", name := "turn", desc := "(LWeaversgate;IZ[J)I" } : Jvm.MethodName)) ∈ lw_all := lw_g (lw_at lw_m7 71 rfl) rfl
theorem q1571 : (Jvm.Cond.codeWith ({ cls := "WeaversgateLaw", name := "turn", desc := "(LWeaversgate;IZ[J)I" } : Jvm.MethodName) method_9_code (5 : Nat) (Option.some Jvm.ClassFile.FieldType.int) [((0 : Nat), (17 : Nat), (20 : Nat), (34 : Nat))]) ∈ lw_all := lw_g (lw_at lw_m7 72 rfl) rfl
theorem q1572 : (Jvm.Cond.methodLink "WeaversgateLaw" (40 : Nat) ({ cls := "Weaversgate", name := "turn", desc := "(IZ)Z" } : Jvm.MethodName)) ∈ lw_all := lw_g (lw_at lw_m7 73 rfl) rfl
theorem q1580 : (Jvm.Cond.methodLink "WeaversgateLaw" (129 : Nat) ({ cls := "WeaversgateLaw", name := "precede", desc := "(LWeaversgate;IIZ[J)I" } : Jvm.MethodName)) ∈ lw_all := lw_g (lw_at lw_m7 81 rfl) rfl
theorem q1581 : (Jvm.Cond.static ({ cls := "WeaversgateLaw", name := "precede", desc := "(LWeaversgate;IIZ[J)I" } : Jvm.MethodName)) ∈ lw_all := lw_g (lw_at lw_m7 82 rfl) rfl
theorem q1582 : (Jvm.Cond.codeWith ({ cls := "WeaversgateLaw", name := "precede", desc := "(LWeaversgate;IIZ[J)I" } : Jvm.MethodName) method_10_code (6 : Nat) (Option.some Jvm.ClassFile.FieldType.int) [((0 : Nat), (19 : Nat), (22 : Nat), (21 : Nat))]) ∈ lw_all := lw_g (lw_at lw_m7 83 rfl) rfl
theorem q1583 : (Jvm.Cond.methodLink "WeaversgateLaw" (44 : Nat) ({ cls := "Weaversgate", name := "precede", desc := "(IIZ)Z" } : Jvm.MethodName)) ∈ lw_all := lw_g (lw_at lw_m7 84 rfl) rfl
theorem q1587 : (Jvm.Cond.methodLink "WeaversgateLaw" (138 : Nat) ({ cls := "WeaversgateLaw", name := "aspectAt", desc := "(LWeaversgate;I[J)I" } : Jvm.MethodName)) ∈ lw_all := lw_g (lw_at lw_m7 88 rfl) rfl
theorem q1588 : (Jvm.Cond.static ({ cls := "WeaversgateLaw", name := "aspectAt", desc := "(LWeaversgate;I[J)I" } : Jvm.MethodName)) ∈ lw_all := lw_g (lw_at lw_m7 89 rfl) rfl
theorem q1589 : (Jvm.Cond.codeWith ({ cls := "WeaversgateLaw", name := "aspectAt", desc := "(LWeaversgate;I[J)I" } : Jvm.MethodName) method_11_code (4 : Nat) (Option.some Jvm.ClassFile.FieldType.int) [((0 : Nat), (9 : Nat), (12 : Nat), (21 : Nat)), ((0 : Nat), (9 : Nat), (15 : Nat), (15 : Nat))]) ∈ lw_all := lw_g (lw_at lw_m7 90 rfl) rfl
theorem q1590 : (Jvm.Cond.methodLink "WeaversgateLaw" (48 : Nat) ({ cls := "Weaversgate", name := "aspectAt", desc := "(I)I" } : Jvm.MethodName)) ∈ lw_all := lw_g (lw_at lw_m7 91 rfl) rfl
theorem q1594 : (Jvm.Cond.methodLink "WeaversgateLaw" (141 : Nat) ({ cls := "WeaversgateLaw", name := "places", desc := "(LWeaversgate;II[J)I" } : Jvm.MethodName)) ∈ lw_all := lw_g (lw_at lw_m7 95 rfl) rfl
theorem q1595 : (Jvm.Cond.static ({ cls := "WeaversgateLaw", name := "places", desc := "(LWeaversgate;II[J)I" } : Jvm.MethodName)) ∈ lw_all := lw_g (lw_at lw_m7 96 rfl) rfl
theorem q1596 : (Jvm.Cond.codeWith ({ cls := "WeaversgateLaw", name := "places", desc := "(LWeaversgate;II[J)I" } : Jvm.MethodName) method_12_code (5 : Nat) (Option.some Jvm.ClassFile.FieldType.int) [((0 : Nat), (10 : Nat), (13 : Nat), (13 : Nat)), ((0 : Nat), (10 : Nat), (17 : Nat), (21 : Nat))]) ∈ lw_all := lw_g (lw_at lw_m7 97 rfl) rfl
theorem q1597 : (Jvm.Cond.methodLink "WeaversgateLaw" (51 : Nat) ({ cls := "Weaversgate", name := "places", desc := "(II)I" } : Jvm.MethodName)) ∈ lw_all := lw_g (lw_at lw_m7 98 rfl) rfl
theorem q1601 : (Jvm.Cond.methodLink "WeaversgateLaw" (144 : Nat) ({ cls := "WeaversgateLaw", name := "match", desc := "(LWeaversgate;IIII[J)I" } : Jvm.MethodName)) ∈ lw_all := lw_g (lw_at lw_m7 102 rfl) rfl
theorem q1602 : (Jvm.Cond.static ({ cls := "WeaversgateLaw", name := "match", desc := "(LWeaversgate;IIII[J)I" } : Jvm.MethodName)) ∈ lw_all := lw_g (lw_at lw_m7 103 rfl) rfl
theorem q1603 : (Jvm.Cond.codeWith ({ cls := "WeaversgateLaw", name := "match", desc := "(LWeaversgate;IIII[J)I" } : Jvm.MethodName) method_13_code (7 : Nat) (Option.some Jvm.ClassFile.FieldType.int) [((0 : Nat), (14 : Nat), (17 : Nat), (13 : Nat)), ((0 : Nat), (14 : Nat), (21 : Nat), (21 : Nat)), ((0 : Nat), (14 : Nat), (25 : Nat), (34 : Nat))]) ∈ lw_all := lw_g (lw_at lw_m7 104 rfl) rfl
theorem q1604 : (Jvm.Cond.methodLink "WeaversgateLaw" (54 : Nat) ({ cls := "Weaversgate", name := "match", desc := "(IIII)C" } : Jvm.MethodName)) ∈ lw_all := lw_g (lw_at lw_m7 105 rfl) rfl
theorem q1608 : (Jvm.Cond.methodLink "WeaversgateLaw" (156 : Nat) ({ cls := "WeaversgateLaw", name := "run", desc := "(LWeaversgate;III[J)I" } : Jvm.MethodName)) ∈ lw_all := lw_g (lw_at lw_m7 109 rfl) rfl
theorem q1609 : (Jvm.Cond.static ({ cls := "WeaversgateLaw", name := "run", desc := "(LWeaversgate;III[J)I" } : Jvm.MethodName)) ∈ lw_all := lw_g (lw_at lw_m7 110 rfl) rfl
theorem q1610 : (Jvm.Cond.codeWith ({ cls := "WeaversgateLaw", name := "run", desc := "(LWeaversgate;III[J)I" } : Jvm.MethodName) method_14_code (6 : Nat) (Option.some Jvm.ClassFile.FieldType.int) [((0 : Nat), (12 : Nat), (15 : Nat), (13 : Nat)), ((0 : Nat), (12 : Nat), (19 : Nat), (21 : Nat)), ((0 : Nat), (12 : Nat), (23 : Nat), (15 : Nat))]) ∈ lw_all := lw_g (lw_at lw_m7 111 rfl) rfl
theorem q1611 : (Jvm.Cond.methodLink "WeaversgateLaw" (58 : Nat) ({ cls := "Weaversgate", name := "run", desc := "(III)C" } : Jvm.MethodName)) ∈ lw_all := lw_g (lw_at lw_m7 112 rfl) rfl
theorem q1619 : (Jvm.Cond.methodLink "WeaversgateLaw" (160 : Nat) ({ cls := "WeaversgateLaw", name := "runAsking", desc := "(LWeaversgate;III[J)I" } : Jvm.MethodName)) ∈ lw_all := lw_g (lw_at lw_m7 120 rfl) rfl
theorem q1620 : (Jvm.Cond.static ({ cls := "WeaversgateLaw", name := "runAsking", desc := "(LWeaversgate;III[J)I" } : Jvm.MethodName)) ∈ lw_all := lw_g (lw_at lw_m7 121 rfl) rfl
theorem q1621 : (Jvm.Cond.codeWith ({ cls := "WeaversgateLaw", name := "runAsking", desc := "(LWeaversgate;III[J)I" } : Jvm.MethodName) method_15_code (6 : Nat) (Option.some Jvm.ClassFile.FieldType.int) [((0 : Nat), (12 : Nat), (15 : Nat), (13 : Nat)), ((0 : Nat), (12 : Nat), (19 : Nat), (21 : Nat)), ((0 : Nat), (12 : Nat), (23 : Nat), (15 : Nat))]) ∈ lw_all := lw_g (lw_at lw_m7 122 rfl) rfl
theorem q1622 : (Jvm.Cond.methodLink "WeaversgateLaw" (62 : Nat) ({ cls := "Weaversgate", name := "runAsking", desc := "(III)C" } : Jvm.MethodName)) ∈ lw_all := lw_g (lw_at lw_m7 123 rfl) rfl
theorem q1626 : (Jvm.Cond.methodLink "WeaversgateLaw" (163 : Nat) ({ cls := "WeaversgateLaw", name := "result", desc := "(LWeaversgate;[J)I" } : Jvm.MethodName)) ∈ lw_all := lw_g (lw_at lw_m7 127 rfl) rfl
theorem q1627 : (Jvm.Cond.static ({ cls := "WeaversgateLaw", name := "result", desc := "(LWeaversgate;[J)I" } : Jvm.MethodName)) ∈ lw_all := lw_g (lw_at lw_m7 128 rfl) rfl
theorem q1628 : (Jvm.Cond.codeWith ({ cls := "WeaversgateLaw", name := "result", desc := "(LWeaversgate;[J)I" } : Jvm.MethodName) method_16_code (3 : Nat) (Option.some Jvm.ClassFile.FieldType.int) [((0 : Nat), (8 : Nat), (11 : Nat), (15 : Nat))]) ∈ lw_all := lw_g (lw_at lw_m7 129 rfl) rfl
theorem q1629 : (Jvm.Cond.methodLink "WeaversgateLaw" (65 : Nat) ({ cls := "Weaversgate", name := "result", desc := "()I" } : Jvm.MethodName)) ∈ lw_all := lw_g (lw_at lw_m7 130 rfl) rfl
theorem q1633 : (Jvm.Cond.methodLink "WeaversgateLaw" (179 : Nat) ({ cls := "WeaversgateLaw", name := "traceKind", desc := "(LWeaversgate;I[J)I" } : Jvm.MethodName)) ∈ lw_all := lw_g (lw_at lw_m7 134 rfl) rfl
theorem q1634 : (Jvm.Cond.static ({ cls := "WeaversgateLaw", name := "traceKind", desc := "(LWeaversgate;I[J)I" } : Jvm.MethodName)) ∈ lw_all := lw_g (lw_at lw_m7 135 rfl) rfl
theorem q1635 : (Jvm.Cond.codeWith ({ cls := "WeaversgateLaw", name := "traceKind", desc := "(LWeaversgate;I[J)I" } : Jvm.MethodName) method_17_code (4 : Nat) (Option.some Jvm.ClassFile.FieldType.int) [((0 : Nat), (9 : Nat), (12 : Nat), (13 : Nat))]) ∈ lw_all := lw_g (lw_at lw_m7 136 rfl) rfl
theorem q1636 : (Jvm.Cond.methodLink "WeaversgateLaw" (69 : Nat) ({ cls := "Weaversgate", name := "traceKind", desc := "(I)C" } : Jvm.MethodName)) ∈ lw_all := lw_g (lw_at lw_m7 137 rfl) rfl
theorem q1648 : (Jvm.Cond.methodLink "WeaversgateLaw" (182 : Nat) ({ cls := "WeaversgateLaw", name := "traceValue", desc := "(LWeaversgate;I[J)I" } : Jvm.MethodName)) ∈ lw_all := lw_g (lw_at lw_m7 149 rfl) rfl
theorem q1649 : (Jvm.Cond.static ({ cls := "WeaversgateLaw", name := "traceValue", desc := "(LWeaversgate;I[J)I" } : Jvm.MethodName)) ∈ lw_all := lw_g (lw_at lw_m7 150 rfl) rfl
theorem q1650 : (Jvm.Cond.codeWith ({ cls := "WeaversgateLaw", name := "traceValue", desc := "(LWeaversgate;I[J)I" } : Jvm.MethodName) method_18_code (4 : Nat) (Option.some Jvm.ClassFile.FieldType.int) [((0 : Nat), (9 : Nat), (12 : Nat), (13 : Nat))]) ∈ lw_all := lw_g (lw_at lw_m7 151 rfl) rfl
theorem q1651 : (Jvm.Cond.methodLink "WeaversgateLaw" (73 : Nat) ({ cls := "Weaversgate", name := "traceValue", desc := "(I)I" } : Jvm.MethodName)) ∈ lw_all := lw_g (lw_at lw_m7 152 rfl) rfl
theorem q1655 : (Jvm.Cond.methodLink "WeaversgateLaw" (185 : Nat) ({ cls := "WeaversgateLaw", name := "traceAdvice", desc := "(LWeaversgate;I[J)I" } : Jvm.MethodName)) ∈ lw_all := lw_g (lw_at lw_m7 156 rfl) rfl
theorem q1656 : (Jvm.Cond.static ({ cls := "WeaversgateLaw", name := "traceAdvice", desc := "(LWeaversgate;I[J)I" } : Jvm.MethodName)) ∈ lw_all := lw_g (lw_at lw_m7 157 rfl) rfl
theorem q1657 : (Jvm.Cond.codeWith ({ cls := "WeaversgateLaw", name := "traceAdvice", desc := "(LWeaversgate;I[J)I" } : Jvm.MethodName) method_19_code (4 : Nat) (Option.some Jvm.ClassFile.FieldType.int) [((0 : Nat), (9 : Nat), (12 : Nat), (13 : Nat))]) ∈ lw_all := lw_g (lw_at lw_m7 158 rfl) rfl
theorem q1658 : (Jvm.Cond.methodLink "WeaversgateLaw" (76 : Nat) ({ cls := "Weaversgate", name := "traceAdvice", desc := "(I)I" } : Jvm.MethodName)) ∈ lw_all := lw_g (lw_at lw_m7 159 rfl) rfl
theorem q1662 : (Jvm.Cond.methodLink "WeaversgateLaw" (193 : Nat) ({ cls := "WeaversgateLaw", name := "acted", desc := "(LWeaversgate;C[J)I" } : Jvm.MethodName)) ∈ lw_all := lw_g (lw_at lw_m7 163 rfl) rfl
theorem q1663 : (Jvm.Cond.static ({ cls := "WeaversgateLaw", name := "acted", desc := "(LWeaversgate;C[J)I" } : Jvm.MethodName)) ∈ lw_all := lw_g (lw_at lw_m7 164 rfl) rfl
theorem q1664 : (Jvm.Cond.codeWith ({ cls := "WeaversgateLaw", name := "acted", desc := "(LWeaversgate;C[J)I" } : Jvm.MethodName) method_20_code (4 : Nat) (Option.some Jvm.ClassFile.FieldType.int) [((0 : Nat), (9 : Nat), (12 : Nat), (21 : Nat))]) ∈ lw_all := lw_g (lw_at lw_m7 165 rfl) rfl
theorem q1665 : (Jvm.Cond.methodLink "WeaversgateLaw" (79 : Nat) ({ cls := "Weaversgate", name := "acted", desc := "(C)I" } : Jvm.MethodName)) ∈ lw_all := lw_g (lw_at lw_m7 166 rfl) rfl
theorem q1725 : (Jvm.Cond.methodLink "WeaversgateLaw" (197 : Nat) ({ cls := "WeaversgateLaw", name := "sureShare", desc := "(LWeaversgate;[D)I" } : Jvm.MethodName)) ∈ lw_all := lw_g (lw_at lw_m7 226 rfl) rfl
theorem q1726 : (Jvm.Cond.static ({ cls := "WeaversgateLaw", name := "sureShare", desc := "(LWeaversgate;[D)I" } : Jvm.MethodName)) ∈ lw_all := lw_g (lw_at lw_m7 227 rfl) rfl
theorem q1727 : (Jvm.Cond.codeWith ({ cls := "WeaversgateLaw", name := "sureShare", desc := "(LWeaversgate;[D)I" } : Jvm.MethodName) method_21_code (3 : Nat) (Option.some Jvm.ClassFile.FieldType.int) [((0 : Nat), (8 : Nat), (11 : Nat), (87 : Nat))]) ∈ lw_all := lw_g (lw_at lw_m7 228 rfl) rfl
theorem q1728 : (Jvm.Cond.classLink "WeaversgateLaw" (87 : Nat) "java/lang/ArithmeticException") ∈ lw_all := lw_g (lw_at lw_m7 229 rfl) rfl
theorem q1742 : (Jvm.Cond.methodLink "WeaversgateLaw" (83 : Nat) ({ cls := "Weaversgate", name := "sureShare", desc := "()F" } : Jvm.MethodName)) ∈ lw_all := lw_g (lw_at lw_m8 3 rfl) rfl
theorem q1751 : (Jvm.Cond.methodLink "WeaversgateLaw" (201 : Nat) ({ cls := "WeaversgateLaw", name := "meanSteps", desc := "(LWeaversgate;[D)I" } : Jvm.MethodName)) ∈ lw_all := lw_g (lw_at lw_m8 12 rfl) rfl
theorem q1752 : (Jvm.Cond.static ({ cls := "WeaversgateLaw", name := "meanSteps", desc := "(LWeaversgate;[D)I" } : Jvm.MethodName)) ∈ lw_all := lw_g (lw_at lw_m8 13 rfl) rfl
theorem q1753 : (Jvm.Cond.codeWith ({ cls := "WeaversgateLaw", name := "meanSteps", desc := "(LWeaversgate;[D)I" } : Jvm.MethodName) method_22_code (3 : Nat) (Option.some Jvm.ClassFile.FieldType.int) [((0 : Nat), (7 : Nat), (10 : Nat), (87 : Nat))]) ∈ lw_all := lw_g (lw_at lw_m8 14 rfl) rfl
theorem q1754 : (Jvm.Cond.methodLink "WeaversgateLaw" (89 : Nat) ({ cls := "Weaversgate", name := "meanSteps", desc := "()D" } : Jvm.MethodName)) ∈ lw_all := lw_g (lw_at lw_m8 15 rfl) rfl
theorem q1758 : (Jvm.Cond.classLink "WeaversgateLaw" (94 : Nat) "WeaversgateModel") ∈ lw_all := lw_g (lw_at lw_m8 19 rfl) rfl
theorem q1760 : (Jvm.Cond.methodLink "WeaversgateLaw" (96 : Nat) ({ cls := "WeaversgateModel", name := "<init>", desc := "()V" } : Jvm.MethodName)) ∈ lw_all := lw_g (lw_at lw_m8 21 rfl) rfl
theorem q1863 : (Jvm.Cond.methodLink "WeaversgateLaw" (103 : Nat) ({ cls := "WeaversgateModel", name := "thrown", desc := "()I" } : Jvm.MethodName)) ∈ lw_all := lw_g (lw_at lw_m8 124 rfl) rfl
theorem q1867 : (Jvm.Cond.methodLink "WeaversgateLaw" (102 : Nat) ({ cls := "WeaversgateModel", name := "addClass", desc := "(I)I" } : Jvm.MethodName)) ∈ lw_all := lw_g (lw_at lw_m8 128 rfl) rfl
theorem q1878 : (Jvm.Cond.methodLink "WeaversgateLaw" (109 : Nat) ({ cls := "WeaversgateModel", name := "addStep", desc := "(IICII)I" } : Jvm.MethodName)) ∈ lw_all := lw_g (lw_at lw_m8 139 rfl) rfl
theorem q1919 : (Jvm.Cond.methodLink "WeaversgateLaw" (113 : Nat) ({ cls := "WeaversgateModel", name := "dropBody", desc := "(II)I" } : Jvm.MethodName)) ∈ lw_all := lw_g (lw_at lw_m8 180 rfl) rfl
theorem q1927 : (Jvm.Cond.methodLink "WeaversgateLaw" (116 : Nat) ({ cls := "WeaversgateModel", name := "finds", desc := "(II)I" } : Jvm.MethodName)) ∈ lw_all := lw_g (lw_at lw_m8 188 rfl) rfl
theorem q1935 : (Jvm.Cond.methodLink "WeaversgateLaw" (120 : Nat) ({ cls := "WeaversgateModel", name := "addPattern", desc := "(CII)I" } : Jvm.MethodName)) ∈ lw_all := lw_g (lw_at lw_m8 196 rfl) rfl
theorem q1959 : (Jvm.Cond.methodLink "WeaversgateLaw" (124 : Nat) ({ cls := "WeaversgateModel", name := "addAdvice", desc := "(ICIII)I" } : Jvm.MethodName)) ∈ lw_all := lw_g (lw_at lw_m8 220 rfl) rfl
theorem q1967 : (Jvm.Cond.methodLink "WeaversgateLaw" (128 : Nat) ({ cls := "WeaversgateModel", name := "turn", desc := "(IZ)Z" } : Jvm.MethodName)) ∈ lw_all := lw_g (lw_at lw_m8 228 rfl) rfl
theorem q1979 : (Jvm.Cond.methodLink "WeaversgateLaw" (132 : Nat) ({ cls := "WeaversgateModel", name := "precede", desc := "(IIZ)Z" } : Jvm.MethodName)) ∈ lw_all := lw_g (lw_at lw_m9 0 rfl) rfl
theorem q1983 : (Jvm.Cond.methodLink "WeaversgateLaw" (137 : Nat) ({ cls := "WeaversgateModel", name := "isRing", desc := "()Z" } : Jvm.MethodName)) ∈ lw_all := lw_g (lw_at lw_m9 4 rfl) rfl
theorem q2087 : (Jvm.Cond.methodLink "WeaversgateLaw" (140 : Nat) ({ cls := "WeaversgateModel", name := "aspectAt", desc := "(I)I" } : Jvm.MethodName)) ∈ lw_all := lw_g (lw_at lw_m9 108 rfl) rfl
theorem q2094 : (Jvm.Cond.methodLink "WeaversgateLaw" (143 : Nat) ({ cls := "WeaversgateModel", name := "places", desc := "(II)I" } : Jvm.MethodName)) ∈ lw_all := lw_g (lw_at lw_m9 115 rfl) rfl
theorem q2125 : (Jvm.Cond.methodLink "WeaversgateLaw" (147 : Nat) ({ cls := "WeaversgateModel", name := "match", desc := "(IIII)C" } : Jvm.MethodName)) ∈ lw_all := lw_g (lw_at lw_m9 146 rfl) rfl
theorem q2166 : (Jvm.Cond.methodLink "WeaversgateLaw" (151 : Nat) ({ cls := "WeaversgateModel", name := "residues", desc := "()I" } : Jvm.MethodName)) ∈ lw_all := lw_g (lw_at lw_m9 187 rfl) rfl
theorem q2226 : (Jvm.Cond.methodLink "WeaversgateLaw" (155 : Nat) ({ cls := "WeaversgateModel", name := "woven", desc := "()I" } : Jvm.MethodName)) ∈ lw_all := lw_g (lw_at lw_m10 7 rfl) rfl
theorem q2230 : (Jvm.Cond.methodLink "WeaversgateLaw" (159 : Nat) ({ cls := "WeaversgateModel", name := "run", desc := "(III)C" } : Jvm.MethodName)) ∈ lw_all := lw_g (lw_at lw_m10 11 rfl) rfl
theorem q2476 : (Jvm.Cond.methodLink "WeaversgateLaw" (162 : Nat) ({ cls := "WeaversgateModel", name := "runAsking", desc := "(III)C" } : Jvm.MethodName)) ∈ lw_all := lw_g (lw_at lw_m11 17 rfl) rfl
theorem q2480 : (Jvm.Cond.methodLink "WeaversgateLaw" (166 : Nat) ({ cls := "WeaversgateModel", name := "result", desc := "()I" } : Jvm.MethodName)) ∈ lw_all := lw_g (lw_at lw_m11 21 rfl) rfl
theorem q2484 : (Jvm.Cond.methodLink "WeaversgateLaw" (170 : Nat) ({ cls := "WeaversgateModel", name := "points", desc := "()I" } : Jvm.MethodName)) ∈ lw_all := lw_g (lw_at lw_m11 25 rfl) rfl
theorem q2488 : (Jvm.Cond.methodLink "WeaversgateLaw" (174 : Nat) ({ cls := "WeaversgateModel", name := "asked", desc := "()I" } : Jvm.MethodName)) ∈ lw_all := lw_g (lw_at lw_m11 29 rfl) rfl
theorem q2492 : (Jvm.Cond.methodLink "WeaversgateLaw" (178 : Nat) ({ cls := "WeaversgateModel", name := "traceLength", desc := "()I" } : Jvm.MethodName)) ∈ lw_all := lw_g (lw_at lw_m11 33 rfl) rfl
theorem q2496 : (Jvm.Cond.methodLink "WeaversgateLaw" (181 : Nat) ({ cls := "WeaversgateModel", name := "traceKind", desc := "(I)C" } : Jvm.MethodName)) ∈ lw_all := lw_g (lw_at lw_m11 37 rfl) rfl
theorem q2509 : (Jvm.Cond.methodLink "WeaversgateLaw" (184 : Nat) ({ cls := "WeaversgateModel", name := "traceValue", desc := "(I)I" } : Jvm.MethodName)) ∈ lw_all := lw_g (lw_at lw_m11 50 rfl) rfl
theorem q2517 : (Jvm.Cond.methodLink "WeaversgateLaw" (187 : Nat) ({ cls := "WeaversgateModel", name := "traceAdvice", desc := "(I)I" } : Jvm.MethodName)) ∈ lw_all := lw_g (lw_at lw_m11 58 rfl) rfl
theorem q2525 : (Jvm.Cond.methodLink "WeaversgateLaw" (192 : Nat) ({ cls := "WeaversgateModel", name := "traceSum", desc := "()J" } : Jvm.MethodName)) ∈ lw_all := lw_g (lw_at lw_m11 66 rfl) rfl
theorem q2530 : (Jvm.Cond.methodLink "WeaversgateLaw" (196 : Nat) ({ cls := "WeaversgateModel", name := "acted", desc := "(C)I" } : Jvm.MethodName)) ∈ lw_all := lw_g (lw_at lw_m11 71 rfl) rfl
theorem q2534 : (Jvm.Cond.methodLink "WeaversgateLaw" (200 : Nat) ({ cls := "WeaversgateModel", name := "sureShare", desc := "()F" } : Jvm.MethodName)) ∈ lw_all := lw_g (lw_at lw_m11 75 rfl) rfl
theorem q2538 : (Jvm.Cond.methodLink "WeaversgateLaw" (203 : Nat) ({ cls := "WeaversgateModel", name := "meanSteps", desc := "()D" } : Jvm.MethodName)) ∈ lw_all := lw_g (lw_at lw_m11 79 rfl) rfl
theorem q2542 : (Jvm.Cond.methodLink "WeaversgateLaw" (207 : Nat) ({ cls := "WeaversgateModel", name := "isSound", desc := "()Z" } : Jvm.MethodName)) ∈ lw_all := lw_g (lw_at lw_m11 83 rfl) rfl

/-! the law's own entry -/
set_option maxRecDepth 100000
abbrev cL_law : ByteArray := code
def dkwL_law_69 : List UInt8 := [159, 0, 5, 3, 172, 132, 5, 6, 167, 249, 83, 4, 172]
abbrev dktL_law_69 : List UInt8 := dkwL_law_69 ++ []
def dkwL_law_68 : List UInt8 := [153, 0, 11, 24, 7, 24, 7, 151, 154, 0, 5, 3, 172, 167, 0, 16, 43, 182, 0, 204, 44, 182, 0, 207]
abbrev dktL_law_68 : List UInt8 := dkwL_law_68 ++ dktL_law_69
def dkwL_law_67 : List UInt8 := [21, 6, 154, 0, 35, 25, 4, 3, 49, 24, 7, 151, 153, 0, 25, 25, 4, 3, 49, 25, 4, 3, 49, 151]
abbrev dktL_law_67 : List UInt8 := dkwL_law_67 ++ dktL_law_68
def dkwL_law_66 : List UInt8 := [25, 4, 184, 0, 201, 54, 6, 44, 182, 0, 203, 57, 7, 44, 182, 0, 103, 21, 6, 159, 0, 5, 3, 172]
abbrev dktL_law_66 : List UInt8 := dkwL_law_66 ++ dktL_law_67
def dkwL_law_65 : List UInt8 := [49, 25, 4, 3, 49, 151, 153, 0, 11, 23, 7, 23, 7, 149, 154, 0, 5, 3, 172, 167, 0, 81, 43]
abbrev dktL_law_65 : List UInt8 := dkwL_law_65 ++ dktL_law_66
def dkwL_law_64 : List UInt8 := [159, 0, 5, 3, 172, 21, 6, 154, 0, 36, 25, 4, 3, 49, 23, 7, 141, 151, 153, 0, 25, 25, 4, 3]
abbrev dktL_law_64 : List UInt8 := dkwL_law_64 ++ dktL_law_65
def dkwL_law_63 : List UInt8 := [167, 0, 147, 43, 25, 4, 184, 0, 197, 54, 6, 44, 182, 0, 200, 56, 7, 44, 182, 0, 103, 21, 6]
abbrev dktL_law_63 : List UInt8 := dkwL_law_63 ++ dktL_law_64
def dkwL_law_62 : List UInt8 := [21, 6, 159, 0, 5, 3, 172, 21, 6, 154, 0, 15, 45, 3, 47, 21, 7, 133, 148, 153, 0, 5, 3, 172]
abbrev dktL_law_62 : List UInt8 := dkwL_law_62 ++ dktL_law_63
def dkwL_law_61 : List UInt8 := [146, 45, 184, 0, 193, 54, 6, 44, 42, 21, 5, 4, 96, 46, 146, 182, 0, 196, 54, 7, 44, 182, 0, 103]
abbrev dktL_law_61 : List UInt8 := dkwL_law_61 ++ dktL_law_62
def dkwL_law_60 : List UInt8 := [167, 0, 219, 43, 182, 0, 188, 44, 182, 0, 192, 148, 153, 0, 207, 3, 172, 43, 42, 21, 5, 4, 96, 46]
abbrev dktL_law_60 : List UInt8 := dkwL_law_60 ++ dktL_law_61
def dkwL_law_59 : List UInt8 := [21, 6, 159, 0, 5, 3, 172, 21, 6, 154, 0, 15, 45, 3, 47, 21, 7, 133, 148, 153, 0, 5, 3, 172]
abbrev dktL_law_59 : List UInt8 := dkwL_law_59 ++ dktL_law_60
def dkwL_law_58 : List UInt8 := [46, 45, 184, 0, 185, 54, 6, 44, 42, 21, 5, 4, 96, 46, 182, 0, 187, 54, 7, 44, 182, 0, 103]
abbrev dktL_law_58 : List UInt8 := dkwL_law_58 ++ dktL_law_59
def dkwL_law_57 : List UInt8 := [154, 0, 15, 45, 3, 47, 21, 7, 133, 148, 153, 0, 5, 3, 172, 167, 1, 19, 43, 42, 21, 5, 4, 96]
abbrev dktL_law_57 : List UInt8 := dkwL_law_57 ++ dktL_law_58
def dkwL_law_56 : List UInt8 := [21, 5, 4, 96, 46, 182, 0, 184, 54, 7, 44, 182, 0, 103, 21, 6, 159, 0, 5, 3, 172, 21, 6]
abbrev dktL_law_56 : List UInt8 := dkwL_law_56 ++ dktL_law_57
def dkwL_law_55 : List UInt8 := [148, 153, 0, 5, 3, 172, 167, 1, 75, 43, 42, 21, 5, 4, 96, 46, 45, 184, 0, 182, 54, 6, 44, 42]
abbrev dktL_law_55 : List UInt8 := dkwL_law_55 ++ dktL_law_56
def dkwL_law_54 : List UInt8 := [54, 7, 44, 182, 0, 103, 21, 6, 159, 0, 5, 3, 172, 21, 6, 154, 0, 15, 45, 3, 47, 21, 7, 133]
abbrev dktL_law_54 : List UInt8 := dkwL_law_54 ++ dktL_law_55
def dkwL_law_53 : List UInt8 := [172, 43, 42, 21, 5, 4, 96, 46, 45, 184, 0, 179, 54, 6, 44, 42, 21, 5, 4, 96, 46, 182, 0, 181]
abbrev dktL_law_53 : List UInt8 := dkwL_law_53 ++ dktL_law_54
def dkwL_law_52 : List UInt8 := [182, 0, 171, 44, 182, 0, 174, 159, 1, 146, 3, 172, 43, 182, 0, 175, 44, 182, 0, 178, 159, 1, 133, 3]
abbrev dktL_law_52 : List UInt8 := dkwL_law_52 ++ dktL_law_53
def dkwL_law_51 : List UInt8 := [148, 153, 0, 5, 3, 172, 167, 1, 170, 43, 182, 0, 167, 44, 182, 0, 170, 159, 1, 159, 3, 172, 43]
abbrev dktL_law_51 : List UInt8 := dkwL_law_51 ++ dktL_law_52
def dkwL_law_50 : List UInt8 := [54, 7, 44, 182, 0, 103, 21, 6, 159, 0, 5, 3, 172, 21, 6, 154, 0, 15, 45, 3, 47, 21, 7, 133]
abbrev dktL_law_50 : List UInt8 := dkwL_law_50 ++ dktL_law_51
def dkwL_law_49 : List UInt8 := [21, 7, 133, 148, 153, 0, 5, 3, 172, 167, 1, 214, 43, 45, 184, 0, 163, 54, 6, 44, 182, 0, 166]
abbrev dktL_law_49 : List UInt8 := dkwL_law_49 ++ dktL_law_50
def dkwL_law_48 : List UInt8 := [182, 0, 162, 54, 7, 44, 182, 0, 103, 21, 6, 159, 0, 5, 3, 172, 21, 6, 154, 0, 15, 45, 3, 47]
abbrev dktL_law_48 : List UInt8 := dkwL_law_48 ++ dktL_law_49
def dkwL_law_47 : List UInt8 := [184, 0, 160, 54, 6, 44, 42, 21, 5, 4, 96, 46, 42, 21, 5, 5, 96, 46, 42, 21, 5, 6, 96, 46]
abbrev dktL_law_47 : List UInt8 := dkwL_law_47 ++ dktL_law_48
def dkwL_law_46 : List UInt8 := [167, 2, 38, 43, 42, 21, 5, 4, 96, 46, 42, 21, 5, 5, 96, 46, 42, 21, 5, 6, 96, 46, 45]
abbrev dktL_law_46 : List UInt8 := dkwL_law_46 ++ dktL_law_47
def dkwL_law_45 : List UInt8 := [159, 0, 5, 3, 172, 21, 6, 154, 0, 15, 45, 3, 47, 21, 7, 133, 148, 153, 0, 5, 3, 172]
abbrev dktL_law_45 : List UInt8 := dkwL_law_45 ++ dktL_law_46
def dkwL_law_44 : List UInt8 := [21, 5, 5, 96, 46, 42, 21, 5, 6, 96, 46, 182, 0, 159, 54, 7, 44, 182, 0, 103, 21, 6]
abbrev dktL_law_44 : List UInt8 := dkwL_law_44 ++ dktL_law_45
def dkwL_law_43 : List UInt8 := [5, 96, 46, 42, 21, 5, 6, 96, 46, 45, 184, 0, 156, 54, 6, 44, 42, 21, 5, 4, 96, 46, 42]
abbrev dktL_law_43 : List UInt8 := dkwL_law_43 ++ dktL_law_44
def dkwL_law_42 : List UInt8 := [172, 43, 182, 0, 152, 44, 182, 0, 155, 159, 2, 120, 3, 172, 43, 42, 21, 5, 4, 96, 46, 42, 21, 5]
abbrev dktL_law_42 : List UInt8 := dkwL_law_42 ++ dktL_law_43
def dkwL_law_41 : List UInt8 := [21, 7, 133, 148, 153, 0, 5, 3, 172, 167, 2, 144, 43, 182, 0, 148, 44, 182, 0, 151, 159, 2, 133, 3]
abbrev dktL_law_41 : List UInt8 := dkwL_law_41 ++ dktL_law_42
def dkwL_law_40 : List UInt8 := [182, 0, 147, 54, 7, 44, 182, 0, 103, 21, 6, 159, 0, 5, 3, 172, 21, 6, 154, 0, 15, 45, 3, 47]
abbrev dktL_law_40 : List UInt8 := dkwL_law_40 ++ dktL_law_41
def dkwL_law_39 : List UInt8 := [21, 5, 4, 96, 46, 42, 21, 5, 5, 96, 46, 42, 21, 5, 6, 96, 46, 42, 21, 5, 7, 96, 46]
abbrev dktL_law_39 : List UInt8 := dkwL_law_39 ++ dktL_law_40
def dkwL_law_38 : List UInt8 := [5, 96, 46, 42, 21, 5, 6, 96, 46, 42, 21, 5, 7, 96, 46, 45, 184, 0, 144, 54, 6, 44, 42]
abbrev dktL_law_38 : List UInt8 := dkwL_law_38 ++ dktL_law_39
def dkwL_law_37 : List UInt8 := [3, 47, 21, 7, 133, 148, 153, 0, 5, 3, 172, 167, 2, 236, 43, 42, 21, 5, 4, 96, 46, 42, 21, 5]
abbrev dktL_law_37 : List UInt8 := dkwL_law_37 ++ dktL_law_38
def dkwL_law_36 : List UInt8 := [96, 46, 182, 0, 143, 54, 7, 44, 182, 0, 103, 21, 6, 159, 0, 5, 3, 172, 21, 6, 154, 0, 15, 45]
abbrev dktL_law_36 : List UInt8 := dkwL_law_36 ++ dktL_law_37
def dkwL_law_35 : List UInt8 := [46, 42, 21, 5, 5, 96, 46, 45, 184, 0, 141, 54, 6, 44, 42, 21, 5, 4, 96, 46, 42, 21, 5, 5]
abbrev dktL_law_35 : List UInt8 := dkwL_law_35 ++ dktL_law_36
def dkwL_law_34 : List UInt8 := [154, 0, 15, 45, 3, 47, 21, 7, 133, 148, 153, 0, 5, 3, 172, 167, 3, 48, 43, 42, 21, 5, 4, 96]
abbrev dktL_law_34 : List UInt8 := dkwL_law_34 ++ dktL_law_35
def dkwL_law_33 : List UInt8 := [21, 5, 4, 96, 46, 182, 0, 140, 54, 7, 44, 182, 0, 103, 21, 6, 159, 0, 5, 3, 172, 21, 6]
abbrev dktL_law_33 : List UInt8 := dkwL_law_33 ++ dktL_law_34
def dkwL_law_32 : List UInt8 := [182, 0, 137, 159, 3, 106, 3, 172, 43, 42, 21, 5, 4, 96, 46, 45, 184, 0, 138, 54, 6, 44, 42]
abbrev dktL_law_32 : List UInt8 := dkwL_law_32 ++ dktL_law_33
def dkwL_law_31 : List UInt8 := [153, 0, 7, 10, 167, 0, 4, 9, 148, 153, 0, 5, 3, 172, 167, 3, 117, 43, 182, 0, 133, 44]
abbrev dktL_law_31 : List UInt8 := dkwL_law_31 ++ dktL_law_32
def dkwL_law_30 : List UInt8 := [54, 7, 44, 182, 0, 103, 21, 6, 159, 0, 5, 3, 172, 21, 6, 154, 0, 22, 45, 3, 47, 21, 7]
abbrev dktL_law_30 : List UInt8 := dkwL_law_30 ++ dktL_law_31
def dkwL_law_29 : List UInt8 := [42, 21, 5, 5, 96, 46, 42, 21, 5, 6, 96, 46, 153, 0, 7, 4, 167, 0, 4, 3, 182, 0, 132]
abbrev dktL_law_29 : List UInt8 := dkwL_law_29 ++ dktL_law_30
def dkwL_law_28 : List UInt8 := [6, 96, 46, 153, 0, 7, 4, 167, 0, 4, 3, 45, 184, 0, 129, 54, 6, 44, 42, 21, 5, 4, 96, 46]
abbrev dktL_law_28 : List UInt8 := dkwL_law_28 ++ dktL_law_29
def dkwL_law_27 : List UInt8 := [153, 0, 5, 3, 172, 167, 3, 220, 43, 42, 21, 5, 4, 96, 46, 42, 21, 5, 5, 96, 46, 42, 21, 5]
abbrev dktL_law_27 : List UInt8 := dkwL_law_27 ++ dktL_law_28
def dkwL_law_26 : List UInt8 := [159, 0, 5, 3, 172, 21, 6, 154, 0, 22, 45, 3, 47, 21, 7, 153, 0, 7, 10, 167, 0, 4, 9, 148]
abbrev dktL_law_26 : List UInt8 := dkwL_law_26 ++ dktL_law_27
def dkwL_law_25 : List UInt8 := [21, 5, 5, 96, 46, 153, 0, 7, 4, 167, 0, 4, 3, 182, 0, 128, 54, 7, 44, 182, 0, 103, 21, 6]
abbrev dktL_law_25 : List UInt8 := dkwL_law_25 ++ dktL_law_26
def dkwL_law_24 : List UInt8 := [96, 46, 153, 0, 7, 4, 167, 0, 4, 3, 45, 184, 0, 125, 54, 6, 44, 42, 21, 5, 4, 96, 46, 42]
abbrev dktL_law_24 : List UInt8 := dkwL_law_24 ++ dktL_law_25
def dkwL_law_23 : List UInt8 := [47, 21, 7, 133, 148, 153, 0, 5, 3, 172, 167, 4, 55, 43, 42, 21, 5, 4, 96, 46, 42, 21, 5, 5]
abbrev dktL_law_23 : List UInt8 := dkwL_law_23 ++ dktL_law_24
def dkwL_law_22 : List UInt8 := [46, 182, 0, 124, 54, 7, 44, 182, 0, 103, 21, 6, 159, 0, 5, 3, 172, 21, 6, 154, 0, 15, 45, 3]
abbrev dktL_law_22 : List UInt8 := dkwL_law_22 ++ dktL_law_23
def dkwL_law_21 : List UInt8 := [42, 21, 5, 5, 96, 46, 146, 42, 21, 5, 6, 96, 46, 42, 21, 5, 7, 96, 46, 42, 21, 5, 8, 96]
abbrev dktL_law_21 : List UInt8 := dkwL_law_21 ++ dktL_law_22
def dkwL_law_20 : List UInt8 := [21, 5, 7, 96, 46, 42, 21, 5, 8, 96, 46, 45, 184, 0, 121, 54, 6, 44, 42, 21, 5, 4, 96, 46]
abbrev dktL_law_20 : List UInt8 := dkwL_law_20 ++ dktL_law_21
def dkwL_law_19 : List UInt8 := [167, 4, 161, 43, 42, 21, 5, 4, 96, 46, 42, 21, 5, 5, 96, 46, 146, 42, 21, 5, 6, 96, 46, 42]
abbrev dktL_law_19 : List UInt8 := dkwL_law_19 ++ dktL_law_20
def dkwL_law_18 : List UInt8 := [159, 0, 5, 3, 172, 21, 6, 154, 0, 15, 45, 3, 47, 21, 7, 133, 148, 153, 0, 5, 3, 172]
abbrev dktL_law_18 : List UInt8 := dkwL_law_18 ++ dktL_law_19
def dkwL_law_17 : List UInt8 := [146, 42, 21, 5, 5, 96, 46, 42, 21, 5, 6, 96, 46, 182, 0, 120, 54, 7, 44, 182, 0, 103, 21, 6]
abbrev dktL_law_17 : List UInt8 := dkwL_law_17 ++ dktL_law_18
def dkwL_law_16 : List UInt8 := [21, 5, 5, 96, 46, 42, 21, 5, 6, 96, 46, 45, 184, 0, 117, 54, 6, 44, 42, 21, 5, 4, 96, 46]
abbrev dktL_law_16 : List UInt8 := dkwL_law_16 ++ dktL_law_17
def dkwL_law_15 : List UInt8 := [3, 47, 21, 7, 133, 148, 153, 0, 5, 3, 172, 167, 4, 243, 43, 42, 21, 5, 4, 96, 46, 146, 42]
abbrev dktL_law_15 : List UInt8 := dkwL_law_15 ++ dktL_law_16
def dkwL_law_14 : List UInt8 := [96, 46, 182, 0, 116, 54, 7, 44, 182, 0, 103, 21, 6, 159, 0, 5, 3, 172, 21, 6, 154, 0, 15, 45]
abbrev dktL_law_14 : List UInt8 := dkwL_law_14 ++ dktL_law_15
def dkwL_law_13 : List UInt8 := [46, 42, 21, 5, 5, 96, 46, 45, 184, 0, 114, 54, 6, 44, 42, 21, 5, 4, 96, 46, 42, 21, 5, 5]
abbrev dktL_law_13 : List UInt8 := dkwL_law_13 ++ dktL_law_14
def dkwL_law_12 : List UInt8 := [154, 0, 15, 45, 3, 47, 21, 7, 133, 148, 153, 0, 5, 3, 172, 167, 5, 55, 43, 42, 21, 5, 4, 96]
abbrev dktL_law_12 : List UInt8 := dkwL_law_12 ++ dktL_law_13
def dkwL_law_11 : List UInt8 := [21, 5, 5, 96, 46, 182, 0, 113, 54, 7, 44, 182, 0, 103, 21, 6, 159, 0, 5, 3, 172, 21, 6]
abbrev dktL_law_11 : List UInt8 := dkwL_law_11 ++ dktL_law_12
def dkwL_law_10 : List UInt8 := [4, 96, 46, 42, 21, 5, 5, 96, 46, 45, 184, 0, 110, 54, 6, 44, 42, 21, 5, 4, 96, 46, 42]
abbrev dktL_law_10 : List UInt8 := dkwL_law_10 ++ dktL_law_11
def dkwL_law_9 : List UInt8 := [21, 6, 154, 0, 15, 45, 3, 47, 21, 7, 133, 148, 153, 0, 5, 3, 172, 167, 5, 123, 43, 42, 21, 5]
abbrev dktL_law_9 : List UInt8 := dkwL_law_9 ++ dktL_law_10
def dkwL_law_8 : List UInt8 := [96, 46, 42, 21, 5, 8, 96, 46, 182, 0, 109, 54, 7, 44, 182, 0, 103, 21, 6, 159, 0, 5, 3, 172]
abbrev dktL_law_8 : List UInt8 := dkwL_law_8 ++ dktL_law_9
def dkwL_law_7 : List UInt8 := [44, 42, 21, 5, 4, 96, 46, 42, 21, 5, 5, 96, 46, 42, 21, 5, 6, 96, 46, 146, 42, 21, 5, 7]
abbrev dktL_law_7 : List UInt8 := dkwL_law_7 ++ dktL_law_8
def dkwL_law_6 : List UInt8 := [21, 5, 6, 96, 46, 146, 42, 21, 5, 7, 96, 46, 42, 21, 5, 8, 96, 46, 45, 184, 0, 106, 54, 6]
abbrev dktL_law_6 : List UInt8 := dkwL_law_6 ++ dktL_law_7
def dkwL_law_5 : List UInt8 := [148, 153, 0, 5, 3, 172, 167, 5, 229, 43, 42, 21, 5, 4, 96, 46, 42, 21, 5, 5, 96, 46, 42]
abbrev dktL_law_5 : List UInt8 := dkwL_law_5 ++ dktL_law_6
def dkwL_law_4 : List UInt8 := [54, 7, 44, 182, 0, 103, 21, 6, 159, 0, 5, 3, 172, 21, 6, 154, 0, 15, 45, 3, 47, 21, 7, 133]
abbrev dktL_law_4 : List UInt8 := dkwL_law_4 ++ dktL_law_5
def dkwL_law_3 : List UInt8 := [43, 42, 21, 5, 4, 96, 46, 45, 184, 0, 97, 54, 6, 44, 42, 21, 5, 4, 96, 46, 182, 0, 102]
abbrev dktL_law_3 : List UInt8 := dkwL_law_3 ++ dktL_law_4
def dkwL_law_2 : List UInt8 := [170, 0, 0, 0, 0, 6, 153, 0, 0, 0, 0, 0, 0, 0, 27, 0, 0, 0, 127, 0, 0, 0, 183, 0, 0, 1, 33, 0, 0, 1, 101, 0, 0, 1, 169, 0, 0, 1, 251, 0, 0, 2, 101, 0, 0, 2, 192, 0, 0, 3, 39, 0, 0, 3, 52, 0, 0, 3, 108, 0, 0, 3, 176, 0, 0, 4, 12, 0, 0, 4, 25, 0, 0, 4, 38, 0, 0, 4, 118, 0, 0, 4, 198, 0, 0, 4, 242, 0, 0, 4, 255, 0, 0, 5, 12, 0, 0, 5, 25, 0, 0, 5, 81, 0, 0, 5, 137, 0, 0, 5, 193, 0, 0, 5, 207, 0, 0, 6, 9, 0, 0, 6, 75, 0, 0, 6, 140]
abbrev dktL_law_2 : List UInt8 := dkwL_law_2 ++ dktL_law_3
def dkwL_law_1 : List UInt8 := [58, 4, 3, 54, 5, 21, 5, 42, 190, 16, 6, 100, 163, 6, 169, 42, 21, 5, 46, 16, 31, 126]
abbrev dktL_law_1 : List UInt8 := dkwL_law_1 ++ dktL_law_2
def dkwL_law_0 : List UInt8 := [187, 0, 8, 89, 183, 0, 93, 76, 187, 0, 94, 89, 183, 0, 96, 77, 4, 188, 11, 78, 4, 188, 7]
abbrev dktL_law_0 : List UInt8 := dkwL_law_0 ++ dktL_law_1
theorem dksL_law_0 : cL_law.data.toList.drop 0 = dktL_law_0 := by decide +kernel
theorem dksL_law_1 : cL_law.data.toList.drop 23 = dktL_law_1 := dk_seg dksL_law_0 23 rfl rfl
theorem dksL_law_2 : cL_law.data.toList.drop 45 = dktL_law_2 := dk_seg dksL_law_1 22 rfl rfl
theorem dksL_law_3 : cL_law.data.toList.drop 172 = dktL_law_3 := dk_seg dksL_law_2 127 rfl rfl
theorem dksL_law_4 : cL_law.data.toList.drop 195 = dktL_law_4 := dk_seg dksL_law_3 23 rfl rfl
theorem dksL_law_5 : cL_law.data.toList.drop 219 = dktL_law_5 := dk_seg dksL_law_4 24 rfl rfl
theorem dksL_law_6 : cL_law.data.toList.drop 242 = dktL_law_6 := dk_seg dksL_law_5 23 rfl rfl
theorem dksL_law_7 : cL_law.data.toList.drop 266 = dktL_law_7 := dk_seg dksL_law_6 24 rfl rfl
theorem dksL_law_8 : cL_law.data.toList.drop 290 = dktL_law_8 := dk_seg dksL_law_7 24 rfl rfl
theorem dksL_law_9 : cL_law.data.toList.drop 314 = dktL_law_9 := dk_seg dksL_law_8 24 rfl rfl
theorem dksL_law_10 : cL_law.data.toList.drop 338 = dktL_law_10 := dk_seg dksL_law_9 24 rfl rfl
theorem dksL_law_11 : cL_law.data.toList.drop 361 = dktL_law_11 := dk_seg dksL_law_10 23 rfl rfl
theorem dksL_law_12 : cL_law.data.toList.drop 384 = dktL_law_12 := dk_seg dksL_law_11 23 rfl rfl
theorem dksL_law_13 : cL_law.data.toList.drop 408 = dktL_law_13 := dk_seg dksL_law_12 24 rfl rfl
theorem dksL_law_14 : cL_law.data.toList.drop 432 = dktL_law_14 := dk_seg dksL_law_13 24 rfl rfl
theorem dksL_law_15 : cL_law.data.toList.drop 456 = dktL_law_15 := dk_seg dksL_law_14 24 rfl rfl
theorem dksL_law_16 : cL_law.data.toList.drop 479 = dktL_law_16 := dk_seg dksL_law_15 23 rfl rfl
theorem dksL_law_17 : cL_law.data.toList.drop 503 = dktL_law_17 := dk_seg dksL_law_16 24 rfl rfl
theorem dksL_law_18 : cL_law.data.toList.drop 527 = dktL_law_18 := dk_seg dksL_law_17 24 rfl rfl
theorem dksL_law_19 : cL_law.data.toList.drop 549 = dktL_law_19 := dk_seg dksL_law_18 22 rfl rfl
theorem dksL_law_20 : cL_law.data.toList.drop 573 = dktL_law_20 := dk_seg dksL_law_19 24 rfl rfl
theorem dksL_law_21 : cL_law.data.toList.drop 597 = dktL_law_21 := dk_seg dksL_law_20 24 rfl rfl
theorem dksL_law_22 : cL_law.data.toList.drop 621 = dktL_law_22 := dk_seg dksL_law_21 24 rfl rfl
theorem dksL_law_23 : cL_law.data.toList.drop 645 = dktL_law_23 := dk_seg dksL_law_22 24 rfl rfl
theorem dksL_law_24 : cL_law.data.toList.drop 669 = dktL_law_24 := dk_seg dksL_law_23 24 rfl rfl
theorem dksL_law_25 : cL_law.data.toList.drop 693 = dktL_law_25 := dk_seg dksL_law_24 24 rfl rfl
theorem dksL_law_26 : cL_law.data.toList.drop 717 = dktL_law_26 := dk_seg dksL_law_25 24 rfl rfl
theorem dksL_law_27 : cL_law.data.toList.drop 741 = dktL_law_27 := dk_seg dksL_law_26 24 rfl rfl
theorem dksL_law_28 : cL_law.data.toList.drop 765 = dktL_law_28 := dk_seg dksL_law_27 24 rfl rfl
theorem dksL_law_29 : cL_law.data.toList.drop 789 = dktL_law_29 := dk_seg dksL_law_28 24 rfl rfl
theorem dksL_law_30 : cL_law.data.toList.drop 812 = dktL_law_30 := dk_seg dksL_law_29 23 rfl rfl
theorem dksL_law_31 : cL_law.data.toList.drop 835 = dktL_law_31 := dk_seg dksL_law_30 23 rfl rfl
theorem dksL_law_32 : cL_law.data.toList.drop 857 = dktL_law_32 := dk_seg dksL_law_31 22 rfl rfl
theorem dksL_law_33 : cL_law.data.toList.drop 880 = dktL_law_33 := dk_seg dksL_law_32 23 rfl rfl
theorem dksL_law_34 : cL_law.data.toList.drop 903 = dktL_law_34 := dk_seg dksL_law_33 23 rfl rfl
theorem dksL_law_35 : cL_law.data.toList.drop 927 = dktL_law_35 := dk_seg dksL_law_34 24 rfl rfl
theorem dksL_law_36 : cL_law.data.toList.drop 951 = dktL_law_36 := dk_seg dksL_law_35 24 rfl rfl
theorem dksL_law_37 : cL_law.data.toList.drop 975 = dktL_law_37 := dk_seg dksL_law_36 24 rfl rfl
theorem dksL_law_38 : cL_law.data.toList.drop 999 = dktL_law_38 := dk_seg dksL_law_37 24 rfl rfl
theorem dksL_law_39 : cL_law.data.toList.drop 1022 = dktL_law_39 := dk_seg dksL_law_38 23 rfl rfl
theorem dksL_law_40 : cL_law.data.toList.drop 1045 = dktL_law_40 := dk_seg dksL_law_39 23 rfl rfl
theorem dksL_law_41 : cL_law.data.toList.drop 1069 = dktL_law_41 := dk_seg dksL_law_40 24 rfl rfl
theorem dksL_law_42 : cL_law.data.toList.drop 1093 = dktL_law_42 := dk_seg dksL_law_41 24 rfl rfl
theorem dksL_law_43 : cL_law.data.toList.drop 1117 = dktL_law_43 := dk_seg dksL_law_42 24 rfl rfl
theorem dksL_law_44 : cL_law.data.toList.drop 1140 = dktL_law_44 := dk_seg dksL_law_43 23 rfl rfl
theorem dksL_law_45 : cL_law.data.toList.drop 1162 = dktL_law_45 := dk_seg dksL_law_44 22 rfl rfl
theorem dksL_law_46 : cL_law.data.toList.drop 1184 = dktL_law_46 := dk_seg dksL_law_45 22 rfl rfl
theorem dksL_law_47 : cL_law.data.toList.drop 1207 = dktL_law_47 := dk_seg dksL_law_46 23 rfl rfl
theorem dksL_law_48 : cL_law.data.toList.drop 1231 = dktL_law_48 := dk_seg dksL_law_47 24 rfl rfl
theorem dksL_law_49 : cL_law.data.toList.drop 1255 = dktL_law_49 := dk_seg dksL_law_48 24 rfl rfl
theorem dksL_law_50 : cL_law.data.toList.drop 1278 = dktL_law_50 := dk_seg dksL_law_49 23 rfl rfl
theorem dksL_law_51 : cL_law.data.toList.drop 1302 = dktL_law_51 := dk_seg dksL_law_50 24 rfl rfl
theorem dksL_law_52 : cL_law.data.toList.drop 1325 = dktL_law_52 := dk_seg dksL_law_51 23 rfl rfl
theorem dksL_law_53 : cL_law.data.toList.drop 1349 = dktL_law_53 := dk_seg dksL_law_52 24 rfl rfl
theorem dksL_law_54 : cL_law.data.toList.drop 1373 = dktL_law_54 := dk_seg dksL_law_53 24 rfl rfl
theorem dksL_law_55 : cL_law.data.toList.drop 1397 = dktL_law_55 := dk_seg dksL_law_54 24 rfl rfl
theorem dksL_law_56 : cL_law.data.toList.drop 1421 = dktL_law_56 := dk_seg dksL_law_55 24 rfl rfl
theorem dksL_law_57 : cL_law.data.toList.drop 1444 = dktL_law_57 := dk_seg dksL_law_56 23 rfl rfl
theorem dksL_law_58 : cL_law.data.toList.drop 1468 = dktL_law_58 := dk_seg dksL_law_57 24 rfl rfl
theorem dksL_law_59 : cL_law.data.toList.drop 1491 = dktL_law_59 := dk_seg dksL_law_58 23 rfl rfl
theorem dksL_law_60 : cL_law.data.toList.drop 1515 = dktL_law_60 := dk_seg dksL_law_59 24 rfl rfl
theorem dksL_law_61 : cL_law.data.toList.drop 1539 = dktL_law_61 := dk_seg dksL_law_60 24 rfl rfl
theorem dksL_law_62 : cL_law.data.toList.drop 1563 = dktL_law_62 := dk_seg dksL_law_61 24 rfl rfl
theorem dksL_law_63 : cL_law.data.toList.drop 1587 = dktL_law_63 := dk_seg dksL_law_62 24 rfl rfl
theorem dksL_law_64 : cL_law.data.toList.drop 1610 = dktL_law_64 := dk_seg dksL_law_63 23 rfl rfl
theorem dksL_law_65 : cL_law.data.toList.drop 1634 = dktL_law_65 := dk_seg dksL_law_64 24 rfl rfl
theorem dksL_law_66 : cL_law.data.toList.drop 1657 = dktL_law_66 := dk_seg dksL_law_65 23 rfl rfl
theorem dksL_law_67 : cL_law.data.toList.drop 1681 = dktL_law_67 := dk_seg dksL_law_66 24 rfl rfl
theorem dksL_law_68 : cL_law.data.toList.drop 1705 = dktL_law_68 := dk_seg dksL_law_67 24 rfl rfl
theorem dksL_law_69 : cL_law.data.toList.drop 1729 = dktL_law_69 := dk_seg dksL_law_68 24 rfl rfl
theorem dL_law_0 : decode cL_law 0 = .ok (.new 8, 3) := dk_187 0 8 (dk_at dksL_law_0 0 rfl rfl)
theorem dL_law_3 : decode cL_law 3 = .ok (.dup, 1) := dk_89 (dk_at dksL_law_0 3 rfl rfl)
theorem dL_law_4 : decode cL_law 4 = .ok (.invokespecial 93, 3) := dk_183 0 93 (dk_at dksL_law_0 4 rfl rfl)
theorem dL_law_7 : decode cL_law 7 = .ok (.astore_n 1, 1) := dk_76 (dk_at dksL_law_0 7 rfl rfl)
theorem dL_law_8 : decode cL_law 8 = .ok (.new 94, 3) := dk_187 0 94 (dk_at dksL_law_0 8 rfl rfl)
theorem dL_law_11 : decode cL_law 11 = .ok (.dup, 1) := dk_89 (dk_at dksL_law_0 11 rfl rfl)
theorem dL_law_12 : decode cL_law 12 = .ok (.invokespecial 96, 3) := dk_183 0 96 (dk_at dksL_law_0 12 rfl rfl)
theorem dL_law_15 : decode cL_law 15 = .ok (.astore_n 2, 1) := dk_77 (dk_at dksL_law_0 15 rfl rfl)
theorem dL_law_16 : decode cL_law 16 = .ok (.iconst 1, 1) := dk_4 (dk_at dksL_law_0 16 rfl rfl)
theorem dL_law_17 : decode cL_law 17 = .ok (.newarray .long, 2) := dk_188_11 (dk_at dksL_law_0 17 rfl rfl)
theorem dL_law_19 : decode cL_law 19 = .ok (.astore_n 3, 1) := dk_78 (dk_at dksL_law_0 19 rfl rfl)
theorem dL_law_20 : decode cL_law 20 = .ok (.iconst 1, 1) := dk_4 (dk_at dksL_law_0 20 rfl rfl)
theorem dL_law_21 : decode cL_law 21 = .ok (.newarray .double, 2) := dk_188_7 (dk_at dksL_law_0 21 rfl rfl)
theorem dL_law_23 : decode cL_law 23 = .ok (.astore 4, 2) := dk_58 4 (dk_at dksL_law_1 0 rfl rfl)
theorem dL_law_25 : decode cL_law 25 = .ok (.iconst 0, 1) := dk_3 (dk_at dksL_law_1 2 rfl rfl)
theorem dL_law_26 : decode cL_law 26 = .ok (.istore 5, 2) := dk_54 5 (dk_at dksL_law_1 3 rfl rfl)
theorem dL_law_28 : decode cL_law 28 = .ok (.iload 5, 2) := dk_21 5 (dk_at dksL_law_1 5 rfl rfl)
theorem dL_law_30 : decode cL_law 30 = .ok (.aload_n 0, 1) := dk_42 (dk_at dksL_law_1 7 rfl rfl)
theorem dL_law_31 : decode cL_law 31 = .ok (.arraylength, 1) := dk_190 (dk_at dksL_law_1 8 rfl rfl)
theorem dL_law_32 : decode cL_law 32 = .ok (.bipush 6, 2) := dk_16 6 (dk_at dksL_law_1 9 rfl rfl)
theorem dL_law_34 : decode cL_law 34 = .ok (.isub, 1) := dk_100 (dk_at dksL_law_1 11 rfl rfl)
theorem dL_law_35 : decode cL_law 35 = .ok (.if_icmp .gt 1705, 3) := dk_163 6 169 (dk_at dksL_law_1 12 rfl rfl)
theorem dL_law_38 : decode cL_law 38 = .ok (.aload_n 0, 1) := dk_42 (dk_at dksL_law_1 15 rfl rfl)
theorem dL_law_39 : decode cL_law 39 = .ok (.iload 5, 2) := dk_21 5 (dk_at dksL_law_1 16 rfl rfl)
theorem dL_law_41 : decode cL_law 41 = .ok (.iaload, 1) := dk_46 (dk_at dksL_law_1 18 rfl rfl)
theorem dL_law_42 : decode cL_law 42 = .ok (.bipush 31, 2) := dk_16 31 (dk_at dksL_law_1 19 rfl rfl)
theorem dL_law_44 : decode cL_law 44 = .ok (.iand, 1) := dk_126 (dk_at dksL_law_1 21 rfl rfl)
theorem dL_law_45 : decode cL_law 45 = .ok (.tableswitch 1689 0 27 #[127, 183, 289, 357, 425, 507, 613, 704, 807, 820, 876, 944, 1036, 1049, 1062, 1142, 1222, 1266, 1279, 1292, 1305, 1361, 1417, 1473, 1487, 1545, 1611, 1676], 127) := by decide +kernel
theorem dL_law_172 : decode cL_law 172 = .ok (.aload_n 1, 1) := dk_43 (dk_at dksL_law_3 0 rfl rfl)
theorem dL_law_173 : decode cL_law 173 = .ok (.aload_n 0, 1) := dk_42 (dk_at dksL_law_3 1 rfl rfl)
theorem dL_law_174 : decode cL_law 174 = .ok (.iload 5, 2) := dk_21 5 (dk_at dksL_law_3 2 rfl rfl)
theorem dL_law_176 : decode cL_law 176 = .ok (.iconst 1, 1) := dk_4 (dk_at dksL_law_3 4 rfl rfl)
theorem dL_law_177 : decode cL_law 177 = .ok (.iadd, 1) := dk_96 (dk_at dksL_law_3 5 rfl rfl)
theorem dL_law_178 : decode cL_law 178 = .ok (.iaload, 1) := dk_46 (dk_at dksL_law_3 6 rfl rfl)
theorem dL_law_179 : decode cL_law 179 = .ok (.aload_n 3, 1) := dk_45 (dk_at dksL_law_3 7 rfl rfl)
theorem dL_law_180 : decode cL_law 180 = .ok (.invokestatic 97, 3) := dk_184 0 97 (dk_at dksL_law_3 8 rfl rfl)
theorem dL_law_183 : decode cL_law 183 = .ok (.istore 6, 2) := dk_54 6 (dk_at dksL_law_3 11 rfl rfl)
theorem dL_law_185 : decode cL_law 185 = .ok (.aload_n 2, 1) := dk_44 (dk_at dksL_law_3 13 rfl rfl)
theorem dL_law_186 : decode cL_law 186 = .ok (.aload_n 0, 1) := dk_42 (dk_at dksL_law_3 14 rfl rfl)
theorem dL_law_187 : decode cL_law 187 = .ok (.iload 5, 2) := dk_21 5 (dk_at dksL_law_3 15 rfl rfl)
theorem dL_law_189 : decode cL_law 189 = .ok (.iconst 1, 1) := dk_4 (dk_at dksL_law_3 17 rfl rfl)
theorem dL_law_190 : decode cL_law 190 = .ok (.iadd, 1) := dk_96 (dk_at dksL_law_3 18 rfl rfl)
theorem dL_law_191 : decode cL_law 191 = .ok (.iaload, 1) := dk_46 (dk_at dksL_law_3 19 rfl rfl)
theorem dL_law_192 : decode cL_law 192 = .ok (.invokevirtual 102, 3) := dk_182 0 102 (dk_at dksL_law_3 20 rfl rfl)
theorem dL_law_195 : decode cL_law 195 = .ok (.istore 7, 2) := dk_54 7 (dk_at dksL_law_4 0 rfl rfl)
theorem dL_law_197 : decode cL_law 197 = .ok (.aload_n 2, 1) := dk_44 (dk_at dksL_law_4 2 rfl rfl)
theorem dL_law_198 : decode cL_law 198 = .ok (.invokevirtual 103, 3) := dk_182 0 103 (dk_at dksL_law_4 3 rfl rfl)
theorem dL_law_201 : decode cL_law 201 = .ok (.iload 6, 2) := dk_21 6 (dk_at dksL_law_4 6 rfl rfl)
theorem dL_law_203 : decode cL_law 203 = .ok (.if_icmp .eq 5, 3) := dk_159 0 5 (dk_at dksL_law_4 8 rfl rfl)
theorem dL_law_206 : decode cL_law 206 = .ok (.iconst 0, 1) := dk_3 (dk_at dksL_law_4 11 rfl rfl)
theorem dL_law_207 : decode cL_law 207 = .ok (.ireturn, 1) := dk_172 (dk_at dksL_law_4 12 rfl rfl)
theorem dL_law_208 : decode cL_law 208 = .ok (.iload 6, 2) := dk_21 6 (dk_at dksL_law_4 13 rfl rfl)
theorem dL_law_210 : decode cL_law 210 = .ok (.ifCond .ne 15, 3) := dk_154 0 15 (dk_at dksL_law_4 15 rfl rfl)
theorem dL_law_213 : decode cL_law 213 = .ok (.aload_n 3, 1) := dk_45 (dk_at dksL_law_4 18 rfl rfl)
theorem dL_law_214 : decode cL_law 214 = .ok (.iconst 0, 1) := dk_3 (dk_at dksL_law_4 19 rfl rfl)
theorem dL_law_215 : decode cL_law 215 = .ok (.laload, 1) := dk_47 (dk_at dksL_law_4 20 rfl rfl)
theorem dL_law_216 : decode cL_law 216 = .ok (.iload 7, 2) := dk_21 7 (dk_at dksL_law_4 21 rfl rfl)
theorem dL_law_218 : decode cL_law 218 = .ok (.i2l, 1) := dk_133 (dk_at dksL_law_4 23 rfl rfl)
theorem dL_law_219 : decode cL_law 219 = .ok (.lcmp, 1) := dk_148 (dk_at dksL_law_5 0 rfl rfl)
theorem dL_law_220 : decode cL_law 220 = .ok (.ifCond .eq 5, 3) := dk_153 0 5 (dk_at dksL_law_5 1 rfl rfl)
theorem dL_law_223 : decode cL_law 223 = .ok (.iconst 0, 1) := dk_3 (dk_at dksL_law_5 4 rfl rfl)
theorem dL_law_224 : decode cL_law 224 = .ok (.ireturn, 1) := dk_172 (dk_at dksL_law_5 5 rfl rfl)
theorem dL_law_225 : decode cL_law 225 = .ok (.goto 1509, 3) := dk_167 5 229 (dk_at dksL_law_5 6 rfl rfl)
theorem dL_law_228 : decode cL_law 228 = .ok (.aload_n 1, 1) := dk_43 (dk_at dksL_law_5 9 rfl rfl)
theorem dL_law_229 : decode cL_law 229 = .ok (.aload_n 0, 1) := dk_42 (dk_at dksL_law_5 10 rfl rfl)
theorem dL_law_230 : decode cL_law 230 = .ok (.iload 5, 2) := dk_21 5 (dk_at dksL_law_5 11 rfl rfl)
theorem dL_law_232 : decode cL_law 232 = .ok (.iconst 1, 1) := dk_4 (dk_at dksL_law_5 13 rfl rfl)
theorem dL_law_233 : decode cL_law 233 = .ok (.iadd, 1) := dk_96 (dk_at dksL_law_5 14 rfl rfl)
theorem dL_law_234 : decode cL_law 234 = .ok (.iaload, 1) := dk_46 (dk_at dksL_law_5 15 rfl rfl)
theorem dL_law_235 : decode cL_law 235 = .ok (.aload_n 0, 1) := dk_42 (dk_at dksL_law_5 16 rfl rfl)
theorem dL_law_236 : decode cL_law 236 = .ok (.iload 5, 2) := dk_21 5 (dk_at dksL_law_5 17 rfl rfl)
theorem dL_law_238 : decode cL_law 238 = .ok (.iconst 2, 1) := dk_5 (dk_at dksL_law_5 19 rfl rfl)
theorem dL_law_239 : decode cL_law 239 = .ok (.iadd, 1) := dk_96 (dk_at dksL_law_5 20 rfl rfl)
theorem dL_law_240 : decode cL_law 240 = .ok (.iaload, 1) := dk_46 (dk_at dksL_law_5 21 rfl rfl)
theorem dL_law_241 : decode cL_law 241 = .ok (.aload_n 0, 1) := dk_42 (dk_at dksL_law_5 22 rfl rfl)
theorem dL_law_242 : decode cL_law 242 = .ok (.iload 5, 2) := dk_21 5 (dk_at dksL_law_6 0 rfl rfl)
theorem dL_law_244 : decode cL_law 244 = .ok (.iconst 3, 1) := dk_6 (dk_at dksL_law_6 2 rfl rfl)
theorem dL_law_245 : decode cL_law 245 = .ok (.iadd, 1) := dk_96 (dk_at dksL_law_6 3 rfl rfl)
theorem dL_law_246 : decode cL_law 246 = .ok (.iaload, 1) := dk_46 (dk_at dksL_law_6 4 rfl rfl)
theorem dL_law_247 : decode cL_law 247 = .ok (.i2c, 1) := dk_146 (dk_at dksL_law_6 5 rfl rfl)
theorem dL_law_248 : decode cL_law 248 = .ok (.aload_n 0, 1) := dk_42 (dk_at dksL_law_6 6 rfl rfl)
theorem dL_law_249 : decode cL_law 249 = .ok (.iload 5, 2) := dk_21 5 (dk_at dksL_law_6 7 rfl rfl)
theorem dL_law_251 : decode cL_law 251 = .ok (.iconst 4, 1) := dk_7 (dk_at dksL_law_6 9 rfl rfl)
theorem dL_law_252 : decode cL_law 252 = .ok (.iadd, 1) := dk_96 (dk_at dksL_law_6 10 rfl rfl)
theorem dL_law_253 : decode cL_law 253 = .ok (.iaload, 1) := dk_46 (dk_at dksL_law_6 11 rfl rfl)
theorem dL_law_254 : decode cL_law 254 = .ok (.aload_n 0, 1) := dk_42 (dk_at dksL_law_6 12 rfl rfl)
theorem dL_law_255 : decode cL_law 255 = .ok (.iload 5, 2) := dk_21 5 (dk_at dksL_law_6 13 rfl rfl)
theorem dL_law_257 : decode cL_law 257 = .ok (.iconst 5, 1) := dk_8 (dk_at dksL_law_6 15 rfl rfl)
theorem dL_law_258 : decode cL_law 258 = .ok (.iadd, 1) := dk_96 (dk_at dksL_law_6 16 rfl rfl)
theorem dL_law_259 : decode cL_law 259 = .ok (.iaload, 1) := dk_46 (dk_at dksL_law_6 17 rfl rfl)
theorem dL_law_260 : decode cL_law 260 = .ok (.aload_n 3, 1) := dk_45 (dk_at dksL_law_6 18 rfl rfl)
theorem dL_law_261 : decode cL_law 261 = .ok (.invokestatic 106, 3) := dk_184 0 106 (dk_at dksL_law_6 19 rfl rfl)
theorem dL_law_264 : decode cL_law 264 = .ok (.istore 6, 2) := dk_54 6 (dk_at dksL_law_6 22 rfl rfl)
theorem dL_law_266 : decode cL_law 266 = .ok (.aload_n 2, 1) := dk_44 (dk_at dksL_law_7 0 rfl rfl)
theorem dL_law_267 : decode cL_law 267 = .ok (.aload_n 0, 1) := dk_42 (dk_at dksL_law_7 1 rfl rfl)
theorem dL_law_268 : decode cL_law 268 = .ok (.iload 5, 2) := dk_21 5 (dk_at dksL_law_7 2 rfl rfl)
theorem dL_law_270 : decode cL_law 270 = .ok (.iconst 1, 1) := dk_4 (dk_at dksL_law_7 4 rfl rfl)
theorem dL_law_271 : decode cL_law 271 = .ok (.iadd, 1) := dk_96 (dk_at dksL_law_7 5 rfl rfl)
theorem dL_law_272 : decode cL_law 272 = .ok (.iaload, 1) := dk_46 (dk_at dksL_law_7 6 rfl rfl)
theorem dL_law_273 : decode cL_law 273 = .ok (.aload_n 0, 1) := dk_42 (dk_at dksL_law_7 7 rfl rfl)
theorem dL_law_274 : decode cL_law 274 = .ok (.iload 5, 2) := dk_21 5 (dk_at dksL_law_7 8 rfl rfl)
theorem dL_law_276 : decode cL_law 276 = .ok (.iconst 2, 1) := dk_5 (dk_at dksL_law_7 10 rfl rfl)
theorem dL_law_277 : decode cL_law 277 = .ok (.iadd, 1) := dk_96 (dk_at dksL_law_7 11 rfl rfl)
theorem dL_law_278 : decode cL_law 278 = .ok (.iaload, 1) := dk_46 (dk_at dksL_law_7 12 rfl rfl)
theorem dL_law_279 : decode cL_law 279 = .ok (.aload_n 0, 1) := dk_42 (dk_at dksL_law_7 13 rfl rfl)
theorem dL_law_280 : decode cL_law 280 = .ok (.iload 5, 2) := dk_21 5 (dk_at dksL_law_7 14 rfl rfl)
theorem dL_law_282 : decode cL_law 282 = .ok (.iconst 3, 1) := dk_6 (dk_at dksL_law_7 16 rfl rfl)
theorem dL_law_283 : decode cL_law 283 = .ok (.iadd, 1) := dk_96 (dk_at dksL_law_7 17 rfl rfl)
theorem dL_law_284 : decode cL_law 284 = .ok (.iaload, 1) := dk_46 (dk_at dksL_law_7 18 rfl rfl)
theorem dL_law_285 : decode cL_law 285 = .ok (.i2c, 1) := dk_146 (dk_at dksL_law_7 19 rfl rfl)
theorem dL_law_286 : decode cL_law 286 = .ok (.aload_n 0, 1) := dk_42 (dk_at dksL_law_7 20 rfl rfl)
theorem dL_law_287 : decode cL_law 287 = .ok (.iload 5, 2) := dk_21 5 (dk_at dksL_law_7 21 rfl rfl)
theorem dL_law_289 : decode cL_law 289 = .ok (.iconst 4, 1) := dk_7 (dk_at dksL_law_7 23 rfl rfl)
theorem dL_law_290 : decode cL_law 290 = .ok (.iadd, 1) := dk_96 (dk_at dksL_law_8 0 rfl rfl)
theorem dL_law_291 : decode cL_law 291 = .ok (.iaload, 1) := dk_46 (dk_at dksL_law_8 1 rfl rfl)
theorem dL_law_292 : decode cL_law 292 = .ok (.aload_n 0, 1) := dk_42 (dk_at dksL_law_8 2 rfl rfl)
theorem dL_law_293 : decode cL_law 293 = .ok (.iload 5, 2) := dk_21 5 (dk_at dksL_law_8 3 rfl rfl)
theorem dL_law_295 : decode cL_law 295 = .ok (.iconst 5, 1) := dk_8 (dk_at dksL_law_8 5 rfl rfl)
theorem dL_law_296 : decode cL_law 296 = .ok (.iadd, 1) := dk_96 (dk_at dksL_law_8 6 rfl rfl)
theorem dL_law_297 : decode cL_law 297 = .ok (.iaload, 1) := dk_46 (dk_at dksL_law_8 7 rfl rfl)
theorem dL_law_298 : decode cL_law 298 = .ok (.invokevirtual 109, 3) := dk_182 0 109 (dk_at dksL_law_8 8 rfl rfl)
theorem dL_law_301 : decode cL_law 301 = .ok (.istore 7, 2) := dk_54 7 (dk_at dksL_law_8 11 rfl rfl)
theorem dL_law_303 : decode cL_law 303 = .ok (.aload_n 2, 1) := dk_44 (dk_at dksL_law_8 13 rfl rfl)
theorem dL_law_304 : decode cL_law 304 = .ok (.invokevirtual 103, 3) := dk_182 0 103 (dk_at dksL_law_8 14 rfl rfl)
theorem dL_law_307 : decode cL_law 307 = .ok (.iload 6, 2) := dk_21 6 (dk_at dksL_law_8 17 rfl rfl)
theorem dL_law_309 : decode cL_law 309 = .ok (.if_icmp .eq 5, 3) := dk_159 0 5 (dk_at dksL_law_8 19 rfl rfl)
theorem dL_law_312 : decode cL_law 312 = .ok (.iconst 0, 1) := dk_3 (dk_at dksL_law_8 22 rfl rfl)
theorem dL_law_313 : decode cL_law 313 = .ok (.ireturn, 1) := dk_172 (dk_at dksL_law_8 23 rfl rfl)
theorem dL_law_314 : decode cL_law 314 = .ok (.iload 6, 2) := dk_21 6 (dk_at dksL_law_9 0 rfl rfl)
theorem dL_law_316 : decode cL_law 316 = .ok (.ifCond .ne 15, 3) := dk_154 0 15 (dk_at dksL_law_9 2 rfl rfl)
theorem dL_law_319 : decode cL_law 319 = .ok (.aload_n 3, 1) := dk_45 (dk_at dksL_law_9 5 rfl rfl)
theorem dL_law_320 : decode cL_law 320 = .ok (.iconst 0, 1) := dk_3 (dk_at dksL_law_9 6 rfl rfl)
theorem dL_law_321 : decode cL_law 321 = .ok (.laload, 1) := dk_47 (dk_at dksL_law_9 7 rfl rfl)
theorem dL_law_322 : decode cL_law 322 = .ok (.iload 7, 2) := dk_21 7 (dk_at dksL_law_9 8 rfl rfl)
theorem dL_law_324 : decode cL_law 324 = .ok (.i2l, 1) := dk_133 (dk_at dksL_law_9 10 rfl rfl)
theorem dL_law_325 : decode cL_law 325 = .ok (.lcmp, 1) := dk_148 (dk_at dksL_law_9 11 rfl rfl)
theorem dL_law_326 : decode cL_law 326 = .ok (.ifCond .eq 5, 3) := dk_153 0 5 (dk_at dksL_law_9 12 rfl rfl)
theorem dL_law_329 : decode cL_law 329 = .ok (.iconst 0, 1) := dk_3 (dk_at dksL_law_9 15 rfl rfl)
theorem dL_law_330 : decode cL_law 330 = .ok (.ireturn, 1) := dk_172 (dk_at dksL_law_9 16 rfl rfl)
theorem dL_law_331 : decode cL_law 331 = .ok (.goto 1403, 3) := dk_167 5 123 (dk_at dksL_law_9 17 rfl rfl)
theorem dL_law_334 : decode cL_law 334 = .ok (.aload_n 1, 1) := dk_43 (dk_at dksL_law_9 20 rfl rfl)
theorem dL_law_335 : decode cL_law 335 = .ok (.aload_n 0, 1) := dk_42 (dk_at dksL_law_9 21 rfl rfl)
theorem dL_law_336 : decode cL_law 336 = .ok (.iload 5, 2) := dk_21 5 (dk_at dksL_law_9 22 rfl rfl)
theorem dL_law_338 : decode cL_law 338 = .ok (.iconst 1, 1) := dk_4 (dk_at dksL_law_10 0 rfl rfl)
theorem dL_law_339 : decode cL_law 339 = .ok (.iadd, 1) := dk_96 (dk_at dksL_law_10 1 rfl rfl)
theorem dL_law_340 : decode cL_law 340 = .ok (.iaload, 1) := dk_46 (dk_at dksL_law_10 2 rfl rfl)
theorem dL_law_341 : decode cL_law 341 = .ok (.aload_n 0, 1) := dk_42 (dk_at dksL_law_10 3 rfl rfl)
theorem dL_law_342 : decode cL_law 342 = .ok (.iload 5, 2) := dk_21 5 (dk_at dksL_law_10 4 rfl rfl)
theorem dL_law_344 : decode cL_law 344 = .ok (.iconst 2, 1) := dk_5 (dk_at dksL_law_10 6 rfl rfl)
theorem dL_law_345 : decode cL_law 345 = .ok (.iadd, 1) := dk_96 (dk_at dksL_law_10 7 rfl rfl)
theorem dL_law_346 : decode cL_law 346 = .ok (.iaload, 1) := dk_46 (dk_at dksL_law_10 8 rfl rfl)
theorem dL_law_347 : decode cL_law 347 = .ok (.aload_n 3, 1) := dk_45 (dk_at dksL_law_10 9 rfl rfl)
theorem dL_law_348 : decode cL_law 348 = .ok (.invokestatic 110, 3) := dk_184 0 110 (dk_at dksL_law_10 10 rfl rfl)
theorem dL_law_351 : decode cL_law 351 = .ok (.istore 6, 2) := dk_54 6 (dk_at dksL_law_10 13 rfl rfl)
theorem dL_law_353 : decode cL_law 353 = .ok (.aload_n 2, 1) := dk_44 (dk_at dksL_law_10 15 rfl rfl)
theorem dL_law_354 : decode cL_law 354 = .ok (.aload_n 0, 1) := dk_42 (dk_at dksL_law_10 16 rfl rfl)
theorem dL_law_355 : decode cL_law 355 = .ok (.iload 5, 2) := dk_21 5 (dk_at dksL_law_10 17 rfl rfl)
theorem dL_law_357 : decode cL_law 357 = .ok (.iconst 1, 1) := dk_4 (dk_at dksL_law_10 19 rfl rfl)
theorem dL_law_358 : decode cL_law 358 = .ok (.iadd, 1) := dk_96 (dk_at dksL_law_10 20 rfl rfl)
theorem dL_law_359 : decode cL_law 359 = .ok (.iaload, 1) := dk_46 (dk_at dksL_law_10 21 rfl rfl)
theorem dL_law_360 : decode cL_law 360 = .ok (.aload_n 0, 1) := dk_42 (dk_at dksL_law_10 22 rfl rfl)
theorem dL_law_361 : decode cL_law 361 = .ok (.iload 5, 2) := dk_21 5 (dk_at dksL_law_11 0 rfl rfl)
theorem dL_law_363 : decode cL_law 363 = .ok (.iconst 2, 1) := dk_5 (dk_at dksL_law_11 2 rfl rfl)
theorem dL_law_364 : decode cL_law 364 = .ok (.iadd, 1) := dk_96 (dk_at dksL_law_11 3 rfl rfl)
theorem dL_law_365 : decode cL_law 365 = .ok (.iaload, 1) := dk_46 (dk_at dksL_law_11 4 rfl rfl)
theorem dL_law_366 : decode cL_law 366 = .ok (.invokevirtual 113, 3) := dk_182 0 113 (dk_at dksL_law_11 5 rfl rfl)
theorem dL_law_369 : decode cL_law 369 = .ok (.istore 7, 2) := dk_54 7 (dk_at dksL_law_11 8 rfl rfl)
theorem dL_law_371 : decode cL_law 371 = .ok (.aload_n 2, 1) := dk_44 (dk_at dksL_law_11 10 rfl rfl)
theorem dL_law_372 : decode cL_law 372 = .ok (.invokevirtual 103, 3) := dk_182 0 103 (dk_at dksL_law_11 11 rfl rfl)
theorem dL_law_375 : decode cL_law 375 = .ok (.iload 6, 2) := dk_21 6 (dk_at dksL_law_11 14 rfl rfl)
theorem dL_law_377 : decode cL_law 377 = .ok (.if_icmp .eq 5, 3) := dk_159 0 5 (dk_at dksL_law_11 16 rfl rfl)
theorem dL_law_380 : decode cL_law 380 = .ok (.iconst 0, 1) := dk_3 (dk_at dksL_law_11 19 rfl rfl)
theorem dL_law_381 : decode cL_law 381 = .ok (.ireturn, 1) := dk_172 (dk_at dksL_law_11 20 rfl rfl)
theorem dL_law_382 : decode cL_law 382 = .ok (.iload 6, 2) := dk_21 6 (dk_at dksL_law_11 21 rfl rfl)
theorem dL_law_384 : decode cL_law 384 = .ok (.ifCond .ne 15, 3) := dk_154 0 15 (dk_at dksL_law_12 0 rfl rfl)
theorem dL_law_387 : decode cL_law 387 = .ok (.aload_n 3, 1) := dk_45 (dk_at dksL_law_12 3 rfl rfl)
theorem dL_law_388 : decode cL_law 388 = .ok (.iconst 0, 1) := dk_3 (dk_at dksL_law_12 4 rfl rfl)
theorem dL_law_389 : decode cL_law 389 = .ok (.laload, 1) := dk_47 (dk_at dksL_law_12 5 rfl rfl)
theorem dL_law_390 : decode cL_law 390 = .ok (.iload 7, 2) := dk_21 7 (dk_at dksL_law_12 6 rfl rfl)
theorem dL_law_392 : decode cL_law 392 = .ok (.i2l, 1) := dk_133 (dk_at dksL_law_12 8 rfl rfl)
theorem dL_law_393 : decode cL_law 393 = .ok (.lcmp, 1) := dk_148 (dk_at dksL_law_12 9 rfl rfl)
theorem dL_law_394 : decode cL_law 394 = .ok (.ifCond .eq 5, 3) := dk_153 0 5 (dk_at dksL_law_12 10 rfl rfl)
theorem dL_law_397 : decode cL_law 397 = .ok (.iconst 0, 1) := dk_3 (dk_at dksL_law_12 13 rfl rfl)
theorem dL_law_398 : decode cL_law 398 = .ok (.ireturn, 1) := dk_172 (dk_at dksL_law_12 14 rfl rfl)
theorem dL_law_399 : decode cL_law 399 = .ok (.goto 1335, 3) := dk_167 5 55 (dk_at dksL_law_12 15 rfl rfl)
theorem dL_law_402 : decode cL_law 402 = .ok (.aload_n 1, 1) := dk_43 (dk_at dksL_law_12 18 rfl rfl)
theorem dL_law_403 : decode cL_law 403 = .ok (.aload_n 0, 1) := dk_42 (dk_at dksL_law_12 19 rfl rfl)
theorem dL_law_404 : decode cL_law 404 = .ok (.iload 5, 2) := dk_21 5 (dk_at dksL_law_12 20 rfl rfl)
theorem dL_law_406 : decode cL_law 406 = .ok (.iconst 1, 1) := dk_4 (dk_at dksL_law_12 22 rfl rfl)
theorem dL_law_407 : decode cL_law 407 = .ok (.iadd, 1) := dk_96 (dk_at dksL_law_12 23 rfl rfl)
theorem dL_law_408 : decode cL_law 408 = .ok (.iaload, 1) := dk_46 (dk_at dksL_law_13 0 rfl rfl)
theorem dL_law_409 : decode cL_law 409 = .ok (.aload_n 0, 1) := dk_42 (dk_at dksL_law_13 1 rfl rfl)
theorem dL_law_410 : decode cL_law 410 = .ok (.iload 5, 2) := dk_21 5 (dk_at dksL_law_13 2 rfl rfl)
theorem dL_law_412 : decode cL_law 412 = .ok (.iconst 2, 1) := dk_5 (dk_at dksL_law_13 4 rfl rfl)
theorem dL_law_413 : decode cL_law 413 = .ok (.iadd, 1) := dk_96 (dk_at dksL_law_13 5 rfl rfl)
theorem dL_law_414 : decode cL_law 414 = .ok (.iaload, 1) := dk_46 (dk_at dksL_law_13 6 rfl rfl)
theorem dL_law_415 : decode cL_law 415 = .ok (.aload_n 3, 1) := dk_45 (dk_at dksL_law_13 7 rfl rfl)
theorem dL_law_416 : decode cL_law 416 = .ok (.invokestatic 114, 3) := dk_184 0 114 (dk_at dksL_law_13 8 rfl rfl)
theorem dL_law_419 : decode cL_law 419 = .ok (.istore 6, 2) := dk_54 6 (dk_at dksL_law_13 11 rfl rfl)
theorem dL_law_421 : decode cL_law 421 = .ok (.aload_n 2, 1) := dk_44 (dk_at dksL_law_13 13 rfl rfl)
theorem dL_law_422 : decode cL_law 422 = .ok (.aload_n 0, 1) := dk_42 (dk_at dksL_law_13 14 rfl rfl)
theorem dL_law_423 : decode cL_law 423 = .ok (.iload 5, 2) := dk_21 5 (dk_at dksL_law_13 15 rfl rfl)
theorem dL_law_425 : decode cL_law 425 = .ok (.iconst 1, 1) := dk_4 (dk_at dksL_law_13 17 rfl rfl)
theorem dL_law_426 : decode cL_law 426 = .ok (.iadd, 1) := dk_96 (dk_at dksL_law_13 18 rfl rfl)
theorem dL_law_427 : decode cL_law 427 = .ok (.iaload, 1) := dk_46 (dk_at dksL_law_13 19 rfl rfl)
theorem dL_law_428 : decode cL_law 428 = .ok (.aload_n 0, 1) := dk_42 (dk_at dksL_law_13 20 rfl rfl)
theorem dL_law_429 : decode cL_law 429 = .ok (.iload 5, 2) := dk_21 5 (dk_at dksL_law_13 21 rfl rfl)
theorem dL_law_431 : decode cL_law 431 = .ok (.iconst 2, 1) := dk_5 (dk_at dksL_law_13 23 rfl rfl)
theorem dL_law_432 : decode cL_law 432 = .ok (.iadd, 1) := dk_96 (dk_at dksL_law_14 0 rfl rfl)
theorem dL_law_433 : decode cL_law 433 = .ok (.iaload, 1) := dk_46 (dk_at dksL_law_14 1 rfl rfl)
theorem dL_law_434 : decode cL_law 434 = .ok (.invokevirtual 116, 3) := dk_182 0 116 (dk_at dksL_law_14 2 rfl rfl)
theorem dL_law_437 : decode cL_law 437 = .ok (.istore 7, 2) := dk_54 7 (dk_at dksL_law_14 5 rfl rfl)
theorem dL_law_439 : decode cL_law 439 = .ok (.aload_n 2, 1) := dk_44 (dk_at dksL_law_14 7 rfl rfl)
theorem dL_law_440 : decode cL_law 440 = .ok (.invokevirtual 103, 3) := dk_182 0 103 (dk_at dksL_law_14 8 rfl rfl)
theorem dL_law_443 : decode cL_law 443 = .ok (.iload 6, 2) := dk_21 6 (dk_at dksL_law_14 11 rfl rfl)
theorem dL_law_445 : decode cL_law 445 = .ok (.if_icmp .eq 5, 3) := dk_159 0 5 (dk_at dksL_law_14 13 rfl rfl)
theorem dL_law_448 : decode cL_law 448 = .ok (.iconst 0, 1) := dk_3 (dk_at dksL_law_14 16 rfl rfl)
theorem dL_law_449 : decode cL_law 449 = .ok (.ireturn, 1) := dk_172 (dk_at dksL_law_14 17 rfl rfl)
theorem dL_law_450 : decode cL_law 450 = .ok (.iload 6, 2) := dk_21 6 (dk_at dksL_law_14 18 rfl rfl)
theorem dL_law_452 : decode cL_law 452 = .ok (.ifCond .ne 15, 3) := dk_154 0 15 (dk_at dksL_law_14 20 rfl rfl)
theorem dL_law_455 : decode cL_law 455 = .ok (.aload_n 3, 1) := dk_45 (dk_at dksL_law_14 23 rfl rfl)
theorem dL_law_456 : decode cL_law 456 = .ok (.iconst 0, 1) := dk_3 (dk_at dksL_law_15 0 rfl rfl)
theorem dL_law_457 : decode cL_law 457 = .ok (.laload, 1) := dk_47 (dk_at dksL_law_15 1 rfl rfl)
theorem dL_law_458 : decode cL_law 458 = .ok (.iload 7, 2) := dk_21 7 (dk_at dksL_law_15 2 rfl rfl)
theorem dL_law_460 : decode cL_law 460 = .ok (.i2l, 1) := dk_133 (dk_at dksL_law_15 4 rfl rfl)
theorem dL_law_461 : decode cL_law 461 = .ok (.lcmp, 1) := dk_148 (dk_at dksL_law_15 5 rfl rfl)
theorem dL_law_462 : decode cL_law 462 = .ok (.ifCond .eq 5, 3) := dk_153 0 5 (dk_at dksL_law_15 6 rfl rfl)
theorem dL_law_465 : decode cL_law 465 = .ok (.iconst 0, 1) := dk_3 (dk_at dksL_law_15 9 rfl rfl)
theorem dL_law_466 : decode cL_law 466 = .ok (.ireturn, 1) := dk_172 (dk_at dksL_law_15 10 rfl rfl)
theorem dL_law_467 : decode cL_law 467 = .ok (.goto 1267, 3) := dk_167 4 243 (dk_at dksL_law_15 11 rfl rfl)
theorem dL_law_470 : decode cL_law 470 = .ok (.aload_n 1, 1) := dk_43 (dk_at dksL_law_15 14 rfl rfl)
theorem dL_law_471 : decode cL_law 471 = .ok (.aload_n 0, 1) := dk_42 (dk_at dksL_law_15 15 rfl rfl)
theorem dL_law_472 : decode cL_law 472 = .ok (.iload 5, 2) := dk_21 5 (dk_at dksL_law_15 16 rfl rfl)
theorem dL_law_474 : decode cL_law 474 = .ok (.iconst 1, 1) := dk_4 (dk_at dksL_law_15 18 rfl rfl)
theorem dL_law_475 : decode cL_law 475 = .ok (.iadd, 1) := dk_96 (dk_at dksL_law_15 19 rfl rfl)
theorem dL_law_476 : decode cL_law 476 = .ok (.iaload, 1) := dk_46 (dk_at dksL_law_15 20 rfl rfl)
theorem dL_law_477 : decode cL_law 477 = .ok (.i2c, 1) := dk_146 (dk_at dksL_law_15 21 rfl rfl)
theorem dL_law_478 : decode cL_law 478 = .ok (.aload_n 0, 1) := dk_42 (dk_at dksL_law_15 22 rfl rfl)
theorem dL_law_479 : decode cL_law 479 = .ok (.iload 5, 2) := dk_21 5 (dk_at dksL_law_16 0 rfl rfl)
theorem dL_law_481 : decode cL_law 481 = .ok (.iconst 2, 1) := dk_5 (dk_at dksL_law_16 2 rfl rfl)
theorem dL_law_482 : decode cL_law 482 = .ok (.iadd, 1) := dk_96 (dk_at dksL_law_16 3 rfl rfl)
theorem dL_law_483 : decode cL_law 483 = .ok (.iaload, 1) := dk_46 (dk_at dksL_law_16 4 rfl rfl)
theorem dL_law_484 : decode cL_law 484 = .ok (.aload_n 0, 1) := dk_42 (dk_at dksL_law_16 5 rfl rfl)
theorem dL_law_485 : decode cL_law 485 = .ok (.iload 5, 2) := dk_21 5 (dk_at dksL_law_16 6 rfl rfl)
theorem dL_law_487 : decode cL_law 487 = .ok (.iconst 3, 1) := dk_6 (dk_at dksL_law_16 8 rfl rfl)
theorem dL_law_488 : decode cL_law 488 = .ok (.iadd, 1) := dk_96 (dk_at dksL_law_16 9 rfl rfl)
theorem dL_law_489 : decode cL_law 489 = .ok (.iaload, 1) := dk_46 (dk_at dksL_law_16 10 rfl rfl)
theorem dL_law_490 : decode cL_law 490 = .ok (.aload_n 3, 1) := dk_45 (dk_at dksL_law_16 11 rfl rfl)
theorem dL_law_491 : decode cL_law 491 = .ok (.invokestatic 117, 3) := dk_184 0 117 (dk_at dksL_law_16 12 rfl rfl)
theorem dL_law_494 : decode cL_law 494 = .ok (.istore 6, 2) := dk_54 6 (dk_at dksL_law_16 15 rfl rfl)
theorem dL_law_496 : decode cL_law 496 = .ok (.aload_n 2, 1) := dk_44 (dk_at dksL_law_16 17 rfl rfl)
theorem dL_law_497 : decode cL_law 497 = .ok (.aload_n 0, 1) := dk_42 (dk_at dksL_law_16 18 rfl rfl)
theorem dL_law_498 : decode cL_law 498 = .ok (.iload 5, 2) := dk_21 5 (dk_at dksL_law_16 19 rfl rfl)
theorem dL_law_500 : decode cL_law 500 = .ok (.iconst 1, 1) := dk_4 (dk_at dksL_law_16 21 rfl rfl)
theorem dL_law_501 : decode cL_law 501 = .ok (.iadd, 1) := dk_96 (dk_at dksL_law_16 22 rfl rfl)
theorem dL_law_502 : decode cL_law 502 = .ok (.iaload, 1) := dk_46 (dk_at dksL_law_16 23 rfl rfl)
theorem dL_law_503 : decode cL_law 503 = .ok (.i2c, 1) := dk_146 (dk_at dksL_law_17 0 rfl rfl)
theorem dL_law_504 : decode cL_law 504 = .ok (.aload_n 0, 1) := dk_42 (dk_at dksL_law_17 1 rfl rfl)
theorem dL_law_505 : decode cL_law 505 = .ok (.iload 5, 2) := dk_21 5 (dk_at dksL_law_17 2 rfl rfl)
theorem dL_law_507 : decode cL_law 507 = .ok (.iconst 2, 1) := dk_5 (dk_at dksL_law_17 4 rfl rfl)
theorem dL_law_508 : decode cL_law 508 = .ok (.iadd, 1) := dk_96 (dk_at dksL_law_17 5 rfl rfl)
theorem dL_law_509 : decode cL_law 509 = .ok (.iaload, 1) := dk_46 (dk_at dksL_law_17 6 rfl rfl)
theorem dL_law_510 : decode cL_law 510 = .ok (.aload_n 0, 1) := dk_42 (dk_at dksL_law_17 7 rfl rfl)
theorem dL_law_511 : decode cL_law 511 = .ok (.iload 5, 2) := dk_21 5 (dk_at dksL_law_17 8 rfl rfl)
theorem dL_law_513 : decode cL_law 513 = .ok (.iconst 3, 1) := dk_6 (dk_at dksL_law_17 10 rfl rfl)
theorem dL_law_514 : decode cL_law 514 = .ok (.iadd, 1) := dk_96 (dk_at dksL_law_17 11 rfl rfl)
theorem dL_law_515 : decode cL_law 515 = .ok (.iaload, 1) := dk_46 (dk_at dksL_law_17 12 rfl rfl)
theorem dL_law_516 : decode cL_law 516 = .ok (.invokevirtual 120, 3) := dk_182 0 120 (dk_at dksL_law_17 13 rfl rfl)
theorem dL_law_519 : decode cL_law 519 = .ok (.istore 7, 2) := dk_54 7 (dk_at dksL_law_17 16 rfl rfl)
theorem dL_law_521 : decode cL_law 521 = .ok (.aload_n 2, 1) := dk_44 (dk_at dksL_law_17 18 rfl rfl)
theorem dL_law_522 : decode cL_law 522 = .ok (.invokevirtual 103, 3) := dk_182 0 103 (dk_at dksL_law_17 19 rfl rfl)
theorem dL_law_525 : decode cL_law 525 = .ok (.iload 6, 2) := dk_21 6 (dk_at dksL_law_17 22 rfl rfl)
theorem dL_law_527 : decode cL_law 527 = .ok (.if_icmp .eq 5, 3) := dk_159 0 5 (dk_at dksL_law_18 0 rfl rfl)
theorem dL_law_530 : decode cL_law 530 = .ok (.iconst 0, 1) := dk_3 (dk_at dksL_law_18 3 rfl rfl)
theorem dL_law_531 : decode cL_law 531 = .ok (.ireturn, 1) := dk_172 (dk_at dksL_law_18 4 rfl rfl)
theorem dL_law_532 : decode cL_law 532 = .ok (.iload 6, 2) := dk_21 6 (dk_at dksL_law_18 5 rfl rfl)
theorem dL_law_534 : decode cL_law 534 = .ok (.ifCond .ne 15, 3) := dk_154 0 15 (dk_at dksL_law_18 7 rfl rfl)
theorem dL_law_537 : decode cL_law 537 = .ok (.aload_n 3, 1) := dk_45 (dk_at dksL_law_18 10 rfl rfl)
theorem dL_law_538 : decode cL_law 538 = .ok (.iconst 0, 1) := dk_3 (dk_at dksL_law_18 11 rfl rfl)
theorem dL_law_539 : decode cL_law 539 = .ok (.laload, 1) := dk_47 (dk_at dksL_law_18 12 rfl rfl)
theorem dL_law_540 : decode cL_law 540 = .ok (.iload 7, 2) := dk_21 7 (dk_at dksL_law_18 13 rfl rfl)
theorem dL_law_542 : decode cL_law 542 = .ok (.i2l, 1) := dk_133 (dk_at dksL_law_18 15 rfl rfl)
theorem dL_law_543 : decode cL_law 543 = .ok (.lcmp, 1) := dk_148 (dk_at dksL_law_18 16 rfl rfl)
theorem dL_law_544 : decode cL_law 544 = .ok (.ifCond .eq 5, 3) := dk_153 0 5 (dk_at dksL_law_18 17 rfl rfl)
theorem dL_law_547 : decode cL_law 547 = .ok (.iconst 0, 1) := dk_3 (dk_at dksL_law_18 20 rfl rfl)
theorem dL_law_548 : decode cL_law 548 = .ok (.ireturn, 1) := dk_172 (dk_at dksL_law_18 21 rfl rfl)
theorem dL_law_549 : decode cL_law 549 = .ok (.goto 1185, 3) := dk_167 4 161 (dk_at dksL_law_19 0 rfl rfl)
theorem dL_law_552 : decode cL_law 552 = .ok (.aload_n 1, 1) := dk_43 (dk_at dksL_law_19 3 rfl rfl)
theorem dL_law_553 : decode cL_law 553 = .ok (.aload_n 0, 1) := dk_42 (dk_at dksL_law_19 4 rfl rfl)
theorem dL_law_554 : decode cL_law 554 = .ok (.iload 5, 2) := dk_21 5 (dk_at dksL_law_19 5 rfl rfl)
theorem dL_law_556 : decode cL_law 556 = .ok (.iconst 1, 1) := dk_4 (dk_at dksL_law_19 7 rfl rfl)
theorem dL_law_557 : decode cL_law 557 = .ok (.iadd, 1) := dk_96 (dk_at dksL_law_19 8 rfl rfl)
theorem dL_law_558 : decode cL_law 558 = .ok (.iaload, 1) := dk_46 (dk_at dksL_law_19 9 rfl rfl)
theorem dL_law_559 : decode cL_law 559 = .ok (.aload_n 0, 1) := dk_42 (dk_at dksL_law_19 10 rfl rfl)
theorem dL_law_560 : decode cL_law 560 = .ok (.iload 5, 2) := dk_21 5 (dk_at dksL_law_19 11 rfl rfl)
theorem dL_law_562 : decode cL_law 562 = .ok (.iconst 2, 1) := dk_5 (dk_at dksL_law_19 13 rfl rfl)
theorem dL_law_563 : decode cL_law 563 = .ok (.iadd, 1) := dk_96 (dk_at dksL_law_19 14 rfl rfl)
theorem dL_law_564 : decode cL_law 564 = .ok (.iaload, 1) := dk_46 (dk_at dksL_law_19 15 rfl rfl)
theorem dL_law_565 : decode cL_law 565 = .ok (.i2c, 1) := dk_146 (dk_at dksL_law_19 16 rfl rfl)
theorem dL_law_566 : decode cL_law 566 = .ok (.aload_n 0, 1) := dk_42 (dk_at dksL_law_19 17 rfl rfl)
theorem dL_law_567 : decode cL_law 567 = .ok (.iload 5, 2) := dk_21 5 (dk_at dksL_law_19 18 rfl rfl)
theorem dL_law_569 : decode cL_law 569 = .ok (.iconst 3, 1) := dk_6 (dk_at dksL_law_19 20 rfl rfl)
theorem dL_law_570 : decode cL_law 570 = .ok (.iadd, 1) := dk_96 (dk_at dksL_law_19 21 rfl rfl)
theorem dL_law_571 : decode cL_law 571 = .ok (.iaload, 1) := dk_46 (dk_at dksL_law_19 22 rfl rfl)
theorem dL_law_572 : decode cL_law 572 = .ok (.aload_n 0, 1) := dk_42 (dk_at dksL_law_19 23 rfl rfl)
theorem dL_law_573 : decode cL_law 573 = .ok (.iload 5, 2) := dk_21 5 (dk_at dksL_law_20 0 rfl rfl)
theorem dL_law_575 : decode cL_law 575 = .ok (.iconst 4, 1) := dk_7 (dk_at dksL_law_20 2 rfl rfl)
theorem dL_law_576 : decode cL_law 576 = .ok (.iadd, 1) := dk_96 (dk_at dksL_law_20 3 rfl rfl)
theorem dL_law_577 : decode cL_law 577 = .ok (.iaload, 1) := dk_46 (dk_at dksL_law_20 4 rfl rfl)
theorem dL_law_578 : decode cL_law 578 = .ok (.aload_n 0, 1) := dk_42 (dk_at dksL_law_20 5 rfl rfl)
theorem dL_law_579 : decode cL_law 579 = .ok (.iload 5, 2) := dk_21 5 (dk_at dksL_law_20 6 rfl rfl)
theorem dL_law_581 : decode cL_law 581 = .ok (.iconst 5, 1) := dk_8 (dk_at dksL_law_20 8 rfl rfl)
theorem dL_law_582 : decode cL_law 582 = .ok (.iadd, 1) := dk_96 (dk_at dksL_law_20 9 rfl rfl)
theorem dL_law_583 : decode cL_law 583 = .ok (.iaload, 1) := dk_46 (dk_at dksL_law_20 10 rfl rfl)
theorem dL_law_584 : decode cL_law 584 = .ok (.aload_n 3, 1) := dk_45 (dk_at dksL_law_20 11 rfl rfl)
theorem dL_law_585 : decode cL_law 585 = .ok (.invokestatic 121, 3) := dk_184 0 121 (dk_at dksL_law_20 12 rfl rfl)
theorem dL_law_588 : decode cL_law 588 = .ok (.istore 6, 2) := dk_54 6 (dk_at dksL_law_20 15 rfl rfl)
theorem dL_law_590 : decode cL_law 590 = .ok (.aload_n 2, 1) := dk_44 (dk_at dksL_law_20 17 rfl rfl)
theorem dL_law_591 : decode cL_law 591 = .ok (.aload_n 0, 1) := dk_42 (dk_at dksL_law_20 18 rfl rfl)
theorem dL_law_592 : decode cL_law 592 = .ok (.iload 5, 2) := dk_21 5 (dk_at dksL_law_20 19 rfl rfl)
theorem dL_law_594 : decode cL_law 594 = .ok (.iconst 1, 1) := dk_4 (dk_at dksL_law_20 21 rfl rfl)
theorem dL_law_595 : decode cL_law 595 = .ok (.iadd, 1) := dk_96 (dk_at dksL_law_20 22 rfl rfl)
theorem dL_law_596 : decode cL_law 596 = .ok (.iaload, 1) := dk_46 (dk_at dksL_law_20 23 rfl rfl)
theorem dL_law_597 : decode cL_law 597 = .ok (.aload_n 0, 1) := dk_42 (dk_at dksL_law_21 0 rfl rfl)
theorem dL_law_598 : decode cL_law 598 = .ok (.iload 5, 2) := dk_21 5 (dk_at dksL_law_21 1 rfl rfl)
theorem dL_law_600 : decode cL_law 600 = .ok (.iconst 2, 1) := dk_5 (dk_at dksL_law_21 3 rfl rfl)
theorem dL_law_601 : decode cL_law 601 = .ok (.iadd, 1) := dk_96 (dk_at dksL_law_21 4 rfl rfl)
theorem dL_law_602 : decode cL_law 602 = .ok (.iaload, 1) := dk_46 (dk_at dksL_law_21 5 rfl rfl)
theorem dL_law_603 : decode cL_law 603 = .ok (.i2c, 1) := dk_146 (dk_at dksL_law_21 6 rfl rfl)
theorem dL_law_604 : decode cL_law 604 = .ok (.aload_n 0, 1) := dk_42 (dk_at dksL_law_21 7 rfl rfl)
theorem dL_law_605 : decode cL_law 605 = .ok (.iload 5, 2) := dk_21 5 (dk_at dksL_law_21 8 rfl rfl)
theorem dL_law_607 : decode cL_law 607 = .ok (.iconst 3, 1) := dk_6 (dk_at dksL_law_21 10 rfl rfl)
theorem dL_law_608 : decode cL_law 608 = .ok (.iadd, 1) := dk_96 (dk_at dksL_law_21 11 rfl rfl)
theorem dL_law_609 : decode cL_law 609 = .ok (.iaload, 1) := dk_46 (dk_at dksL_law_21 12 rfl rfl)
theorem dL_law_610 : decode cL_law 610 = .ok (.aload_n 0, 1) := dk_42 (dk_at dksL_law_21 13 rfl rfl)
theorem dL_law_611 : decode cL_law 611 = .ok (.iload 5, 2) := dk_21 5 (dk_at dksL_law_21 14 rfl rfl)
theorem dL_law_613 : decode cL_law 613 = .ok (.iconst 4, 1) := dk_7 (dk_at dksL_law_21 16 rfl rfl)
theorem dL_law_614 : decode cL_law 614 = .ok (.iadd, 1) := dk_96 (dk_at dksL_law_21 17 rfl rfl)
theorem dL_law_615 : decode cL_law 615 = .ok (.iaload, 1) := dk_46 (dk_at dksL_law_21 18 rfl rfl)
theorem dL_law_616 : decode cL_law 616 = .ok (.aload_n 0, 1) := dk_42 (dk_at dksL_law_21 19 rfl rfl)
theorem dL_law_617 : decode cL_law 617 = .ok (.iload 5, 2) := dk_21 5 (dk_at dksL_law_21 20 rfl rfl)
theorem dL_law_619 : decode cL_law 619 = .ok (.iconst 5, 1) := dk_8 (dk_at dksL_law_21 22 rfl rfl)
theorem dL_law_620 : decode cL_law 620 = .ok (.iadd, 1) := dk_96 (dk_at dksL_law_21 23 rfl rfl)
theorem dL_law_621 : decode cL_law 621 = .ok (.iaload, 1) := dk_46 (dk_at dksL_law_22 0 rfl rfl)
theorem dL_law_622 : decode cL_law 622 = .ok (.invokevirtual 124, 3) := dk_182 0 124 (dk_at dksL_law_22 1 rfl rfl)
theorem dL_law_625 : decode cL_law 625 = .ok (.istore 7, 2) := dk_54 7 (dk_at dksL_law_22 4 rfl rfl)
theorem dL_law_627 : decode cL_law 627 = .ok (.aload_n 2, 1) := dk_44 (dk_at dksL_law_22 6 rfl rfl)
theorem dL_law_628 : decode cL_law 628 = .ok (.invokevirtual 103, 3) := dk_182 0 103 (dk_at dksL_law_22 7 rfl rfl)
theorem dL_law_631 : decode cL_law 631 = .ok (.iload 6, 2) := dk_21 6 (dk_at dksL_law_22 10 rfl rfl)
theorem dL_law_633 : decode cL_law 633 = .ok (.if_icmp .eq 5, 3) := dk_159 0 5 (dk_at dksL_law_22 12 rfl rfl)
theorem dL_law_636 : decode cL_law 636 = .ok (.iconst 0, 1) := dk_3 (dk_at dksL_law_22 15 rfl rfl)
theorem dL_law_637 : decode cL_law 637 = .ok (.ireturn, 1) := dk_172 (dk_at dksL_law_22 16 rfl rfl)
theorem dL_law_638 : decode cL_law 638 = .ok (.iload 6, 2) := dk_21 6 (dk_at dksL_law_22 17 rfl rfl)
theorem dL_law_640 : decode cL_law 640 = .ok (.ifCond .ne 15, 3) := dk_154 0 15 (dk_at dksL_law_22 19 rfl rfl)
theorem dL_law_643 : decode cL_law 643 = .ok (.aload_n 3, 1) := dk_45 (dk_at dksL_law_22 22 rfl rfl)
theorem dL_law_644 : decode cL_law 644 = .ok (.iconst 0, 1) := dk_3 (dk_at dksL_law_22 23 rfl rfl)
theorem dL_law_645 : decode cL_law 645 = .ok (.laload, 1) := dk_47 (dk_at dksL_law_23 0 rfl rfl)
theorem dL_law_646 : decode cL_law 646 = .ok (.iload 7, 2) := dk_21 7 (dk_at dksL_law_23 1 rfl rfl)
theorem dL_law_648 : decode cL_law 648 = .ok (.i2l, 1) := dk_133 (dk_at dksL_law_23 3 rfl rfl)
theorem dL_law_649 : decode cL_law 649 = .ok (.lcmp, 1) := dk_148 (dk_at dksL_law_23 4 rfl rfl)
theorem dL_law_650 : decode cL_law 650 = .ok (.ifCond .eq 5, 3) := dk_153 0 5 (dk_at dksL_law_23 5 rfl rfl)
theorem dL_law_653 : decode cL_law 653 = .ok (.iconst 0, 1) := dk_3 (dk_at dksL_law_23 8 rfl rfl)
theorem dL_law_654 : decode cL_law 654 = .ok (.ireturn, 1) := dk_172 (dk_at dksL_law_23 9 rfl rfl)
theorem dL_law_655 : decode cL_law 655 = .ok (.goto 1079, 3) := dk_167 4 55 (dk_at dksL_law_23 10 rfl rfl)
theorem dL_law_658 : decode cL_law 658 = .ok (.aload_n 1, 1) := dk_43 (dk_at dksL_law_23 13 rfl rfl)
theorem dL_law_659 : decode cL_law 659 = .ok (.aload_n 0, 1) := dk_42 (dk_at dksL_law_23 14 rfl rfl)
theorem dL_law_660 : decode cL_law 660 = .ok (.iload 5, 2) := dk_21 5 (dk_at dksL_law_23 15 rfl rfl)
theorem dL_law_662 : decode cL_law 662 = .ok (.iconst 1, 1) := dk_4 (dk_at dksL_law_23 17 rfl rfl)
theorem dL_law_663 : decode cL_law 663 = .ok (.iadd, 1) := dk_96 (dk_at dksL_law_23 18 rfl rfl)
theorem dL_law_664 : decode cL_law 664 = .ok (.iaload, 1) := dk_46 (dk_at dksL_law_23 19 rfl rfl)
theorem dL_law_665 : decode cL_law 665 = .ok (.aload_n 0, 1) := dk_42 (dk_at dksL_law_23 20 rfl rfl)
theorem dL_law_666 : decode cL_law 666 = .ok (.iload 5, 2) := dk_21 5 (dk_at dksL_law_23 21 rfl rfl)
theorem dL_law_668 : decode cL_law 668 = .ok (.iconst 2, 1) := dk_5 (dk_at dksL_law_23 23 rfl rfl)
theorem dL_law_669 : decode cL_law 669 = .ok (.iadd, 1) := dk_96 (dk_at dksL_law_24 0 rfl rfl)
theorem dL_law_670 : decode cL_law 670 = .ok (.iaload, 1) := dk_46 (dk_at dksL_law_24 1 rfl rfl)
theorem dL_law_671 : decode cL_law 671 = .ok (.ifCond .eq 7, 3) := dk_153 0 7 (dk_at dksL_law_24 2 rfl rfl)
theorem dL_law_674 : decode cL_law 674 = .ok (.iconst 1, 1) := dk_4 (dk_at dksL_law_24 5 rfl rfl)
theorem dL_law_675 : decode cL_law 675 = .ok (.goto 4, 3) := dk_167 0 4 (dk_at dksL_law_24 6 rfl rfl)
theorem dL_law_678 : decode cL_law 678 = .ok (.iconst 0, 1) := dk_3 (dk_at dksL_law_24 9 rfl rfl)
theorem dL_law_679 : decode cL_law 679 = .ok (.aload_n 3, 1) := dk_45 (dk_at dksL_law_24 10 rfl rfl)
theorem dL_law_680 : decode cL_law 680 = .ok (.invokestatic 125, 3) := dk_184 0 125 (dk_at dksL_law_24 11 rfl rfl)
theorem dL_law_683 : decode cL_law 683 = .ok (.istore 6, 2) := dk_54 6 (dk_at dksL_law_24 14 rfl rfl)
theorem dL_law_685 : decode cL_law 685 = .ok (.aload_n 2, 1) := dk_44 (dk_at dksL_law_24 16 rfl rfl)
theorem dL_law_686 : decode cL_law 686 = .ok (.aload_n 0, 1) := dk_42 (dk_at dksL_law_24 17 rfl rfl)
theorem dL_law_687 : decode cL_law 687 = .ok (.iload 5, 2) := dk_21 5 (dk_at dksL_law_24 18 rfl rfl)
theorem dL_law_689 : decode cL_law 689 = .ok (.iconst 1, 1) := dk_4 (dk_at dksL_law_24 20 rfl rfl)
theorem dL_law_690 : decode cL_law 690 = .ok (.iadd, 1) := dk_96 (dk_at dksL_law_24 21 rfl rfl)
theorem dL_law_691 : decode cL_law 691 = .ok (.iaload, 1) := dk_46 (dk_at dksL_law_24 22 rfl rfl)
theorem dL_law_692 : decode cL_law 692 = .ok (.aload_n 0, 1) := dk_42 (dk_at dksL_law_24 23 rfl rfl)
theorem dL_law_693 : decode cL_law 693 = .ok (.iload 5, 2) := dk_21 5 (dk_at dksL_law_25 0 rfl rfl)
theorem dL_law_695 : decode cL_law 695 = .ok (.iconst 2, 1) := dk_5 (dk_at dksL_law_25 2 rfl rfl)
theorem dL_law_696 : decode cL_law 696 = .ok (.iadd, 1) := dk_96 (dk_at dksL_law_25 3 rfl rfl)
theorem dL_law_697 : decode cL_law 697 = .ok (.iaload, 1) := dk_46 (dk_at dksL_law_25 4 rfl rfl)
theorem dL_law_698 : decode cL_law 698 = .ok (.ifCond .eq 7, 3) := dk_153 0 7 (dk_at dksL_law_25 5 rfl rfl)
theorem dL_law_701 : decode cL_law 701 = .ok (.iconst 1, 1) := dk_4 (dk_at dksL_law_25 8 rfl rfl)
theorem dL_law_702 : decode cL_law 702 = .ok (.goto 4, 3) := dk_167 0 4 (dk_at dksL_law_25 9 rfl rfl)
theorem dL_law_705 : decode cL_law 705 = .ok (.iconst 0, 1) := dk_3 (dk_at dksL_law_25 12 rfl rfl)
theorem dL_law_706 : decode cL_law 706 = .ok (.invokevirtual 128, 3) := dk_182 0 128 (dk_at dksL_law_25 13 rfl rfl)
theorem dL_law_709 : decode cL_law 709 = .ok (.istore 7, 2) := dk_54 7 (dk_at dksL_law_25 16 rfl rfl)
theorem dL_law_711 : decode cL_law 711 = .ok (.aload_n 2, 1) := dk_44 (dk_at dksL_law_25 18 rfl rfl)
theorem dL_law_712 : decode cL_law 712 = .ok (.invokevirtual 103, 3) := dk_182 0 103 (dk_at dksL_law_25 19 rfl rfl)
theorem dL_law_715 : decode cL_law 715 = .ok (.iload 6, 2) := dk_21 6 (dk_at dksL_law_25 22 rfl rfl)
theorem dL_law_717 : decode cL_law 717 = .ok (.if_icmp .eq 5, 3) := dk_159 0 5 (dk_at dksL_law_26 0 rfl rfl)
theorem dL_law_720 : decode cL_law 720 = .ok (.iconst 0, 1) := dk_3 (dk_at dksL_law_26 3 rfl rfl)
theorem dL_law_721 : decode cL_law 721 = .ok (.ireturn, 1) := dk_172 (dk_at dksL_law_26 4 rfl rfl)
theorem dL_law_722 : decode cL_law 722 = .ok (.iload 6, 2) := dk_21 6 (dk_at dksL_law_26 5 rfl rfl)
theorem dL_law_724 : decode cL_law 724 = .ok (.ifCond .ne 22, 3) := dk_154 0 22 (dk_at dksL_law_26 7 rfl rfl)
theorem dL_law_727 : decode cL_law 727 = .ok (.aload_n 3, 1) := dk_45 (dk_at dksL_law_26 10 rfl rfl)
theorem dL_law_728 : decode cL_law 728 = .ok (.iconst 0, 1) := dk_3 (dk_at dksL_law_26 11 rfl rfl)
theorem dL_law_729 : decode cL_law 729 = .ok (.laload, 1) := dk_47 (dk_at dksL_law_26 12 rfl rfl)
theorem dL_law_730 : decode cL_law 730 = .ok (.iload 7, 2) := dk_21 7 (dk_at dksL_law_26 13 rfl rfl)
theorem dL_law_732 : decode cL_law 732 = .ok (.ifCond .eq 7, 3) := dk_153 0 7 (dk_at dksL_law_26 15 rfl rfl)
theorem dL_law_735 : decode cL_law 735 = .ok (.lconst 1, 1) := dk_10 (dk_at dksL_law_26 18 rfl rfl)
theorem dL_law_736 : decode cL_law 736 = .ok (.goto 4, 3) := dk_167 0 4 (dk_at dksL_law_26 19 rfl rfl)
theorem dL_law_739 : decode cL_law 739 = .ok (.lconst 0, 1) := dk_9 (dk_at dksL_law_26 22 rfl rfl)
theorem dL_law_740 : decode cL_law 740 = .ok (.lcmp, 1) := dk_148 (dk_at dksL_law_26 23 rfl rfl)
theorem dL_law_741 : decode cL_law 741 = .ok (.ifCond .eq 5, 3) := dk_153 0 5 (dk_at dksL_law_27 0 rfl rfl)
theorem dL_law_744 : decode cL_law 744 = .ok (.iconst 0, 1) := dk_3 (dk_at dksL_law_27 3 rfl rfl)
theorem dL_law_745 : decode cL_law 745 = .ok (.ireturn, 1) := dk_172 (dk_at dksL_law_27 4 rfl rfl)
theorem dL_law_746 : decode cL_law 746 = .ok (.goto 988, 3) := dk_167 3 220 (dk_at dksL_law_27 5 rfl rfl)
theorem dL_law_749 : decode cL_law 749 = .ok (.aload_n 1, 1) := dk_43 (dk_at dksL_law_27 8 rfl rfl)
theorem dL_law_750 : decode cL_law 750 = .ok (.aload_n 0, 1) := dk_42 (dk_at dksL_law_27 9 rfl rfl)
theorem dL_law_751 : decode cL_law 751 = .ok (.iload 5, 2) := dk_21 5 (dk_at dksL_law_27 10 rfl rfl)
theorem dL_law_753 : decode cL_law 753 = .ok (.iconst 1, 1) := dk_4 (dk_at dksL_law_27 12 rfl rfl)
theorem dL_law_754 : decode cL_law 754 = .ok (.iadd, 1) := dk_96 (dk_at dksL_law_27 13 rfl rfl)
theorem dL_law_755 : decode cL_law 755 = .ok (.iaload, 1) := dk_46 (dk_at dksL_law_27 14 rfl rfl)
theorem dL_law_756 : decode cL_law 756 = .ok (.aload_n 0, 1) := dk_42 (dk_at dksL_law_27 15 rfl rfl)
theorem dL_law_757 : decode cL_law 757 = .ok (.iload 5, 2) := dk_21 5 (dk_at dksL_law_27 16 rfl rfl)
theorem dL_law_759 : decode cL_law 759 = .ok (.iconst 2, 1) := dk_5 (dk_at dksL_law_27 18 rfl rfl)
theorem dL_law_760 : decode cL_law 760 = .ok (.iadd, 1) := dk_96 (dk_at dksL_law_27 19 rfl rfl)
theorem dL_law_761 : decode cL_law 761 = .ok (.iaload, 1) := dk_46 (dk_at dksL_law_27 20 rfl rfl)
theorem dL_law_762 : decode cL_law 762 = .ok (.aload_n 0, 1) := dk_42 (dk_at dksL_law_27 21 rfl rfl)
theorem dL_law_763 : decode cL_law 763 = .ok (.iload 5, 2) := dk_21 5 (dk_at dksL_law_27 22 rfl rfl)
theorem dL_law_765 : decode cL_law 765 = .ok (.iconst 3, 1) := dk_6 (dk_at dksL_law_28 0 rfl rfl)
theorem dL_law_766 : decode cL_law 766 = .ok (.iadd, 1) := dk_96 (dk_at dksL_law_28 1 rfl rfl)
theorem dL_law_767 : decode cL_law 767 = .ok (.iaload, 1) := dk_46 (dk_at dksL_law_28 2 rfl rfl)
theorem dL_law_768 : decode cL_law 768 = .ok (.ifCond .eq 7, 3) := dk_153 0 7 (dk_at dksL_law_28 3 rfl rfl)
theorem dL_law_771 : decode cL_law 771 = .ok (.iconst 1, 1) := dk_4 (dk_at dksL_law_28 6 rfl rfl)
theorem dL_law_772 : decode cL_law 772 = .ok (.goto 4, 3) := dk_167 0 4 (dk_at dksL_law_28 7 rfl rfl)
theorem dL_law_775 : decode cL_law 775 = .ok (.iconst 0, 1) := dk_3 (dk_at dksL_law_28 10 rfl rfl)
theorem dL_law_776 : decode cL_law 776 = .ok (.aload_n 3, 1) := dk_45 (dk_at dksL_law_28 11 rfl rfl)
theorem dL_law_777 : decode cL_law 777 = .ok (.invokestatic 129, 3) := dk_184 0 129 (dk_at dksL_law_28 12 rfl rfl)
theorem dL_law_780 : decode cL_law 780 = .ok (.istore 6, 2) := dk_54 6 (dk_at dksL_law_28 15 rfl rfl)
theorem dL_law_782 : decode cL_law 782 = .ok (.aload_n 2, 1) := dk_44 (dk_at dksL_law_28 17 rfl rfl)
theorem dL_law_783 : decode cL_law 783 = .ok (.aload_n 0, 1) := dk_42 (dk_at dksL_law_28 18 rfl rfl)
theorem dL_law_784 : decode cL_law 784 = .ok (.iload 5, 2) := dk_21 5 (dk_at dksL_law_28 19 rfl rfl)
theorem dL_law_786 : decode cL_law 786 = .ok (.iconst 1, 1) := dk_4 (dk_at dksL_law_28 21 rfl rfl)
theorem dL_law_787 : decode cL_law 787 = .ok (.iadd, 1) := dk_96 (dk_at dksL_law_28 22 rfl rfl)
theorem dL_law_788 : decode cL_law 788 = .ok (.iaload, 1) := dk_46 (dk_at dksL_law_28 23 rfl rfl)
theorem dL_law_789 : decode cL_law 789 = .ok (.aload_n 0, 1) := dk_42 (dk_at dksL_law_29 0 rfl rfl)
theorem dL_law_790 : decode cL_law 790 = .ok (.iload 5, 2) := dk_21 5 (dk_at dksL_law_29 1 rfl rfl)
theorem dL_law_792 : decode cL_law 792 = .ok (.iconst 2, 1) := dk_5 (dk_at dksL_law_29 3 rfl rfl)
theorem dL_law_793 : decode cL_law 793 = .ok (.iadd, 1) := dk_96 (dk_at dksL_law_29 4 rfl rfl)
theorem dL_law_794 : decode cL_law 794 = .ok (.iaload, 1) := dk_46 (dk_at dksL_law_29 5 rfl rfl)
theorem dL_law_795 : decode cL_law 795 = .ok (.aload_n 0, 1) := dk_42 (dk_at dksL_law_29 6 rfl rfl)
theorem dL_law_796 : decode cL_law 796 = .ok (.iload 5, 2) := dk_21 5 (dk_at dksL_law_29 7 rfl rfl)
theorem dL_law_798 : decode cL_law 798 = .ok (.iconst 3, 1) := dk_6 (dk_at dksL_law_29 9 rfl rfl)
theorem dL_law_799 : decode cL_law 799 = .ok (.iadd, 1) := dk_96 (dk_at dksL_law_29 10 rfl rfl)
theorem dL_law_800 : decode cL_law 800 = .ok (.iaload, 1) := dk_46 (dk_at dksL_law_29 11 rfl rfl)
theorem dL_law_801 : decode cL_law 801 = .ok (.ifCond .eq 7, 3) := dk_153 0 7 (dk_at dksL_law_29 12 rfl rfl)
theorem dL_law_804 : decode cL_law 804 = .ok (.iconst 1, 1) := dk_4 (dk_at dksL_law_29 15 rfl rfl)
theorem dL_law_805 : decode cL_law 805 = .ok (.goto 4, 3) := dk_167 0 4 (dk_at dksL_law_29 16 rfl rfl)
theorem dL_law_808 : decode cL_law 808 = .ok (.iconst 0, 1) := dk_3 (dk_at dksL_law_29 19 rfl rfl)
theorem dL_law_809 : decode cL_law 809 = .ok (.invokevirtual 132, 3) := dk_182 0 132 (dk_at dksL_law_29 20 rfl rfl)
theorem dL_law_812 : decode cL_law 812 = .ok (.istore 7, 2) := dk_54 7 (dk_at dksL_law_30 0 rfl rfl)
theorem dL_law_814 : decode cL_law 814 = .ok (.aload_n 2, 1) := dk_44 (dk_at dksL_law_30 2 rfl rfl)
theorem dL_law_815 : decode cL_law 815 = .ok (.invokevirtual 103, 3) := dk_182 0 103 (dk_at dksL_law_30 3 rfl rfl)
theorem dL_law_818 : decode cL_law 818 = .ok (.iload 6, 2) := dk_21 6 (dk_at dksL_law_30 6 rfl rfl)
theorem dL_law_820 : decode cL_law 820 = .ok (.if_icmp .eq 5, 3) := dk_159 0 5 (dk_at dksL_law_30 8 rfl rfl)
theorem dL_law_823 : decode cL_law 823 = .ok (.iconst 0, 1) := dk_3 (dk_at dksL_law_30 11 rfl rfl)
theorem dL_law_824 : decode cL_law 824 = .ok (.ireturn, 1) := dk_172 (dk_at dksL_law_30 12 rfl rfl)
theorem dL_law_825 : decode cL_law 825 = .ok (.iload 6, 2) := dk_21 6 (dk_at dksL_law_30 13 rfl rfl)
theorem dL_law_827 : decode cL_law 827 = .ok (.ifCond .ne 22, 3) := dk_154 0 22 (dk_at dksL_law_30 15 rfl rfl)
theorem dL_law_830 : decode cL_law 830 = .ok (.aload_n 3, 1) := dk_45 (dk_at dksL_law_30 18 rfl rfl)
theorem dL_law_831 : decode cL_law 831 = .ok (.iconst 0, 1) := dk_3 (dk_at dksL_law_30 19 rfl rfl)
theorem dL_law_832 : decode cL_law 832 = .ok (.laload, 1) := dk_47 (dk_at dksL_law_30 20 rfl rfl)
theorem dL_law_833 : decode cL_law 833 = .ok (.iload 7, 2) := dk_21 7 (dk_at dksL_law_30 21 rfl rfl)
theorem dL_law_835 : decode cL_law 835 = .ok (.ifCond .eq 7, 3) := dk_153 0 7 (dk_at dksL_law_31 0 rfl rfl)
theorem dL_law_838 : decode cL_law 838 = .ok (.lconst 1, 1) := dk_10 (dk_at dksL_law_31 3 rfl rfl)
theorem dL_law_839 : decode cL_law 839 = .ok (.goto 4, 3) := dk_167 0 4 (dk_at dksL_law_31 4 rfl rfl)
theorem dL_law_842 : decode cL_law 842 = .ok (.lconst 0, 1) := dk_9 (dk_at dksL_law_31 7 rfl rfl)
theorem dL_law_843 : decode cL_law 843 = .ok (.lcmp, 1) := dk_148 (dk_at dksL_law_31 8 rfl rfl)
theorem dL_law_844 : decode cL_law 844 = .ok (.ifCond .eq 5, 3) := dk_153 0 5 (dk_at dksL_law_31 9 rfl rfl)
theorem dL_law_847 : decode cL_law 847 = .ok (.iconst 0, 1) := dk_3 (dk_at dksL_law_31 12 rfl rfl)
theorem dL_law_848 : decode cL_law 848 = .ok (.ireturn, 1) := dk_172 (dk_at dksL_law_31 13 rfl rfl)
theorem dL_law_849 : decode cL_law 849 = .ok (.goto 885, 3) := dk_167 3 117 (dk_at dksL_law_31 14 rfl rfl)
theorem dL_law_852 : decode cL_law 852 = .ok (.aload_n 1, 1) := dk_43 (dk_at dksL_law_31 17 rfl rfl)
theorem dL_law_853 : decode cL_law 853 = .ok (.invokevirtual 133, 3) := dk_182 0 133 (dk_at dksL_law_31 18 rfl rfl)
theorem dL_law_856 : decode cL_law 856 = .ok (.aload_n 2, 1) := dk_44 (dk_at dksL_law_31 21 rfl rfl)
theorem dL_law_857 : decode cL_law 857 = .ok (.invokevirtual 137, 3) := dk_182 0 137 (dk_at dksL_law_32 0 rfl rfl)
theorem dL_law_860 : decode cL_law 860 = .ok (.if_icmp .eq 874, 3) := dk_159 3 106 (dk_at dksL_law_32 3 rfl rfl)
theorem dL_law_863 : decode cL_law 863 = .ok (.iconst 0, 1) := dk_3 (dk_at dksL_law_32 6 rfl rfl)
theorem dL_law_864 : decode cL_law 864 = .ok (.ireturn, 1) := dk_172 (dk_at dksL_law_32 7 rfl rfl)
theorem dL_law_865 : decode cL_law 865 = .ok (.aload_n 1, 1) := dk_43 (dk_at dksL_law_32 8 rfl rfl)
theorem dL_law_866 : decode cL_law 866 = .ok (.aload_n 0, 1) := dk_42 (dk_at dksL_law_32 9 rfl rfl)
theorem dL_law_867 : decode cL_law 867 = .ok (.iload 5, 2) := dk_21 5 (dk_at dksL_law_32 10 rfl rfl)
theorem dL_law_869 : decode cL_law 869 = .ok (.iconst 1, 1) := dk_4 (dk_at dksL_law_32 12 rfl rfl)
theorem dL_law_870 : decode cL_law 870 = .ok (.iadd, 1) := dk_96 (dk_at dksL_law_32 13 rfl rfl)
theorem dL_law_871 : decode cL_law 871 = .ok (.iaload, 1) := dk_46 (dk_at dksL_law_32 14 rfl rfl)
theorem dL_law_872 : decode cL_law 872 = .ok (.aload_n 3, 1) := dk_45 (dk_at dksL_law_32 15 rfl rfl)
theorem dL_law_873 : decode cL_law 873 = .ok (.invokestatic 138, 3) := dk_184 0 138 (dk_at dksL_law_32 16 rfl rfl)
theorem dL_law_876 : decode cL_law 876 = .ok (.istore 6, 2) := dk_54 6 (dk_at dksL_law_32 19 rfl rfl)
theorem dL_law_878 : decode cL_law 878 = .ok (.aload_n 2, 1) := dk_44 (dk_at dksL_law_32 21 rfl rfl)
theorem dL_law_879 : decode cL_law 879 = .ok (.aload_n 0, 1) := dk_42 (dk_at dksL_law_32 22 rfl rfl)
theorem dL_law_880 : decode cL_law 880 = .ok (.iload 5, 2) := dk_21 5 (dk_at dksL_law_33 0 rfl rfl)
theorem dL_law_882 : decode cL_law 882 = .ok (.iconst 1, 1) := dk_4 (dk_at dksL_law_33 2 rfl rfl)
theorem dL_law_883 : decode cL_law 883 = .ok (.iadd, 1) := dk_96 (dk_at dksL_law_33 3 rfl rfl)
theorem dL_law_884 : decode cL_law 884 = .ok (.iaload, 1) := dk_46 (dk_at dksL_law_33 4 rfl rfl)
theorem dL_law_885 : decode cL_law 885 = .ok (.invokevirtual 140, 3) := dk_182 0 140 (dk_at dksL_law_33 5 rfl rfl)
theorem dL_law_888 : decode cL_law 888 = .ok (.istore 7, 2) := dk_54 7 (dk_at dksL_law_33 8 rfl rfl)
theorem dL_law_890 : decode cL_law 890 = .ok (.aload_n 2, 1) := dk_44 (dk_at dksL_law_33 10 rfl rfl)
theorem dL_law_891 : decode cL_law 891 = .ok (.invokevirtual 103, 3) := dk_182 0 103 (dk_at dksL_law_33 11 rfl rfl)
theorem dL_law_894 : decode cL_law 894 = .ok (.iload 6, 2) := dk_21 6 (dk_at dksL_law_33 14 rfl rfl)
theorem dL_law_896 : decode cL_law 896 = .ok (.if_icmp .eq 5, 3) := dk_159 0 5 (dk_at dksL_law_33 16 rfl rfl)
theorem dL_law_899 : decode cL_law 899 = .ok (.iconst 0, 1) := dk_3 (dk_at dksL_law_33 19 rfl rfl)
theorem dL_law_900 : decode cL_law 900 = .ok (.ireturn, 1) := dk_172 (dk_at dksL_law_33 20 rfl rfl)
theorem dL_law_901 : decode cL_law 901 = .ok (.iload 6, 2) := dk_21 6 (dk_at dksL_law_33 21 rfl rfl)
theorem dL_law_903 : decode cL_law 903 = .ok (.ifCond .ne 15, 3) := dk_154 0 15 (dk_at dksL_law_34 0 rfl rfl)
theorem dL_law_906 : decode cL_law 906 = .ok (.aload_n 3, 1) := dk_45 (dk_at dksL_law_34 3 rfl rfl)
theorem dL_law_907 : decode cL_law 907 = .ok (.iconst 0, 1) := dk_3 (dk_at dksL_law_34 4 rfl rfl)
theorem dL_law_908 : decode cL_law 908 = .ok (.laload, 1) := dk_47 (dk_at dksL_law_34 5 rfl rfl)
theorem dL_law_909 : decode cL_law 909 = .ok (.iload 7, 2) := dk_21 7 (dk_at dksL_law_34 6 rfl rfl)
theorem dL_law_911 : decode cL_law 911 = .ok (.i2l, 1) := dk_133 (dk_at dksL_law_34 8 rfl rfl)
theorem dL_law_912 : decode cL_law 912 = .ok (.lcmp, 1) := dk_148 (dk_at dksL_law_34 9 rfl rfl)
theorem dL_law_913 : decode cL_law 913 = .ok (.ifCond .eq 5, 3) := dk_153 0 5 (dk_at dksL_law_34 10 rfl rfl)
theorem dL_law_916 : decode cL_law 916 = .ok (.iconst 0, 1) := dk_3 (dk_at dksL_law_34 13 rfl rfl)
theorem dL_law_917 : decode cL_law 917 = .ok (.ireturn, 1) := dk_172 (dk_at dksL_law_34 14 rfl rfl)
theorem dL_law_918 : decode cL_law 918 = .ok (.goto 816, 3) := dk_167 3 48 (dk_at dksL_law_34 15 rfl rfl)
theorem dL_law_921 : decode cL_law 921 = .ok (.aload_n 1, 1) := dk_43 (dk_at dksL_law_34 18 rfl rfl)
theorem dL_law_922 : decode cL_law 922 = .ok (.aload_n 0, 1) := dk_42 (dk_at dksL_law_34 19 rfl rfl)
theorem dL_law_923 : decode cL_law 923 = .ok (.iload 5, 2) := dk_21 5 (dk_at dksL_law_34 20 rfl rfl)
theorem dL_law_925 : decode cL_law 925 = .ok (.iconst 1, 1) := dk_4 (dk_at dksL_law_34 22 rfl rfl)
theorem dL_law_926 : decode cL_law 926 = .ok (.iadd, 1) := dk_96 (dk_at dksL_law_34 23 rfl rfl)
theorem dL_law_927 : decode cL_law 927 = .ok (.iaload, 1) := dk_46 (dk_at dksL_law_35 0 rfl rfl)
theorem dL_law_928 : decode cL_law 928 = .ok (.aload_n 0, 1) := dk_42 (dk_at dksL_law_35 1 rfl rfl)
theorem dL_law_929 : decode cL_law 929 = .ok (.iload 5, 2) := dk_21 5 (dk_at dksL_law_35 2 rfl rfl)
theorem dL_law_931 : decode cL_law 931 = .ok (.iconst 2, 1) := dk_5 (dk_at dksL_law_35 4 rfl rfl)
theorem dL_law_932 : decode cL_law 932 = .ok (.iadd, 1) := dk_96 (dk_at dksL_law_35 5 rfl rfl)
theorem dL_law_933 : decode cL_law 933 = .ok (.iaload, 1) := dk_46 (dk_at dksL_law_35 6 rfl rfl)
theorem dL_law_934 : decode cL_law 934 = .ok (.aload_n 3, 1) := dk_45 (dk_at dksL_law_35 7 rfl rfl)
theorem dL_law_935 : decode cL_law 935 = .ok (.invokestatic 141, 3) := dk_184 0 141 (dk_at dksL_law_35 8 rfl rfl)
theorem dL_law_938 : decode cL_law 938 = .ok (.istore 6, 2) := dk_54 6 (dk_at dksL_law_35 11 rfl rfl)
theorem dL_law_940 : decode cL_law 940 = .ok (.aload_n 2, 1) := dk_44 (dk_at dksL_law_35 13 rfl rfl)
theorem dL_law_941 : decode cL_law 941 = .ok (.aload_n 0, 1) := dk_42 (dk_at dksL_law_35 14 rfl rfl)
theorem dL_law_942 : decode cL_law 942 = .ok (.iload 5, 2) := dk_21 5 (dk_at dksL_law_35 15 rfl rfl)
theorem dL_law_944 : decode cL_law 944 = .ok (.iconst 1, 1) := dk_4 (dk_at dksL_law_35 17 rfl rfl)
theorem dL_law_945 : decode cL_law 945 = .ok (.iadd, 1) := dk_96 (dk_at dksL_law_35 18 rfl rfl)
theorem dL_law_946 : decode cL_law 946 = .ok (.iaload, 1) := dk_46 (dk_at dksL_law_35 19 rfl rfl)
theorem dL_law_947 : decode cL_law 947 = .ok (.aload_n 0, 1) := dk_42 (dk_at dksL_law_35 20 rfl rfl)
theorem dL_law_948 : decode cL_law 948 = .ok (.iload 5, 2) := dk_21 5 (dk_at dksL_law_35 21 rfl rfl)
theorem dL_law_950 : decode cL_law 950 = .ok (.iconst 2, 1) := dk_5 (dk_at dksL_law_35 23 rfl rfl)
theorem dL_law_951 : decode cL_law 951 = .ok (.iadd, 1) := dk_96 (dk_at dksL_law_36 0 rfl rfl)
theorem dL_law_952 : decode cL_law 952 = .ok (.iaload, 1) := dk_46 (dk_at dksL_law_36 1 rfl rfl)
theorem dL_law_953 : decode cL_law 953 = .ok (.invokevirtual 143, 3) := dk_182 0 143 (dk_at dksL_law_36 2 rfl rfl)
theorem dL_law_956 : decode cL_law 956 = .ok (.istore 7, 2) := dk_54 7 (dk_at dksL_law_36 5 rfl rfl)
theorem dL_law_958 : decode cL_law 958 = .ok (.aload_n 2, 1) := dk_44 (dk_at dksL_law_36 7 rfl rfl)
theorem dL_law_959 : decode cL_law 959 = .ok (.invokevirtual 103, 3) := dk_182 0 103 (dk_at dksL_law_36 8 rfl rfl)
theorem dL_law_962 : decode cL_law 962 = .ok (.iload 6, 2) := dk_21 6 (dk_at dksL_law_36 11 rfl rfl)
theorem dL_law_964 : decode cL_law 964 = .ok (.if_icmp .eq 5, 3) := dk_159 0 5 (dk_at dksL_law_36 13 rfl rfl)
theorem dL_law_967 : decode cL_law 967 = .ok (.iconst 0, 1) := dk_3 (dk_at dksL_law_36 16 rfl rfl)
theorem dL_law_968 : decode cL_law 968 = .ok (.ireturn, 1) := dk_172 (dk_at dksL_law_36 17 rfl rfl)
theorem dL_law_969 : decode cL_law 969 = .ok (.iload 6, 2) := dk_21 6 (dk_at dksL_law_36 18 rfl rfl)
theorem dL_law_971 : decode cL_law 971 = .ok (.ifCond .ne 15, 3) := dk_154 0 15 (dk_at dksL_law_36 20 rfl rfl)
theorem dL_law_974 : decode cL_law 974 = .ok (.aload_n 3, 1) := dk_45 (dk_at dksL_law_36 23 rfl rfl)
theorem dL_law_975 : decode cL_law 975 = .ok (.iconst 0, 1) := dk_3 (dk_at dksL_law_37 0 rfl rfl)
theorem dL_law_976 : decode cL_law 976 = .ok (.laload, 1) := dk_47 (dk_at dksL_law_37 1 rfl rfl)
theorem dL_law_977 : decode cL_law 977 = .ok (.iload 7, 2) := dk_21 7 (dk_at dksL_law_37 2 rfl rfl)
theorem dL_law_979 : decode cL_law 979 = .ok (.i2l, 1) := dk_133 (dk_at dksL_law_37 4 rfl rfl)
theorem dL_law_980 : decode cL_law 980 = .ok (.lcmp, 1) := dk_148 (dk_at dksL_law_37 5 rfl rfl)
theorem dL_law_981 : decode cL_law 981 = .ok (.ifCond .eq 5, 3) := dk_153 0 5 (dk_at dksL_law_37 6 rfl rfl)
theorem dL_law_984 : decode cL_law 984 = .ok (.iconst 0, 1) := dk_3 (dk_at dksL_law_37 9 rfl rfl)
theorem dL_law_985 : decode cL_law 985 = .ok (.ireturn, 1) := dk_172 (dk_at dksL_law_37 10 rfl rfl)
theorem dL_law_986 : decode cL_law 986 = .ok (.goto 748, 3) := dk_167 2 236 (dk_at dksL_law_37 11 rfl rfl)
theorem dL_law_989 : decode cL_law 989 = .ok (.aload_n 1, 1) := dk_43 (dk_at dksL_law_37 14 rfl rfl)
theorem dL_law_990 : decode cL_law 990 = .ok (.aload_n 0, 1) := dk_42 (dk_at dksL_law_37 15 rfl rfl)
theorem dL_law_991 : decode cL_law 991 = .ok (.iload 5, 2) := dk_21 5 (dk_at dksL_law_37 16 rfl rfl)
theorem dL_law_993 : decode cL_law 993 = .ok (.iconst 1, 1) := dk_4 (dk_at dksL_law_37 18 rfl rfl)
theorem dL_law_994 : decode cL_law 994 = .ok (.iadd, 1) := dk_96 (dk_at dksL_law_37 19 rfl rfl)
theorem dL_law_995 : decode cL_law 995 = .ok (.iaload, 1) := dk_46 (dk_at dksL_law_37 20 rfl rfl)
theorem dL_law_996 : decode cL_law 996 = .ok (.aload_n 0, 1) := dk_42 (dk_at dksL_law_37 21 rfl rfl)
theorem dL_law_997 : decode cL_law 997 = .ok (.iload 5, 2) := dk_21 5 (dk_at dksL_law_37 22 rfl rfl)
theorem dL_law_999 : decode cL_law 999 = .ok (.iconst 2, 1) := dk_5 (dk_at dksL_law_38 0 rfl rfl)
theorem dL_law_1000 : decode cL_law 1000 = .ok (.iadd, 1) := dk_96 (dk_at dksL_law_38 1 rfl rfl)
theorem dL_law_1001 : decode cL_law 1001 = .ok (.iaload, 1) := dk_46 (dk_at dksL_law_38 2 rfl rfl)
theorem dL_law_1002 : decode cL_law 1002 = .ok (.aload_n 0, 1) := dk_42 (dk_at dksL_law_38 3 rfl rfl)
theorem dL_law_1003 : decode cL_law 1003 = .ok (.iload 5, 2) := dk_21 5 (dk_at dksL_law_38 4 rfl rfl)
theorem dL_law_1005 : decode cL_law 1005 = .ok (.iconst 3, 1) := dk_6 (dk_at dksL_law_38 6 rfl rfl)
theorem dL_law_1006 : decode cL_law 1006 = .ok (.iadd, 1) := dk_96 (dk_at dksL_law_38 7 rfl rfl)
theorem dL_law_1007 : decode cL_law 1007 = .ok (.iaload, 1) := dk_46 (dk_at dksL_law_38 8 rfl rfl)
theorem dL_law_1008 : decode cL_law 1008 = .ok (.aload_n 0, 1) := dk_42 (dk_at dksL_law_38 9 rfl rfl)
theorem dL_law_1009 : decode cL_law 1009 = .ok (.iload 5, 2) := dk_21 5 (dk_at dksL_law_38 10 rfl rfl)
theorem dL_law_1011 : decode cL_law 1011 = .ok (.iconst 4, 1) := dk_7 (dk_at dksL_law_38 12 rfl rfl)
theorem dL_law_1012 : decode cL_law 1012 = .ok (.iadd, 1) := dk_96 (dk_at dksL_law_38 13 rfl rfl)
theorem dL_law_1013 : decode cL_law 1013 = .ok (.iaload, 1) := dk_46 (dk_at dksL_law_38 14 rfl rfl)
theorem dL_law_1014 : decode cL_law 1014 = .ok (.aload_n 3, 1) := dk_45 (dk_at dksL_law_38 15 rfl rfl)
theorem dL_law_1015 : decode cL_law 1015 = .ok (.invokestatic 144, 3) := dk_184 0 144 (dk_at dksL_law_38 16 rfl rfl)
theorem dL_law_1018 : decode cL_law 1018 = .ok (.istore 6, 2) := dk_54 6 (dk_at dksL_law_38 19 rfl rfl)
theorem dL_law_1020 : decode cL_law 1020 = .ok (.aload_n 2, 1) := dk_44 (dk_at dksL_law_38 21 rfl rfl)
theorem dL_law_1021 : decode cL_law 1021 = .ok (.aload_n 0, 1) := dk_42 (dk_at dksL_law_38 22 rfl rfl)
theorem dL_law_1022 : decode cL_law 1022 = .ok (.iload 5, 2) := dk_21 5 (dk_at dksL_law_39 0 rfl rfl)
theorem dL_law_1024 : decode cL_law 1024 = .ok (.iconst 1, 1) := dk_4 (dk_at dksL_law_39 2 rfl rfl)
theorem dL_law_1025 : decode cL_law 1025 = .ok (.iadd, 1) := dk_96 (dk_at dksL_law_39 3 rfl rfl)
theorem dL_law_1026 : decode cL_law 1026 = .ok (.iaload, 1) := dk_46 (dk_at dksL_law_39 4 rfl rfl)
theorem dL_law_1027 : decode cL_law 1027 = .ok (.aload_n 0, 1) := dk_42 (dk_at dksL_law_39 5 rfl rfl)
theorem dL_law_1028 : decode cL_law 1028 = .ok (.iload 5, 2) := dk_21 5 (dk_at dksL_law_39 6 rfl rfl)
theorem dL_law_1030 : decode cL_law 1030 = .ok (.iconst 2, 1) := dk_5 (dk_at dksL_law_39 8 rfl rfl)
theorem dL_law_1031 : decode cL_law 1031 = .ok (.iadd, 1) := dk_96 (dk_at dksL_law_39 9 rfl rfl)
theorem dL_law_1032 : decode cL_law 1032 = .ok (.iaload, 1) := dk_46 (dk_at dksL_law_39 10 rfl rfl)
theorem dL_law_1033 : decode cL_law 1033 = .ok (.aload_n 0, 1) := dk_42 (dk_at dksL_law_39 11 rfl rfl)
theorem dL_law_1034 : decode cL_law 1034 = .ok (.iload 5, 2) := dk_21 5 (dk_at dksL_law_39 12 rfl rfl)
theorem dL_law_1036 : decode cL_law 1036 = .ok (.iconst 3, 1) := dk_6 (dk_at dksL_law_39 14 rfl rfl)
theorem dL_law_1037 : decode cL_law 1037 = .ok (.iadd, 1) := dk_96 (dk_at dksL_law_39 15 rfl rfl)
theorem dL_law_1038 : decode cL_law 1038 = .ok (.iaload, 1) := dk_46 (dk_at dksL_law_39 16 rfl rfl)
theorem dL_law_1039 : decode cL_law 1039 = .ok (.aload_n 0, 1) := dk_42 (dk_at dksL_law_39 17 rfl rfl)
theorem dL_law_1040 : decode cL_law 1040 = .ok (.iload 5, 2) := dk_21 5 (dk_at dksL_law_39 18 rfl rfl)
theorem dL_law_1042 : decode cL_law 1042 = .ok (.iconst 4, 1) := dk_7 (dk_at dksL_law_39 20 rfl rfl)
theorem dL_law_1043 : decode cL_law 1043 = .ok (.iadd, 1) := dk_96 (dk_at dksL_law_39 21 rfl rfl)
theorem dL_law_1044 : decode cL_law 1044 = .ok (.iaload, 1) := dk_46 (dk_at dksL_law_39 22 rfl rfl)
theorem dL_law_1045 : decode cL_law 1045 = .ok (.invokevirtual 147, 3) := dk_182 0 147 (dk_at dksL_law_40 0 rfl rfl)
theorem dL_law_1048 : decode cL_law 1048 = .ok (.istore 7, 2) := dk_54 7 (dk_at dksL_law_40 3 rfl rfl)
theorem dL_law_1050 : decode cL_law 1050 = .ok (.aload_n 2, 1) := dk_44 (dk_at dksL_law_40 5 rfl rfl)
theorem dL_law_1051 : decode cL_law 1051 = .ok (.invokevirtual 103, 3) := dk_182 0 103 (dk_at dksL_law_40 6 rfl rfl)
theorem dL_law_1054 : decode cL_law 1054 = .ok (.iload 6, 2) := dk_21 6 (dk_at dksL_law_40 9 rfl rfl)
theorem dL_law_1056 : decode cL_law 1056 = .ok (.if_icmp .eq 5, 3) := dk_159 0 5 (dk_at dksL_law_40 11 rfl rfl)
theorem dL_law_1059 : decode cL_law 1059 = .ok (.iconst 0, 1) := dk_3 (dk_at dksL_law_40 14 rfl rfl)
theorem dL_law_1060 : decode cL_law 1060 = .ok (.ireturn, 1) := dk_172 (dk_at dksL_law_40 15 rfl rfl)
theorem dL_law_1061 : decode cL_law 1061 = .ok (.iload 6, 2) := dk_21 6 (dk_at dksL_law_40 16 rfl rfl)
theorem dL_law_1063 : decode cL_law 1063 = .ok (.ifCond .ne 15, 3) := dk_154 0 15 (dk_at dksL_law_40 18 rfl rfl)
theorem dL_law_1066 : decode cL_law 1066 = .ok (.aload_n 3, 1) := dk_45 (dk_at dksL_law_40 21 rfl rfl)
theorem dL_law_1067 : decode cL_law 1067 = .ok (.iconst 0, 1) := dk_3 (dk_at dksL_law_40 22 rfl rfl)
theorem dL_law_1068 : decode cL_law 1068 = .ok (.laload, 1) := dk_47 (dk_at dksL_law_40 23 rfl rfl)
theorem dL_law_1069 : decode cL_law 1069 = .ok (.iload 7, 2) := dk_21 7 (dk_at dksL_law_41 0 rfl rfl)
theorem dL_law_1071 : decode cL_law 1071 = .ok (.i2l, 1) := dk_133 (dk_at dksL_law_41 2 rfl rfl)
theorem dL_law_1072 : decode cL_law 1072 = .ok (.lcmp, 1) := dk_148 (dk_at dksL_law_41 3 rfl rfl)
theorem dL_law_1073 : decode cL_law 1073 = .ok (.ifCond .eq 5, 3) := dk_153 0 5 (dk_at dksL_law_41 4 rfl rfl)
theorem dL_law_1076 : decode cL_law 1076 = .ok (.iconst 0, 1) := dk_3 (dk_at dksL_law_41 7 rfl rfl)
theorem dL_law_1077 : decode cL_law 1077 = .ok (.ireturn, 1) := dk_172 (dk_at dksL_law_41 8 rfl rfl)
theorem dL_law_1078 : decode cL_law 1078 = .ok (.goto 656, 3) := dk_167 2 144 (dk_at dksL_law_41 9 rfl rfl)
theorem dL_law_1081 : decode cL_law 1081 = .ok (.aload_n 1, 1) := dk_43 (dk_at dksL_law_41 12 rfl rfl)
theorem dL_law_1082 : decode cL_law 1082 = .ok (.invokevirtual 148, 3) := dk_182 0 148 (dk_at dksL_law_41 13 rfl rfl)
theorem dL_law_1085 : decode cL_law 1085 = .ok (.aload_n 2, 1) := dk_44 (dk_at dksL_law_41 16 rfl rfl)
theorem dL_law_1086 : decode cL_law 1086 = .ok (.invokevirtual 151, 3) := dk_182 0 151 (dk_at dksL_law_41 17 rfl rfl)
theorem dL_law_1089 : decode cL_law 1089 = .ok (.if_icmp .eq 645, 3) := dk_159 2 133 (dk_at dksL_law_41 20 rfl rfl)
theorem dL_law_1092 : decode cL_law 1092 = .ok (.iconst 0, 1) := dk_3 (dk_at dksL_law_41 23 rfl rfl)
theorem dL_law_1093 : decode cL_law 1093 = .ok (.ireturn, 1) := dk_172 (dk_at dksL_law_42 0 rfl rfl)
theorem dL_law_1094 : decode cL_law 1094 = .ok (.aload_n 1, 1) := dk_43 (dk_at dksL_law_42 1 rfl rfl)
theorem dL_law_1095 : decode cL_law 1095 = .ok (.invokevirtual 152, 3) := dk_182 0 152 (dk_at dksL_law_42 2 rfl rfl)
theorem dL_law_1098 : decode cL_law 1098 = .ok (.aload_n 2, 1) := dk_44 (dk_at dksL_law_42 5 rfl rfl)
theorem dL_law_1099 : decode cL_law 1099 = .ok (.invokevirtual 155, 3) := dk_182 0 155 (dk_at dksL_law_42 6 rfl rfl)
theorem dL_law_1102 : decode cL_law 1102 = .ok (.if_icmp .eq 632, 3) := dk_159 2 120 (dk_at dksL_law_42 9 rfl rfl)
theorem dL_law_1105 : decode cL_law 1105 = .ok (.iconst 0, 1) := dk_3 (dk_at dksL_law_42 12 rfl rfl)
theorem dL_law_1106 : decode cL_law 1106 = .ok (.ireturn, 1) := dk_172 (dk_at dksL_law_42 13 rfl rfl)
theorem dL_law_1107 : decode cL_law 1107 = .ok (.aload_n 1, 1) := dk_43 (dk_at dksL_law_42 14 rfl rfl)
theorem dL_law_1108 : decode cL_law 1108 = .ok (.aload_n 0, 1) := dk_42 (dk_at dksL_law_42 15 rfl rfl)
theorem dL_law_1109 : decode cL_law 1109 = .ok (.iload 5, 2) := dk_21 5 (dk_at dksL_law_42 16 rfl rfl)
theorem dL_law_1111 : decode cL_law 1111 = .ok (.iconst 1, 1) := dk_4 (dk_at dksL_law_42 18 rfl rfl)
theorem dL_law_1112 : decode cL_law 1112 = .ok (.iadd, 1) := dk_96 (dk_at dksL_law_42 19 rfl rfl)
theorem dL_law_1113 : decode cL_law 1113 = .ok (.iaload, 1) := dk_46 (dk_at dksL_law_42 20 rfl rfl)
theorem dL_law_1114 : decode cL_law 1114 = .ok (.aload_n 0, 1) := dk_42 (dk_at dksL_law_42 21 rfl rfl)
theorem dL_law_1115 : decode cL_law 1115 = .ok (.iload 5, 2) := dk_21 5 (dk_at dksL_law_42 22 rfl rfl)
theorem dL_law_1117 : decode cL_law 1117 = .ok (.iconst 2, 1) := dk_5 (dk_at dksL_law_43 0 rfl rfl)
theorem dL_law_1118 : decode cL_law 1118 = .ok (.iadd, 1) := dk_96 (dk_at dksL_law_43 1 rfl rfl)
theorem dL_law_1119 : decode cL_law 1119 = .ok (.iaload, 1) := dk_46 (dk_at dksL_law_43 2 rfl rfl)
theorem dL_law_1120 : decode cL_law 1120 = .ok (.aload_n 0, 1) := dk_42 (dk_at dksL_law_43 3 rfl rfl)
theorem dL_law_1121 : decode cL_law 1121 = .ok (.iload 5, 2) := dk_21 5 (dk_at dksL_law_43 4 rfl rfl)
theorem dL_law_1123 : decode cL_law 1123 = .ok (.iconst 3, 1) := dk_6 (dk_at dksL_law_43 6 rfl rfl)
theorem dL_law_1124 : decode cL_law 1124 = .ok (.iadd, 1) := dk_96 (dk_at dksL_law_43 7 rfl rfl)
theorem dL_law_1125 : decode cL_law 1125 = .ok (.iaload, 1) := dk_46 (dk_at dksL_law_43 8 rfl rfl)
theorem dL_law_1126 : decode cL_law 1126 = .ok (.aload_n 3, 1) := dk_45 (dk_at dksL_law_43 9 rfl rfl)
theorem dL_law_1127 : decode cL_law 1127 = .ok (.invokestatic 156, 3) := dk_184 0 156 (dk_at dksL_law_43 10 rfl rfl)
theorem dL_law_1130 : decode cL_law 1130 = .ok (.istore 6, 2) := dk_54 6 (dk_at dksL_law_43 13 rfl rfl)
theorem dL_law_1132 : decode cL_law 1132 = .ok (.aload_n 2, 1) := dk_44 (dk_at dksL_law_43 15 rfl rfl)
theorem dL_law_1133 : decode cL_law 1133 = .ok (.aload_n 0, 1) := dk_42 (dk_at dksL_law_43 16 rfl rfl)
theorem dL_law_1134 : decode cL_law 1134 = .ok (.iload 5, 2) := dk_21 5 (dk_at dksL_law_43 17 rfl rfl)
theorem dL_law_1136 : decode cL_law 1136 = .ok (.iconst 1, 1) := dk_4 (dk_at dksL_law_43 19 rfl rfl)
theorem dL_law_1137 : decode cL_law 1137 = .ok (.iadd, 1) := dk_96 (dk_at dksL_law_43 20 rfl rfl)
theorem dL_law_1138 : decode cL_law 1138 = .ok (.iaload, 1) := dk_46 (dk_at dksL_law_43 21 rfl rfl)
theorem dL_law_1139 : decode cL_law 1139 = .ok (.aload_n 0, 1) := dk_42 (dk_at dksL_law_43 22 rfl rfl)
theorem dL_law_1140 : decode cL_law 1140 = .ok (.iload 5, 2) := dk_21 5 (dk_at dksL_law_44 0 rfl rfl)
theorem dL_law_1142 : decode cL_law 1142 = .ok (.iconst 2, 1) := dk_5 (dk_at dksL_law_44 2 rfl rfl)
theorem dL_law_1143 : decode cL_law 1143 = .ok (.iadd, 1) := dk_96 (dk_at dksL_law_44 3 rfl rfl)
theorem dL_law_1144 : decode cL_law 1144 = .ok (.iaload, 1) := dk_46 (dk_at dksL_law_44 4 rfl rfl)
theorem dL_law_1145 : decode cL_law 1145 = .ok (.aload_n 0, 1) := dk_42 (dk_at dksL_law_44 5 rfl rfl)
theorem dL_law_1146 : decode cL_law 1146 = .ok (.iload 5, 2) := dk_21 5 (dk_at dksL_law_44 6 rfl rfl)
theorem dL_law_1148 : decode cL_law 1148 = .ok (.iconst 3, 1) := dk_6 (dk_at dksL_law_44 8 rfl rfl)
theorem dL_law_1149 : decode cL_law 1149 = .ok (.iadd, 1) := dk_96 (dk_at dksL_law_44 9 rfl rfl)
theorem dL_law_1150 : decode cL_law 1150 = .ok (.iaload, 1) := dk_46 (dk_at dksL_law_44 10 rfl rfl)
theorem dL_law_1151 : decode cL_law 1151 = .ok (.invokevirtual 159, 3) := dk_182 0 159 (dk_at dksL_law_44 11 rfl rfl)
theorem dL_law_1154 : decode cL_law 1154 = .ok (.istore 7, 2) := dk_54 7 (dk_at dksL_law_44 14 rfl rfl)
theorem dL_law_1156 : decode cL_law 1156 = .ok (.aload_n 2, 1) := dk_44 (dk_at dksL_law_44 16 rfl rfl)
theorem dL_law_1157 : decode cL_law 1157 = .ok (.invokevirtual 103, 3) := dk_182 0 103 (dk_at dksL_law_44 17 rfl rfl)
theorem dL_law_1160 : decode cL_law 1160 = .ok (.iload 6, 2) := dk_21 6 (dk_at dksL_law_44 20 rfl rfl)
theorem dL_law_1162 : decode cL_law 1162 = .ok (.if_icmp .eq 5, 3) := dk_159 0 5 (dk_at dksL_law_45 0 rfl rfl)
theorem dL_law_1165 : decode cL_law 1165 = .ok (.iconst 0, 1) := dk_3 (dk_at dksL_law_45 3 rfl rfl)
theorem dL_law_1166 : decode cL_law 1166 = .ok (.ireturn, 1) := dk_172 (dk_at dksL_law_45 4 rfl rfl)
theorem dL_law_1167 : decode cL_law 1167 = .ok (.iload 6, 2) := dk_21 6 (dk_at dksL_law_45 5 rfl rfl)
theorem dL_law_1169 : decode cL_law 1169 = .ok (.ifCond .ne 15, 3) := dk_154 0 15 (dk_at dksL_law_45 7 rfl rfl)
theorem dL_law_1172 : decode cL_law 1172 = .ok (.aload_n 3, 1) := dk_45 (dk_at dksL_law_45 10 rfl rfl)
theorem dL_law_1173 : decode cL_law 1173 = .ok (.iconst 0, 1) := dk_3 (dk_at dksL_law_45 11 rfl rfl)
theorem dL_law_1174 : decode cL_law 1174 = .ok (.laload, 1) := dk_47 (dk_at dksL_law_45 12 rfl rfl)
theorem dL_law_1175 : decode cL_law 1175 = .ok (.iload 7, 2) := dk_21 7 (dk_at dksL_law_45 13 rfl rfl)
theorem dL_law_1177 : decode cL_law 1177 = .ok (.i2l, 1) := dk_133 (dk_at dksL_law_45 15 rfl rfl)
theorem dL_law_1178 : decode cL_law 1178 = .ok (.lcmp, 1) := dk_148 (dk_at dksL_law_45 16 rfl rfl)
theorem dL_law_1179 : decode cL_law 1179 = .ok (.ifCond .eq 5, 3) := dk_153 0 5 (dk_at dksL_law_45 17 rfl rfl)
theorem dL_law_1182 : decode cL_law 1182 = .ok (.iconst 0, 1) := dk_3 (dk_at dksL_law_45 20 rfl rfl)
theorem dL_law_1183 : decode cL_law 1183 = .ok (.ireturn, 1) := dk_172 (dk_at dksL_law_45 21 rfl rfl)
theorem dL_law_1184 : decode cL_law 1184 = .ok (.goto 550, 3) := dk_167 2 38 (dk_at dksL_law_46 0 rfl rfl)
theorem dL_law_1187 : decode cL_law 1187 = .ok (.aload_n 1, 1) := dk_43 (dk_at dksL_law_46 3 rfl rfl)
theorem dL_law_1188 : decode cL_law 1188 = .ok (.aload_n 0, 1) := dk_42 (dk_at dksL_law_46 4 rfl rfl)
theorem dL_law_1189 : decode cL_law 1189 = .ok (.iload 5, 2) := dk_21 5 (dk_at dksL_law_46 5 rfl rfl)
theorem dL_law_1191 : decode cL_law 1191 = .ok (.iconst 1, 1) := dk_4 (dk_at dksL_law_46 7 rfl rfl)
theorem dL_law_1192 : decode cL_law 1192 = .ok (.iadd, 1) := dk_96 (dk_at dksL_law_46 8 rfl rfl)
theorem dL_law_1193 : decode cL_law 1193 = .ok (.iaload, 1) := dk_46 (dk_at dksL_law_46 9 rfl rfl)
theorem dL_law_1194 : decode cL_law 1194 = .ok (.aload_n 0, 1) := dk_42 (dk_at dksL_law_46 10 rfl rfl)
theorem dL_law_1195 : decode cL_law 1195 = .ok (.iload 5, 2) := dk_21 5 (dk_at dksL_law_46 11 rfl rfl)
theorem dL_law_1197 : decode cL_law 1197 = .ok (.iconst 2, 1) := dk_5 (dk_at dksL_law_46 13 rfl rfl)
theorem dL_law_1198 : decode cL_law 1198 = .ok (.iadd, 1) := dk_96 (dk_at dksL_law_46 14 rfl rfl)
theorem dL_law_1199 : decode cL_law 1199 = .ok (.iaload, 1) := dk_46 (dk_at dksL_law_46 15 rfl rfl)
theorem dL_law_1200 : decode cL_law 1200 = .ok (.aload_n 0, 1) := dk_42 (dk_at dksL_law_46 16 rfl rfl)
theorem dL_law_1201 : decode cL_law 1201 = .ok (.iload 5, 2) := dk_21 5 (dk_at dksL_law_46 17 rfl rfl)
theorem dL_law_1203 : decode cL_law 1203 = .ok (.iconst 3, 1) := dk_6 (dk_at dksL_law_46 19 rfl rfl)
theorem dL_law_1204 : decode cL_law 1204 = .ok (.iadd, 1) := dk_96 (dk_at dksL_law_46 20 rfl rfl)
theorem dL_law_1205 : decode cL_law 1205 = .ok (.iaload, 1) := dk_46 (dk_at dksL_law_46 21 rfl rfl)
theorem dL_law_1206 : decode cL_law 1206 = .ok (.aload_n 3, 1) := dk_45 (dk_at dksL_law_46 22 rfl rfl)
theorem dL_law_1207 : decode cL_law 1207 = .ok (.invokestatic 160, 3) := dk_184 0 160 (dk_at dksL_law_47 0 rfl rfl)
theorem dL_law_1210 : decode cL_law 1210 = .ok (.istore 6, 2) := dk_54 6 (dk_at dksL_law_47 3 rfl rfl)
theorem dL_law_1212 : decode cL_law 1212 = .ok (.aload_n 2, 1) := dk_44 (dk_at dksL_law_47 5 rfl rfl)
theorem dL_law_1213 : decode cL_law 1213 = .ok (.aload_n 0, 1) := dk_42 (dk_at dksL_law_47 6 rfl rfl)
theorem dL_law_1214 : decode cL_law 1214 = .ok (.iload 5, 2) := dk_21 5 (dk_at dksL_law_47 7 rfl rfl)
theorem dL_law_1216 : decode cL_law 1216 = .ok (.iconst 1, 1) := dk_4 (dk_at dksL_law_47 9 rfl rfl)
theorem dL_law_1217 : decode cL_law 1217 = .ok (.iadd, 1) := dk_96 (dk_at dksL_law_47 10 rfl rfl)
theorem dL_law_1218 : decode cL_law 1218 = .ok (.iaload, 1) := dk_46 (dk_at dksL_law_47 11 rfl rfl)
theorem dL_law_1219 : decode cL_law 1219 = .ok (.aload_n 0, 1) := dk_42 (dk_at dksL_law_47 12 rfl rfl)
theorem dL_law_1220 : decode cL_law 1220 = .ok (.iload 5, 2) := dk_21 5 (dk_at dksL_law_47 13 rfl rfl)
theorem dL_law_1222 : decode cL_law 1222 = .ok (.iconst 2, 1) := dk_5 (dk_at dksL_law_47 15 rfl rfl)
theorem dL_law_1223 : decode cL_law 1223 = .ok (.iadd, 1) := dk_96 (dk_at dksL_law_47 16 rfl rfl)
theorem dL_law_1224 : decode cL_law 1224 = .ok (.iaload, 1) := dk_46 (dk_at dksL_law_47 17 rfl rfl)
theorem dL_law_1225 : decode cL_law 1225 = .ok (.aload_n 0, 1) := dk_42 (dk_at dksL_law_47 18 rfl rfl)
theorem dL_law_1226 : decode cL_law 1226 = .ok (.iload 5, 2) := dk_21 5 (dk_at dksL_law_47 19 rfl rfl)
theorem dL_law_1228 : decode cL_law 1228 = .ok (.iconst 3, 1) := dk_6 (dk_at dksL_law_47 21 rfl rfl)
theorem dL_law_1229 : decode cL_law 1229 = .ok (.iadd, 1) := dk_96 (dk_at dksL_law_47 22 rfl rfl)
theorem dL_law_1230 : decode cL_law 1230 = .ok (.iaload, 1) := dk_46 (dk_at dksL_law_47 23 rfl rfl)
theorem dL_law_1231 : decode cL_law 1231 = .ok (.invokevirtual 162, 3) := dk_182 0 162 (dk_at dksL_law_48 0 rfl rfl)
theorem dL_law_1234 : decode cL_law 1234 = .ok (.istore 7, 2) := dk_54 7 (dk_at dksL_law_48 3 rfl rfl)
theorem dL_law_1236 : decode cL_law 1236 = .ok (.aload_n 2, 1) := dk_44 (dk_at dksL_law_48 5 rfl rfl)
theorem dL_law_1237 : decode cL_law 1237 = .ok (.invokevirtual 103, 3) := dk_182 0 103 (dk_at dksL_law_48 6 rfl rfl)
theorem dL_law_1240 : decode cL_law 1240 = .ok (.iload 6, 2) := dk_21 6 (dk_at dksL_law_48 9 rfl rfl)
theorem dL_law_1242 : decode cL_law 1242 = .ok (.if_icmp .eq 5, 3) := dk_159 0 5 (dk_at dksL_law_48 11 rfl rfl)
theorem dL_law_1245 : decode cL_law 1245 = .ok (.iconst 0, 1) := dk_3 (dk_at dksL_law_48 14 rfl rfl)
theorem dL_law_1246 : decode cL_law 1246 = .ok (.ireturn, 1) := dk_172 (dk_at dksL_law_48 15 rfl rfl)
theorem dL_law_1247 : decode cL_law 1247 = .ok (.iload 6, 2) := dk_21 6 (dk_at dksL_law_48 16 rfl rfl)
theorem dL_law_1249 : decode cL_law 1249 = .ok (.ifCond .ne 15, 3) := dk_154 0 15 (dk_at dksL_law_48 18 rfl rfl)
theorem dL_law_1252 : decode cL_law 1252 = .ok (.aload_n 3, 1) := dk_45 (dk_at dksL_law_48 21 rfl rfl)
theorem dL_law_1253 : decode cL_law 1253 = .ok (.iconst 0, 1) := dk_3 (dk_at dksL_law_48 22 rfl rfl)
theorem dL_law_1254 : decode cL_law 1254 = .ok (.laload, 1) := dk_47 (dk_at dksL_law_48 23 rfl rfl)
theorem dL_law_1255 : decode cL_law 1255 = .ok (.iload 7, 2) := dk_21 7 (dk_at dksL_law_49 0 rfl rfl)
theorem dL_law_1257 : decode cL_law 1257 = .ok (.i2l, 1) := dk_133 (dk_at dksL_law_49 2 rfl rfl)
theorem dL_law_1258 : decode cL_law 1258 = .ok (.lcmp, 1) := dk_148 (dk_at dksL_law_49 3 rfl rfl)
theorem dL_law_1259 : decode cL_law 1259 = .ok (.ifCond .eq 5, 3) := dk_153 0 5 (dk_at dksL_law_49 4 rfl rfl)
theorem dL_law_1262 : decode cL_law 1262 = .ok (.iconst 0, 1) := dk_3 (dk_at dksL_law_49 7 rfl rfl)
theorem dL_law_1263 : decode cL_law 1263 = .ok (.ireturn, 1) := dk_172 (dk_at dksL_law_49 8 rfl rfl)
theorem dL_law_1264 : decode cL_law 1264 = .ok (.goto 470, 3) := dk_167 1 214 (dk_at dksL_law_49 9 rfl rfl)
theorem dL_law_1267 : decode cL_law 1267 = .ok (.aload_n 1, 1) := dk_43 (dk_at dksL_law_49 12 rfl rfl)
theorem dL_law_1268 : decode cL_law 1268 = .ok (.aload_n 3, 1) := dk_45 (dk_at dksL_law_49 13 rfl rfl)
theorem dL_law_1269 : decode cL_law 1269 = .ok (.invokestatic 163, 3) := dk_184 0 163 (dk_at dksL_law_49 14 rfl rfl)
theorem dL_law_1272 : decode cL_law 1272 = .ok (.istore 6, 2) := dk_54 6 (dk_at dksL_law_49 17 rfl rfl)
theorem dL_law_1274 : decode cL_law 1274 = .ok (.aload_n 2, 1) := dk_44 (dk_at dksL_law_49 19 rfl rfl)
theorem dL_law_1275 : decode cL_law 1275 = .ok (.invokevirtual 166, 3) := dk_182 0 166 (dk_at dksL_law_49 20 rfl rfl)
theorem dL_law_1278 : decode cL_law 1278 = .ok (.istore 7, 2) := dk_54 7 (dk_at dksL_law_50 0 rfl rfl)
theorem dL_law_1280 : decode cL_law 1280 = .ok (.aload_n 2, 1) := dk_44 (dk_at dksL_law_50 2 rfl rfl)
theorem dL_law_1281 : decode cL_law 1281 = .ok (.invokevirtual 103, 3) := dk_182 0 103 (dk_at dksL_law_50 3 rfl rfl)
theorem dL_law_1284 : decode cL_law 1284 = .ok (.iload 6, 2) := dk_21 6 (dk_at dksL_law_50 6 rfl rfl)
theorem dL_law_1286 : decode cL_law 1286 = .ok (.if_icmp .eq 5, 3) := dk_159 0 5 (dk_at dksL_law_50 8 rfl rfl)
theorem dL_law_1289 : decode cL_law 1289 = .ok (.iconst 0, 1) := dk_3 (dk_at dksL_law_50 11 rfl rfl)
theorem dL_law_1290 : decode cL_law 1290 = .ok (.ireturn, 1) := dk_172 (dk_at dksL_law_50 12 rfl rfl)
theorem dL_law_1291 : decode cL_law 1291 = .ok (.iload 6, 2) := dk_21 6 (dk_at dksL_law_50 13 rfl rfl)
theorem dL_law_1293 : decode cL_law 1293 = .ok (.ifCond .ne 15, 3) := dk_154 0 15 (dk_at dksL_law_50 15 rfl rfl)
theorem dL_law_1296 : decode cL_law 1296 = .ok (.aload_n 3, 1) := dk_45 (dk_at dksL_law_50 18 rfl rfl)
theorem dL_law_1297 : decode cL_law 1297 = .ok (.iconst 0, 1) := dk_3 (dk_at dksL_law_50 19 rfl rfl)
theorem dL_law_1298 : decode cL_law 1298 = .ok (.laload, 1) := dk_47 (dk_at dksL_law_50 20 rfl rfl)
theorem dL_law_1299 : decode cL_law 1299 = .ok (.iload 7, 2) := dk_21 7 (dk_at dksL_law_50 21 rfl rfl)
theorem dL_law_1301 : decode cL_law 1301 = .ok (.i2l, 1) := dk_133 (dk_at dksL_law_50 23 rfl rfl)
theorem dL_law_1302 : decode cL_law 1302 = .ok (.lcmp, 1) := dk_148 (dk_at dksL_law_51 0 rfl rfl)
theorem dL_law_1303 : decode cL_law 1303 = .ok (.ifCond .eq 5, 3) := dk_153 0 5 (dk_at dksL_law_51 1 rfl rfl)
theorem dL_law_1306 : decode cL_law 1306 = .ok (.iconst 0, 1) := dk_3 (dk_at dksL_law_51 4 rfl rfl)
theorem dL_law_1307 : decode cL_law 1307 = .ok (.ireturn, 1) := dk_172 (dk_at dksL_law_51 5 rfl rfl)
theorem dL_law_1308 : decode cL_law 1308 = .ok (.goto 426, 3) := dk_167 1 170 (dk_at dksL_law_51 6 rfl rfl)
theorem dL_law_1311 : decode cL_law 1311 = .ok (.aload_n 1, 1) := dk_43 (dk_at dksL_law_51 9 rfl rfl)
theorem dL_law_1312 : decode cL_law 1312 = .ok (.invokevirtual 167, 3) := dk_182 0 167 (dk_at dksL_law_51 10 rfl rfl)
theorem dL_law_1315 : decode cL_law 1315 = .ok (.aload_n 2, 1) := dk_44 (dk_at dksL_law_51 13 rfl rfl)
theorem dL_law_1316 : decode cL_law 1316 = .ok (.invokevirtual 170, 3) := dk_182 0 170 (dk_at dksL_law_51 14 rfl rfl)
theorem dL_law_1319 : decode cL_law 1319 = .ok (.if_icmp .eq 415, 3) := dk_159 1 159 (dk_at dksL_law_51 17 rfl rfl)
theorem dL_law_1322 : decode cL_law 1322 = .ok (.iconst 0, 1) := dk_3 (dk_at dksL_law_51 20 rfl rfl)
theorem dL_law_1323 : decode cL_law 1323 = .ok (.ireturn, 1) := dk_172 (dk_at dksL_law_51 21 rfl rfl)
theorem dL_law_1324 : decode cL_law 1324 = .ok (.aload_n 1, 1) := dk_43 (dk_at dksL_law_51 22 rfl rfl)
theorem dL_law_1325 : decode cL_law 1325 = .ok (.invokevirtual 171, 3) := dk_182 0 171 (dk_at dksL_law_52 0 rfl rfl)
theorem dL_law_1328 : decode cL_law 1328 = .ok (.aload_n 2, 1) := dk_44 (dk_at dksL_law_52 3 rfl rfl)
theorem dL_law_1329 : decode cL_law 1329 = .ok (.invokevirtual 174, 3) := dk_182 0 174 (dk_at dksL_law_52 4 rfl rfl)
theorem dL_law_1332 : decode cL_law 1332 = .ok (.if_icmp .eq 402, 3) := dk_159 1 146 (dk_at dksL_law_52 7 rfl rfl)
theorem dL_law_1335 : decode cL_law 1335 = .ok (.iconst 0, 1) := dk_3 (dk_at dksL_law_52 10 rfl rfl)
theorem dL_law_1336 : decode cL_law 1336 = .ok (.ireturn, 1) := dk_172 (dk_at dksL_law_52 11 rfl rfl)
theorem dL_law_1337 : decode cL_law 1337 = .ok (.aload_n 1, 1) := dk_43 (dk_at dksL_law_52 12 rfl rfl)
theorem dL_law_1338 : decode cL_law 1338 = .ok (.invokevirtual 175, 3) := dk_182 0 175 (dk_at dksL_law_52 13 rfl rfl)
theorem dL_law_1341 : decode cL_law 1341 = .ok (.aload_n 2, 1) := dk_44 (dk_at dksL_law_52 16 rfl rfl)
theorem dL_law_1342 : decode cL_law 1342 = .ok (.invokevirtual 178, 3) := dk_182 0 178 (dk_at dksL_law_52 17 rfl rfl)
theorem dL_law_1345 : decode cL_law 1345 = .ok (.if_icmp .eq 389, 3) := dk_159 1 133 (dk_at dksL_law_52 20 rfl rfl)
theorem dL_law_1348 : decode cL_law 1348 = .ok (.iconst 0, 1) := dk_3 (dk_at dksL_law_52 23 rfl rfl)
theorem dL_law_1349 : decode cL_law 1349 = .ok (.ireturn, 1) := dk_172 (dk_at dksL_law_53 0 rfl rfl)
theorem dL_law_1350 : decode cL_law 1350 = .ok (.aload_n 1, 1) := dk_43 (dk_at dksL_law_53 1 rfl rfl)
theorem dL_law_1351 : decode cL_law 1351 = .ok (.aload_n 0, 1) := dk_42 (dk_at dksL_law_53 2 rfl rfl)
theorem dL_law_1352 : decode cL_law 1352 = .ok (.iload 5, 2) := dk_21 5 (dk_at dksL_law_53 3 rfl rfl)
theorem dL_law_1354 : decode cL_law 1354 = .ok (.iconst 1, 1) := dk_4 (dk_at dksL_law_53 5 rfl rfl)
theorem dL_law_1355 : decode cL_law 1355 = .ok (.iadd, 1) := dk_96 (dk_at dksL_law_53 6 rfl rfl)
theorem dL_law_1356 : decode cL_law 1356 = .ok (.iaload, 1) := dk_46 (dk_at dksL_law_53 7 rfl rfl)
theorem dL_law_1357 : decode cL_law 1357 = .ok (.aload_n 3, 1) := dk_45 (dk_at dksL_law_53 8 rfl rfl)
theorem dL_law_1358 : decode cL_law 1358 = .ok (.invokestatic 179, 3) := dk_184 0 179 (dk_at dksL_law_53 9 rfl rfl)
theorem dL_law_1361 : decode cL_law 1361 = .ok (.istore 6, 2) := dk_54 6 (dk_at dksL_law_53 12 rfl rfl)
theorem dL_law_1363 : decode cL_law 1363 = .ok (.aload_n 2, 1) := dk_44 (dk_at dksL_law_53 14 rfl rfl)
theorem dL_law_1364 : decode cL_law 1364 = .ok (.aload_n 0, 1) := dk_42 (dk_at dksL_law_53 15 rfl rfl)
theorem dL_law_1365 : decode cL_law 1365 = .ok (.iload 5, 2) := dk_21 5 (dk_at dksL_law_53 16 rfl rfl)
theorem dL_law_1367 : decode cL_law 1367 = .ok (.iconst 1, 1) := dk_4 (dk_at dksL_law_53 18 rfl rfl)
theorem dL_law_1368 : decode cL_law 1368 = .ok (.iadd, 1) := dk_96 (dk_at dksL_law_53 19 rfl rfl)
theorem dL_law_1369 : decode cL_law 1369 = .ok (.iaload, 1) := dk_46 (dk_at dksL_law_53 20 rfl rfl)
theorem dL_law_1370 : decode cL_law 1370 = .ok (.invokevirtual 181, 3) := dk_182 0 181 (dk_at dksL_law_53 21 rfl rfl)
theorem dL_law_1373 : decode cL_law 1373 = .ok (.istore 7, 2) := dk_54 7 (dk_at dksL_law_54 0 rfl rfl)
theorem dL_law_1375 : decode cL_law 1375 = .ok (.aload_n 2, 1) := dk_44 (dk_at dksL_law_54 2 rfl rfl)
theorem dL_law_1376 : decode cL_law 1376 = .ok (.invokevirtual 103, 3) := dk_182 0 103 (dk_at dksL_law_54 3 rfl rfl)
theorem dL_law_1379 : decode cL_law 1379 = .ok (.iload 6, 2) := dk_21 6 (dk_at dksL_law_54 6 rfl rfl)
theorem dL_law_1381 : decode cL_law 1381 = .ok (.if_icmp .eq 5, 3) := dk_159 0 5 (dk_at dksL_law_54 8 rfl rfl)
theorem dL_law_1384 : decode cL_law 1384 = .ok (.iconst 0, 1) := dk_3 (dk_at dksL_law_54 11 rfl rfl)
theorem dL_law_1385 : decode cL_law 1385 = .ok (.ireturn, 1) := dk_172 (dk_at dksL_law_54 12 rfl rfl)
theorem dL_law_1386 : decode cL_law 1386 = .ok (.iload 6, 2) := dk_21 6 (dk_at dksL_law_54 13 rfl rfl)
theorem dL_law_1388 : decode cL_law 1388 = .ok (.ifCond .ne 15, 3) := dk_154 0 15 (dk_at dksL_law_54 15 rfl rfl)
theorem dL_law_1391 : decode cL_law 1391 = .ok (.aload_n 3, 1) := dk_45 (dk_at dksL_law_54 18 rfl rfl)
theorem dL_law_1392 : decode cL_law 1392 = .ok (.iconst 0, 1) := dk_3 (dk_at dksL_law_54 19 rfl rfl)
theorem dL_law_1393 : decode cL_law 1393 = .ok (.laload, 1) := dk_47 (dk_at dksL_law_54 20 rfl rfl)
theorem dL_law_1394 : decode cL_law 1394 = .ok (.iload 7, 2) := dk_21 7 (dk_at dksL_law_54 21 rfl rfl)
theorem dL_law_1396 : decode cL_law 1396 = .ok (.i2l, 1) := dk_133 (dk_at dksL_law_54 23 rfl rfl)
theorem dL_law_1397 : decode cL_law 1397 = .ok (.lcmp, 1) := dk_148 (dk_at dksL_law_55 0 rfl rfl)
theorem dL_law_1398 : decode cL_law 1398 = .ok (.ifCond .eq 5, 3) := dk_153 0 5 (dk_at dksL_law_55 1 rfl rfl)
theorem dL_law_1401 : decode cL_law 1401 = .ok (.iconst 0, 1) := dk_3 (dk_at dksL_law_55 4 rfl rfl)
theorem dL_law_1402 : decode cL_law 1402 = .ok (.ireturn, 1) := dk_172 (dk_at dksL_law_55 5 rfl rfl)
theorem dL_law_1403 : decode cL_law 1403 = .ok (.goto 331, 3) := dk_167 1 75 (dk_at dksL_law_55 6 rfl rfl)
theorem dL_law_1406 : decode cL_law 1406 = .ok (.aload_n 1, 1) := dk_43 (dk_at dksL_law_55 9 rfl rfl)
theorem dL_law_1407 : decode cL_law 1407 = .ok (.aload_n 0, 1) := dk_42 (dk_at dksL_law_55 10 rfl rfl)
theorem dL_law_1408 : decode cL_law 1408 = .ok (.iload 5, 2) := dk_21 5 (dk_at dksL_law_55 11 rfl rfl)
theorem dL_law_1410 : decode cL_law 1410 = .ok (.iconst 1, 1) := dk_4 (dk_at dksL_law_55 13 rfl rfl)
theorem dL_law_1411 : decode cL_law 1411 = .ok (.iadd, 1) := dk_96 (dk_at dksL_law_55 14 rfl rfl)
theorem dL_law_1412 : decode cL_law 1412 = .ok (.iaload, 1) := dk_46 (dk_at dksL_law_55 15 rfl rfl)
theorem dL_law_1413 : decode cL_law 1413 = .ok (.aload_n 3, 1) := dk_45 (dk_at dksL_law_55 16 rfl rfl)
theorem dL_law_1414 : decode cL_law 1414 = .ok (.invokestatic 182, 3) := dk_184 0 182 (dk_at dksL_law_55 17 rfl rfl)
theorem dL_law_1417 : decode cL_law 1417 = .ok (.istore 6, 2) := dk_54 6 (dk_at dksL_law_55 20 rfl rfl)
theorem dL_law_1419 : decode cL_law 1419 = .ok (.aload_n 2, 1) := dk_44 (dk_at dksL_law_55 22 rfl rfl)
theorem dL_law_1420 : decode cL_law 1420 = .ok (.aload_n 0, 1) := dk_42 (dk_at dksL_law_55 23 rfl rfl)
theorem dL_law_1421 : decode cL_law 1421 = .ok (.iload 5, 2) := dk_21 5 (dk_at dksL_law_56 0 rfl rfl)
theorem dL_law_1423 : decode cL_law 1423 = .ok (.iconst 1, 1) := dk_4 (dk_at dksL_law_56 2 rfl rfl)
theorem dL_law_1424 : decode cL_law 1424 = .ok (.iadd, 1) := dk_96 (dk_at dksL_law_56 3 rfl rfl)
theorem dL_law_1425 : decode cL_law 1425 = .ok (.iaload, 1) := dk_46 (dk_at dksL_law_56 4 rfl rfl)
theorem dL_law_1426 : decode cL_law 1426 = .ok (.invokevirtual 184, 3) := dk_182 0 184 (dk_at dksL_law_56 5 rfl rfl)
theorem dL_law_1429 : decode cL_law 1429 = .ok (.istore 7, 2) := dk_54 7 (dk_at dksL_law_56 8 rfl rfl)
theorem dL_law_1431 : decode cL_law 1431 = .ok (.aload_n 2, 1) := dk_44 (dk_at dksL_law_56 10 rfl rfl)
theorem dL_law_1432 : decode cL_law 1432 = .ok (.invokevirtual 103, 3) := dk_182 0 103 (dk_at dksL_law_56 11 rfl rfl)
theorem dL_law_1435 : decode cL_law 1435 = .ok (.iload 6, 2) := dk_21 6 (dk_at dksL_law_56 14 rfl rfl)
theorem dL_law_1437 : decode cL_law 1437 = .ok (.if_icmp .eq 5, 3) := dk_159 0 5 (dk_at dksL_law_56 16 rfl rfl)
theorem dL_law_1440 : decode cL_law 1440 = .ok (.iconst 0, 1) := dk_3 (dk_at dksL_law_56 19 rfl rfl)
theorem dL_law_1441 : decode cL_law 1441 = .ok (.ireturn, 1) := dk_172 (dk_at dksL_law_56 20 rfl rfl)
theorem dL_law_1442 : decode cL_law 1442 = .ok (.iload 6, 2) := dk_21 6 (dk_at dksL_law_56 21 rfl rfl)
theorem dL_law_1444 : decode cL_law 1444 = .ok (.ifCond .ne 15, 3) := dk_154 0 15 (dk_at dksL_law_57 0 rfl rfl)
theorem dL_law_1447 : decode cL_law 1447 = .ok (.aload_n 3, 1) := dk_45 (dk_at dksL_law_57 3 rfl rfl)
theorem dL_law_1448 : decode cL_law 1448 = .ok (.iconst 0, 1) := dk_3 (dk_at dksL_law_57 4 rfl rfl)
theorem dL_law_1449 : decode cL_law 1449 = .ok (.laload, 1) := dk_47 (dk_at dksL_law_57 5 rfl rfl)
theorem dL_law_1450 : decode cL_law 1450 = .ok (.iload 7, 2) := dk_21 7 (dk_at dksL_law_57 6 rfl rfl)
theorem dL_law_1452 : decode cL_law 1452 = .ok (.i2l, 1) := dk_133 (dk_at dksL_law_57 8 rfl rfl)
theorem dL_law_1453 : decode cL_law 1453 = .ok (.lcmp, 1) := dk_148 (dk_at dksL_law_57 9 rfl rfl)
theorem dL_law_1454 : decode cL_law 1454 = .ok (.ifCond .eq 5, 3) := dk_153 0 5 (dk_at dksL_law_57 10 rfl rfl)
theorem dL_law_1457 : decode cL_law 1457 = .ok (.iconst 0, 1) := dk_3 (dk_at dksL_law_57 13 rfl rfl)
theorem dL_law_1458 : decode cL_law 1458 = .ok (.ireturn, 1) := dk_172 (dk_at dksL_law_57 14 rfl rfl)
theorem dL_law_1459 : decode cL_law 1459 = .ok (.goto 275, 3) := dk_167 1 19 (dk_at dksL_law_57 15 rfl rfl)
theorem dL_law_1462 : decode cL_law 1462 = .ok (.aload_n 1, 1) := dk_43 (dk_at dksL_law_57 18 rfl rfl)
theorem dL_law_1463 : decode cL_law 1463 = .ok (.aload_n 0, 1) := dk_42 (dk_at dksL_law_57 19 rfl rfl)
theorem dL_law_1464 : decode cL_law 1464 = .ok (.iload 5, 2) := dk_21 5 (dk_at dksL_law_57 20 rfl rfl)
theorem dL_law_1466 : decode cL_law 1466 = .ok (.iconst 1, 1) := dk_4 (dk_at dksL_law_57 22 rfl rfl)
theorem dL_law_1467 : decode cL_law 1467 = .ok (.iadd, 1) := dk_96 (dk_at dksL_law_57 23 rfl rfl)
theorem dL_law_1468 : decode cL_law 1468 = .ok (.iaload, 1) := dk_46 (dk_at dksL_law_58 0 rfl rfl)
theorem dL_law_1469 : decode cL_law 1469 = .ok (.aload_n 3, 1) := dk_45 (dk_at dksL_law_58 1 rfl rfl)
theorem dL_law_1470 : decode cL_law 1470 = .ok (.invokestatic 185, 3) := dk_184 0 185 (dk_at dksL_law_58 2 rfl rfl)
theorem dL_law_1473 : decode cL_law 1473 = .ok (.istore 6, 2) := dk_54 6 (dk_at dksL_law_58 5 rfl rfl)
theorem dL_law_1475 : decode cL_law 1475 = .ok (.aload_n 2, 1) := dk_44 (dk_at dksL_law_58 7 rfl rfl)
theorem dL_law_1476 : decode cL_law 1476 = .ok (.aload_n 0, 1) := dk_42 (dk_at dksL_law_58 8 rfl rfl)
theorem dL_law_1477 : decode cL_law 1477 = .ok (.iload 5, 2) := dk_21 5 (dk_at dksL_law_58 9 rfl rfl)
theorem dL_law_1479 : decode cL_law 1479 = .ok (.iconst 1, 1) := dk_4 (dk_at dksL_law_58 11 rfl rfl)
theorem dL_law_1480 : decode cL_law 1480 = .ok (.iadd, 1) := dk_96 (dk_at dksL_law_58 12 rfl rfl)
theorem dL_law_1481 : decode cL_law 1481 = .ok (.iaload, 1) := dk_46 (dk_at dksL_law_58 13 rfl rfl)
theorem dL_law_1482 : decode cL_law 1482 = .ok (.invokevirtual 187, 3) := dk_182 0 187 (dk_at dksL_law_58 14 rfl rfl)
theorem dL_law_1485 : decode cL_law 1485 = .ok (.istore 7, 2) := dk_54 7 (dk_at dksL_law_58 17 rfl rfl)
theorem dL_law_1487 : decode cL_law 1487 = .ok (.aload_n 2, 1) := dk_44 (dk_at dksL_law_58 19 rfl rfl)
theorem dL_law_1488 : decode cL_law 1488 = .ok (.invokevirtual 103, 3) := dk_182 0 103 (dk_at dksL_law_58 20 rfl rfl)
theorem dL_law_1491 : decode cL_law 1491 = .ok (.iload 6, 2) := dk_21 6 (dk_at dksL_law_59 0 rfl rfl)
theorem dL_law_1493 : decode cL_law 1493 = .ok (.if_icmp .eq 5, 3) := dk_159 0 5 (dk_at dksL_law_59 2 rfl rfl)
theorem dL_law_1496 : decode cL_law 1496 = .ok (.iconst 0, 1) := dk_3 (dk_at dksL_law_59 5 rfl rfl)
theorem dL_law_1497 : decode cL_law 1497 = .ok (.ireturn, 1) := dk_172 (dk_at dksL_law_59 6 rfl rfl)
theorem dL_law_1498 : decode cL_law 1498 = .ok (.iload 6, 2) := dk_21 6 (dk_at dksL_law_59 7 rfl rfl)
theorem dL_law_1500 : decode cL_law 1500 = .ok (.ifCond .ne 15, 3) := dk_154 0 15 (dk_at dksL_law_59 9 rfl rfl)
theorem dL_law_1503 : decode cL_law 1503 = .ok (.aload_n 3, 1) := dk_45 (dk_at dksL_law_59 12 rfl rfl)
theorem dL_law_1504 : decode cL_law 1504 = .ok (.iconst 0, 1) := dk_3 (dk_at dksL_law_59 13 rfl rfl)
theorem dL_law_1505 : decode cL_law 1505 = .ok (.laload, 1) := dk_47 (dk_at dksL_law_59 14 rfl rfl)
theorem dL_law_1506 : decode cL_law 1506 = .ok (.iload 7, 2) := dk_21 7 (dk_at dksL_law_59 15 rfl rfl)
theorem dL_law_1508 : decode cL_law 1508 = .ok (.i2l, 1) := dk_133 (dk_at dksL_law_59 17 rfl rfl)
theorem dL_law_1509 : decode cL_law 1509 = .ok (.lcmp, 1) := dk_148 (dk_at dksL_law_59 18 rfl rfl)
theorem dL_law_1510 : decode cL_law 1510 = .ok (.ifCond .eq 5, 3) := dk_153 0 5 (dk_at dksL_law_59 19 rfl rfl)
theorem dL_law_1513 : decode cL_law 1513 = .ok (.iconst 0, 1) := dk_3 (dk_at dksL_law_59 22 rfl rfl)
theorem dL_law_1514 : decode cL_law 1514 = .ok (.ireturn, 1) := dk_172 (dk_at dksL_law_59 23 rfl rfl)
theorem dL_law_1515 : decode cL_law 1515 = .ok (.goto 219, 3) := dk_167 0 219 (dk_at dksL_law_60 0 rfl rfl)
theorem dL_law_1518 : decode cL_law 1518 = .ok (.aload_n 1, 1) := dk_43 (dk_at dksL_law_60 3 rfl rfl)
theorem dL_law_1519 : decode cL_law 1519 = .ok (.invokevirtual 188, 3) := dk_182 0 188 (dk_at dksL_law_60 4 rfl rfl)
theorem dL_law_1522 : decode cL_law 1522 = .ok (.aload_n 2, 1) := dk_44 (dk_at dksL_law_60 7 rfl rfl)
theorem dL_law_1523 : decode cL_law 1523 = .ok (.invokevirtual 192, 3) := dk_182 0 192 (dk_at dksL_law_60 8 rfl rfl)
theorem dL_law_1526 : decode cL_law 1526 = .ok (.lcmp, 1) := dk_148 (dk_at dksL_law_60 11 rfl rfl)
theorem dL_law_1527 : decode cL_law 1527 = .ok (.ifCond .eq 207, 3) := dk_153 0 207 (dk_at dksL_law_60 12 rfl rfl)
theorem dL_law_1530 : decode cL_law 1530 = .ok (.iconst 0, 1) := dk_3 (dk_at dksL_law_60 15 rfl rfl)
theorem dL_law_1531 : decode cL_law 1531 = .ok (.ireturn, 1) := dk_172 (dk_at dksL_law_60 16 rfl rfl)
theorem dL_law_1532 : decode cL_law 1532 = .ok (.aload_n 1, 1) := dk_43 (dk_at dksL_law_60 17 rfl rfl)
theorem dL_law_1533 : decode cL_law 1533 = .ok (.aload_n 0, 1) := dk_42 (dk_at dksL_law_60 18 rfl rfl)
theorem dL_law_1534 : decode cL_law 1534 = .ok (.iload 5, 2) := dk_21 5 (dk_at dksL_law_60 19 rfl rfl)
theorem dL_law_1536 : decode cL_law 1536 = .ok (.iconst 1, 1) := dk_4 (dk_at dksL_law_60 21 rfl rfl)
theorem dL_law_1537 : decode cL_law 1537 = .ok (.iadd, 1) := dk_96 (dk_at dksL_law_60 22 rfl rfl)
theorem dL_law_1538 : decode cL_law 1538 = .ok (.iaload, 1) := dk_46 (dk_at dksL_law_60 23 rfl rfl)
theorem dL_law_1539 : decode cL_law 1539 = .ok (.i2c, 1) := dk_146 (dk_at dksL_law_61 0 rfl rfl)
theorem dL_law_1540 : decode cL_law 1540 = .ok (.aload_n 3, 1) := dk_45 (dk_at dksL_law_61 1 rfl rfl)
theorem dL_law_1541 : decode cL_law 1541 = .ok (.invokestatic 193, 3) := dk_184 0 193 (dk_at dksL_law_61 2 rfl rfl)
theorem dL_law_1544 : decode cL_law 1544 = .ok (.istore 6, 2) := dk_54 6 (dk_at dksL_law_61 5 rfl rfl)
theorem dL_law_1546 : decode cL_law 1546 = .ok (.aload_n 2, 1) := dk_44 (dk_at dksL_law_61 7 rfl rfl)
theorem dL_law_1547 : decode cL_law 1547 = .ok (.aload_n 0, 1) := dk_42 (dk_at dksL_law_61 8 rfl rfl)
theorem dL_law_1548 : decode cL_law 1548 = .ok (.iload 5, 2) := dk_21 5 (dk_at dksL_law_61 9 rfl rfl)
theorem dL_law_1550 : decode cL_law 1550 = .ok (.iconst 1, 1) := dk_4 (dk_at dksL_law_61 11 rfl rfl)
theorem dL_law_1551 : decode cL_law 1551 = .ok (.iadd, 1) := dk_96 (dk_at dksL_law_61 12 rfl rfl)
theorem dL_law_1552 : decode cL_law 1552 = .ok (.iaload, 1) := dk_46 (dk_at dksL_law_61 13 rfl rfl)
theorem dL_law_1553 : decode cL_law 1553 = .ok (.i2c, 1) := dk_146 (dk_at dksL_law_61 14 rfl rfl)
theorem dL_law_1554 : decode cL_law 1554 = .ok (.invokevirtual 196, 3) := dk_182 0 196 (dk_at dksL_law_61 15 rfl rfl)
theorem dL_law_1557 : decode cL_law 1557 = .ok (.istore 7, 2) := dk_54 7 (dk_at dksL_law_61 18 rfl rfl)
theorem dL_law_1559 : decode cL_law 1559 = .ok (.aload_n 2, 1) := dk_44 (dk_at dksL_law_61 20 rfl rfl)
theorem dL_law_1560 : decode cL_law 1560 = .ok (.invokevirtual 103, 3) := dk_182 0 103 (dk_at dksL_law_61 21 rfl rfl)
theorem dL_law_1563 : decode cL_law 1563 = .ok (.iload 6, 2) := dk_21 6 (dk_at dksL_law_62 0 rfl rfl)
theorem dL_law_1565 : decode cL_law 1565 = .ok (.if_icmp .eq 5, 3) := dk_159 0 5 (dk_at dksL_law_62 2 rfl rfl)
theorem dL_law_1568 : decode cL_law 1568 = .ok (.iconst 0, 1) := dk_3 (dk_at dksL_law_62 5 rfl rfl)
theorem dL_law_1569 : decode cL_law 1569 = .ok (.ireturn, 1) := dk_172 (dk_at dksL_law_62 6 rfl rfl)
theorem dL_law_1570 : decode cL_law 1570 = .ok (.iload 6, 2) := dk_21 6 (dk_at dksL_law_62 7 rfl rfl)
theorem dL_law_1572 : decode cL_law 1572 = .ok (.ifCond .ne 15, 3) := dk_154 0 15 (dk_at dksL_law_62 9 rfl rfl)
theorem dL_law_1575 : decode cL_law 1575 = .ok (.aload_n 3, 1) := dk_45 (dk_at dksL_law_62 12 rfl rfl)
theorem dL_law_1576 : decode cL_law 1576 = .ok (.iconst 0, 1) := dk_3 (dk_at dksL_law_62 13 rfl rfl)
theorem dL_law_1577 : decode cL_law 1577 = .ok (.laload, 1) := dk_47 (dk_at dksL_law_62 14 rfl rfl)
theorem dL_law_1578 : decode cL_law 1578 = .ok (.iload 7, 2) := dk_21 7 (dk_at dksL_law_62 15 rfl rfl)
theorem dL_law_1580 : decode cL_law 1580 = .ok (.i2l, 1) := dk_133 (dk_at dksL_law_62 17 rfl rfl)
theorem dL_law_1581 : decode cL_law 1581 = .ok (.lcmp, 1) := dk_148 (dk_at dksL_law_62 18 rfl rfl)
theorem dL_law_1582 : decode cL_law 1582 = .ok (.ifCond .eq 5, 3) := dk_153 0 5 (dk_at dksL_law_62 19 rfl rfl)
theorem dL_law_1585 : decode cL_law 1585 = .ok (.iconst 0, 1) := dk_3 (dk_at dksL_law_62 22 rfl rfl)
theorem dL_law_1586 : decode cL_law 1586 = .ok (.ireturn, 1) := dk_172 (dk_at dksL_law_62 23 rfl rfl)
theorem dL_law_1587 : decode cL_law 1587 = .ok (.goto 147, 3) := dk_167 0 147 (dk_at dksL_law_63 0 rfl rfl)
theorem dL_law_1590 : decode cL_law 1590 = .ok (.aload_n 1, 1) := dk_43 (dk_at dksL_law_63 3 rfl rfl)
theorem dL_law_1591 : decode cL_law 1591 = .ok (.aload 4, 2) := dk_25 4 (dk_at dksL_law_63 4 rfl rfl)
theorem dL_law_1593 : decode cL_law 1593 = .ok (.invokestatic 197, 3) := dk_184 0 197 (dk_at dksL_law_63 6 rfl rfl)
theorem dL_law_1596 : decode cL_law 1596 = .ok (.istore 6, 2) := dk_54 6 (dk_at dksL_law_63 9 rfl rfl)
theorem dL_law_1598 : decode cL_law 1598 = .ok (.aload_n 2, 1) := dk_44 (dk_at dksL_law_63 11 rfl rfl)
theorem dL_law_1599 : decode cL_law 1599 = .ok (.invokevirtual 200, 3) := dk_182 0 200 (dk_at dksL_law_63 12 rfl rfl)
theorem dL_law_1602 : decode cL_law 1602 = .ok (.fstore 7, 2) := dk_56 7 (dk_at dksL_law_63 15 rfl rfl)
theorem dL_law_1604 : decode cL_law 1604 = .ok (.aload_n 2, 1) := dk_44 (dk_at dksL_law_63 17 rfl rfl)
theorem dL_law_1605 : decode cL_law 1605 = .ok (.invokevirtual 103, 3) := dk_182 0 103 (dk_at dksL_law_63 18 rfl rfl)
theorem dL_law_1608 : decode cL_law 1608 = .ok (.iload 6, 2) := dk_21 6 (dk_at dksL_law_63 21 rfl rfl)
theorem dL_law_1610 : decode cL_law 1610 = .ok (.if_icmp .eq 5, 3) := dk_159 0 5 (dk_at dksL_law_64 0 rfl rfl)
theorem dL_law_1613 : decode cL_law 1613 = .ok (.iconst 0, 1) := dk_3 (dk_at dksL_law_64 3 rfl rfl)
theorem dL_law_1614 : decode cL_law 1614 = .ok (.ireturn, 1) := dk_172 (dk_at dksL_law_64 4 rfl rfl)
theorem dL_law_1615 : decode cL_law 1615 = .ok (.iload 6, 2) := dk_21 6 (dk_at dksL_law_64 5 rfl rfl)
theorem dL_law_1617 : decode cL_law 1617 = .ok (.ifCond .ne 36, 3) := dk_154 0 36 (dk_at dksL_law_64 7 rfl rfl)
theorem dL_law_1620 : decode cL_law 1620 = .ok (.aload 4, 2) := dk_25 4 (dk_at dksL_law_64 10 rfl rfl)
theorem dL_law_1622 : decode cL_law 1622 = .ok (.iconst 0, 1) := dk_3 (dk_at dksL_law_64 12 rfl rfl)
theorem dL_law_1623 : decode cL_law 1623 = .ok (.daload, 1) := dk_49 (dk_at dksL_law_64 13 rfl rfl)
theorem dL_law_1624 : decode cL_law 1624 = .ok (.fload 7, 2) := dk_23 7 (dk_at dksL_law_64 14 rfl rfl)
theorem dL_law_1626 : decode cL_law 1626 = .ok (.f2d, 1) := dk_141 (dk_at dksL_law_64 16 rfl rfl)
theorem dL_law_1627 : decode cL_law 1627 = .ok (.dcmp .l, 1) := dk_151 (dk_at dksL_law_64 17 rfl rfl)
theorem dL_law_1628 : decode cL_law 1628 = .ok (.ifCond .eq 25, 3) := dk_153 0 25 (dk_at dksL_law_64 18 rfl rfl)
theorem dL_law_1631 : decode cL_law 1631 = .ok (.aload 4, 2) := dk_25 4 (dk_at dksL_law_64 21 rfl rfl)
theorem dL_law_1633 : decode cL_law 1633 = .ok (.iconst 0, 1) := dk_3 (dk_at dksL_law_64 23 rfl rfl)
theorem dL_law_1634 : decode cL_law 1634 = .ok (.daload, 1) := dk_49 (dk_at dksL_law_65 0 rfl rfl)
theorem dL_law_1635 : decode cL_law 1635 = .ok (.aload 4, 2) := dk_25 4 (dk_at dksL_law_65 1 rfl rfl)
theorem dL_law_1637 : decode cL_law 1637 = .ok (.iconst 0, 1) := dk_3 (dk_at dksL_law_65 3 rfl rfl)
theorem dL_law_1638 : decode cL_law 1638 = .ok (.daload, 1) := dk_49 (dk_at dksL_law_65 4 rfl rfl)
theorem dL_law_1639 : decode cL_law 1639 = .ok (.dcmp .l, 1) := dk_151 (dk_at dksL_law_65 5 rfl rfl)
theorem dL_law_1640 : decode cL_law 1640 = .ok (.ifCond .eq 11, 3) := dk_153 0 11 (dk_at dksL_law_65 6 rfl rfl)
theorem dL_law_1643 : decode cL_law 1643 = .ok (.fload 7, 2) := dk_23 7 (dk_at dksL_law_65 9 rfl rfl)
theorem dL_law_1645 : decode cL_law 1645 = .ok (.fload 7, 2) := dk_23 7 (dk_at dksL_law_65 11 rfl rfl)
theorem dL_law_1647 : decode cL_law 1647 = .ok (.fcmp .l, 1) := dk_149 (dk_at dksL_law_65 13 rfl rfl)
theorem dL_law_1648 : decode cL_law 1648 = .ok (.ifCond .ne 5, 3) := dk_154 0 5 (dk_at dksL_law_65 14 rfl rfl)
theorem dL_law_1651 : decode cL_law 1651 = .ok (.iconst 0, 1) := dk_3 (dk_at dksL_law_65 17 rfl rfl)
theorem dL_law_1652 : decode cL_law 1652 = .ok (.ireturn, 1) := dk_172 (dk_at dksL_law_65 18 rfl rfl)
theorem dL_law_1653 : decode cL_law 1653 = .ok (.goto 81, 3) := dk_167 0 81 (dk_at dksL_law_65 19 rfl rfl)
theorem dL_law_1656 : decode cL_law 1656 = .ok (.aload_n 1, 1) := dk_43 (dk_at dksL_law_65 22 rfl rfl)
theorem dL_law_1657 : decode cL_law 1657 = .ok (.aload 4, 2) := dk_25 4 (dk_at dksL_law_66 0 rfl rfl)
theorem dL_law_1659 : decode cL_law 1659 = .ok (.invokestatic 201, 3) := dk_184 0 201 (dk_at dksL_law_66 2 rfl rfl)
theorem dL_law_1662 : decode cL_law 1662 = .ok (.istore 6, 2) := dk_54 6 (dk_at dksL_law_66 5 rfl rfl)
theorem dL_law_1664 : decode cL_law 1664 = .ok (.aload_n 2, 1) := dk_44 (dk_at dksL_law_66 7 rfl rfl)
theorem dL_law_1665 : decode cL_law 1665 = .ok (.invokevirtual 203, 3) := dk_182 0 203 (dk_at dksL_law_66 8 rfl rfl)
theorem dL_law_1668 : decode cL_law 1668 = .ok (.dstore 7, 2) := dk_57 7 (dk_at dksL_law_66 11 rfl rfl)
theorem dL_law_1670 : decode cL_law 1670 = .ok (.aload_n 2, 1) := dk_44 (dk_at dksL_law_66 13 rfl rfl)
theorem dL_law_1671 : decode cL_law 1671 = .ok (.invokevirtual 103, 3) := dk_182 0 103 (dk_at dksL_law_66 14 rfl rfl)
theorem dL_law_1674 : decode cL_law 1674 = .ok (.iload 6, 2) := dk_21 6 (dk_at dksL_law_66 17 rfl rfl)
theorem dL_law_1676 : decode cL_law 1676 = .ok (.if_icmp .eq 5, 3) := dk_159 0 5 (dk_at dksL_law_66 19 rfl rfl)
theorem dL_law_1679 : decode cL_law 1679 = .ok (.iconst 0, 1) := dk_3 (dk_at dksL_law_66 22 rfl rfl)
theorem dL_law_1680 : decode cL_law 1680 = .ok (.ireturn, 1) := dk_172 (dk_at dksL_law_66 23 rfl rfl)
theorem dL_law_1681 : decode cL_law 1681 = .ok (.iload 6, 2) := dk_21 6 (dk_at dksL_law_67 0 rfl rfl)
theorem dL_law_1683 : decode cL_law 1683 = .ok (.ifCond .ne 35, 3) := dk_154 0 35 (dk_at dksL_law_67 2 rfl rfl)
theorem dL_law_1686 : decode cL_law 1686 = .ok (.aload 4, 2) := dk_25 4 (dk_at dksL_law_67 5 rfl rfl)
theorem dL_law_1688 : decode cL_law 1688 = .ok (.iconst 0, 1) := dk_3 (dk_at dksL_law_67 7 rfl rfl)
theorem dL_law_1689 : decode cL_law 1689 = .ok (.daload, 1) := dk_49 (dk_at dksL_law_67 8 rfl rfl)
theorem dL_law_1690 : decode cL_law 1690 = .ok (.dload 7, 2) := dk_24 7 (dk_at dksL_law_67 9 rfl rfl)
theorem dL_law_1692 : decode cL_law 1692 = .ok (.dcmp .l, 1) := dk_151 (dk_at dksL_law_67 11 rfl rfl)
theorem dL_law_1693 : decode cL_law 1693 = .ok (.ifCond .eq 25, 3) := dk_153 0 25 (dk_at dksL_law_67 12 rfl rfl)
theorem dL_law_1696 : decode cL_law 1696 = .ok (.aload 4, 2) := dk_25 4 (dk_at dksL_law_67 15 rfl rfl)
theorem dL_law_1698 : decode cL_law 1698 = .ok (.iconst 0, 1) := dk_3 (dk_at dksL_law_67 17 rfl rfl)
theorem dL_law_1699 : decode cL_law 1699 = .ok (.daload, 1) := dk_49 (dk_at dksL_law_67 18 rfl rfl)
theorem dL_law_1700 : decode cL_law 1700 = .ok (.aload 4, 2) := dk_25 4 (dk_at dksL_law_67 19 rfl rfl)
theorem dL_law_1702 : decode cL_law 1702 = .ok (.iconst 0, 1) := dk_3 (dk_at dksL_law_67 21 rfl rfl)
theorem dL_law_1703 : decode cL_law 1703 = .ok (.daload, 1) := dk_49 (dk_at dksL_law_67 22 rfl rfl)
theorem dL_law_1704 : decode cL_law 1704 = .ok (.dcmp .l, 1) := dk_151 (dk_at dksL_law_67 23 rfl rfl)
theorem dL_law_1705 : decode cL_law 1705 = .ok (.ifCond .eq 11, 3) := dk_153 0 11 (dk_at dksL_law_68 0 rfl rfl)
theorem dL_law_1708 : decode cL_law 1708 = .ok (.dload 7, 2) := dk_24 7 (dk_at dksL_law_68 3 rfl rfl)
theorem dL_law_1710 : decode cL_law 1710 = .ok (.dload 7, 2) := dk_24 7 (dk_at dksL_law_68 5 rfl rfl)
theorem dL_law_1712 : decode cL_law 1712 = .ok (.dcmp .l, 1) := dk_151 (dk_at dksL_law_68 7 rfl rfl)
theorem dL_law_1713 : decode cL_law 1713 = .ok (.ifCond .ne 5, 3) := dk_154 0 5 (dk_at dksL_law_68 8 rfl rfl)
theorem dL_law_1716 : decode cL_law 1716 = .ok (.iconst 0, 1) := dk_3 (dk_at dksL_law_68 11 rfl rfl)
theorem dL_law_1717 : decode cL_law 1717 = .ok (.ireturn, 1) := dk_172 (dk_at dksL_law_68 12 rfl rfl)
theorem dL_law_1718 : decode cL_law 1718 = .ok (.goto 16, 3) := dk_167 0 16 (dk_at dksL_law_68 13 rfl rfl)
theorem dL_law_1721 : decode cL_law 1721 = .ok (.aload_n 1, 1) := dk_43 (dk_at dksL_law_68 16 rfl rfl)
theorem dL_law_1722 : decode cL_law 1722 = .ok (.invokevirtual 204, 3) := dk_182 0 204 (dk_at dksL_law_68 17 rfl rfl)
theorem dL_law_1725 : decode cL_law 1725 = .ok (.aload_n 2, 1) := dk_44 (dk_at dksL_law_68 20 rfl rfl)
theorem dL_law_1726 : decode cL_law 1726 = .ok (.invokevirtual 207, 3) := dk_182 0 207 (dk_at dksL_law_68 21 rfl rfl)
theorem dL_law_1729 : decode cL_law 1729 = .ok (.if_icmp .eq 5, 3) := dk_159 0 5 (dk_at dksL_law_69 0 rfl rfl)
theorem dL_law_1732 : decode cL_law 1732 = .ok (.iconst 0, 1) := dk_3 (dk_at dksL_law_69 3 rfl rfl)
theorem dL_law_1733 : decode cL_law 1733 = .ok (.ireturn, 1) := dk_172 (dk_at dksL_law_69 4 rfl rfl)
theorem dL_law_1734 : decode cL_law 1734 = .ok (.iinc 5 6, 3) := dk_132 5 6 (dk_at dksL_law_69 5 rfl rfl)
theorem dL_law_1737 : decode cL_law 1737 = .ok (.goto (-1709), 3) := dk_167 249 83 (dk_at dksL_law_69 8 rfl rfl)
theorem dL_law_1740 : decode cL_law 1740 = .ok (.iconst 1, 1) := dk_4 (dk_at dksL_law_69 11 rfl rfl)
theorem dL_law_1741 : decode cL_law 1741 = .ok (.ireturn, 1) := dk_172 (dk_at dksL_law_69 12 rfl rfl)
