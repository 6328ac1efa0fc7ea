-- ===== PART A: goes FIRST, ahead of the names: the tables' words, and 'selects' of the private methods out of them =====
/-- a private method of a class that the tables say can be made, by its rows of tables_1 -/
def lw_okq (q : MethodName × Nat) : Prop := (q.1.cls ≠ "java/lang/invoke/MethodHandle" ∧ q.1.cls ≠ "java/lang/invoke/VarHandle") ∧ Cond.instantiable q.1.cls q.2 ∈ tables_1 ∧ Cond.privateMethod q.1 ∈ tables_1 ∧ Cond.instanceMethod q.1 ∈ tables_1
set_option maxRecDepth 100000
theorem lw_t1 {w : Cond} (h : w ∈ tables_1_1) : w ∈ tables_1 := List.mem_append_left _ h
theorem lw_t2 {w : Cond} (h : w ∈ tables_1_2) : w ∈ tables_1 := List.mem_append_right _ (List.mem_append_left _ h)
theorem lw_t3 {w : Cond} (h : w ∈ tables_1_3) : w ∈ tables_1 := List.mem_append_right _ (List.mem_append_right _ (List.mem_append_left _ h))
theorem lw_t4 {w : Cond} (h : w ∈ tables_1_4) : w ∈ tables_1 := List.mem_append_right _ (List.mem_append_right _ (List.mem_append_right _ (List.mem_append_left _ h)))
theorem lw_t5 {w : Cond} (h : w ∈ tables_1_5) : w ∈ tables_1 := List.mem_append_right _ (List.mem_append_right _ (List.mem_append_right _ (List.mem_append_right _ (List.mem_append_left _ h))))
theorem lw_t6 {w : Cond} (h : w ∈ tables_1_6) : w ∈ tables_1 := List.mem_append_right _ (List.mem_append_right _ (List.mem_append_right _ (List.mem_append_right _ (List.mem_append_right _ (List.mem_append_left _ h)))))
theorem lw_t7 {w : Cond} (h : w ∈ tables_1_7) : w ∈ tables_1 := List.mem_append_right _ (List.mem_append_right _ (List.mem_append_right _ (List.mem_append_right _ (List.mem_append_right _ (List.mem_append_right _ (List.mem_append_left _ h))))))
theorem lw_t8 {w : Cond} (h : w ∈ tables_1_8) : w ∈ tables_1 := List.mem_append_right _ (List.mem_append_right _ (List.mem_append_right _ (List.mem_append_right _ (List.mem_append_right _ (List.mem_append_right _ (List.mem_append_right _ (List.mem_append_left _ h)))))))
theorem lw_t9 {w : Cond} (h : w ∈ tables_1_9) : w ∈ tables_1 := List.mem_append_right _ (List.mem_append_right _ (List.mem_append_right _ (List.mem_append_right _ (List.mem_append_right _ (List.mem_append_right _ (List.mem_append_right _ (List.mem_append_right _ (List.mem_append_left _ h))))))))
theorem lw_t10 {w : Cond} (h : w ∈ tables_1_10) : w ∈ tables_1 := List.mem_append_right _ (List.mem_append_right _ (List.mem_append_right _ (List.mem_append_right _ (List.mem_append_right _ (List.mem_append_right _ (List.mem_append_right _ (List.mem_append_right _ (List.mem_append_right _ (List.mem_append_left _ h)))))))))
theorem lw_t11 {w : Cond} (h : w ∈ tables_1_11) : w ∈ tables_1 := List.mem_append_right _ (List.mem_append_right _ (List.mem_append_right _ (List.mem_append_right _ (List.mem_append_right _ (List.mem_append_right _ (List.mem_append_right _ (List.mem_append_right _ (List.mem_append_right _ (List.mem_append_right _ h)))))))))
theorem lw_p0 : lw_okq (⟨"Weaversgate", "hasRing", "()Z"⟩, 7) := ⟨⟨by decide +kernel, by decide +kernel⟩, lw_t1 (List.mem_of_getElem? (i := 61) rfl), lw_t1 (List.mem_of_getElem? (i := 195) rfl), lw_t1 (List.mem_of_getElem? (i := 196) rfl)⟩
theorem lw_p1 : lw_okq (⟨"Weaversgate", "aspectOf", "(I)I"⟩, 7) := ⟨⟨by decide +kernel, by decide +kernel⟩, lw_t1 (List.mem_of_getElem? (i := 61) rfl), lw_t1 (List.mem_of_getElem? (i := 199) rfl), lw_t1 (List.mem_of_getElem? (i := 200) rfl)⟩
theorem lw_p2 : lw_okq (⟨"Weaversgate", "countPairs", "(C)I"⟩, 7) := ⟨⟨by decide +kernel, by decide +kernel⟩, lw_t1 (List.mem_of_getElem? (i := 61) rfl), lw_t1 (List.mem_of_getElem? (i := 207) rfl), lw_t1 (List.mem_of_getElem? (i := 208) rfl)⟩
theorem lw_p3 : lw_okq (⟨"Weaversgate", "placesOf", "(LWeaversgate$Type;I)I"⟩, 7) := ⟨⟨by decide +kernel, by decide +kernel⟩, lw_t1 (List.mem_of_getElem? (i := 61) rfl), lw_t1 (List.mem_of_getElem? (i := 230) rfl), lw_t1 (List.mem_of_getElem? (i := 231) rfl)⟩
theorem lw_p4 : lw_okq (⟨"java/lang/Throwable", "fillInStackTrace", "(I)Ljava/lang/Throwable;"⟩, 6) := ⟨⟨by decide +kernel, by decide +kernel⟩, lw_t2 (List.mem_of_getElem? (i := 127) rfl), lw_t2 (List.mem_of_getElem? (i := 125) rfl), lw_t2 (List.mem_of_getElem? (i := 126) rfl)⟩
theorem lw_p5 : lw_okq (⟨"Weaversgate", "placeOf", "(LWeaversgate$Type;II)LWeaversgate$Place;"⟩, 7) := ⟨⟨by decide +kernel, by decide +kernel⟩, lw_t1 (List.mem_of_getElem? (i := 61) rfl), lw_t3 (List.mem_of_getElem? (i := 162) rfl), lw_t3 (List.mem_of_getElem? (i := 163) rfl)⟩
theorem lw_p6 : lw_okq (⟨"Weaversgate", "madePlace", "(LWeaversgate$Type;II)LWeaversgate$Place;"⟩, 7) := ⟨⟨by decide +kernel, by decide +kernel⟩, lw_t1 (List.mem_of_getElem? (i := 61) rfl), lw_t3 (List.mem_of_getElem? (i := 166) rfl), lw_t3 (List.mem_of_getElem? (i := 167) rfl)⟩
theorem lw_p7 : lw_okq (⟨"Weaversgate", "possibleIn", "(LWeaversgate$Type;I)I"⟩, 7) := ⟨⟨by decide +kernel, by decide +kernel⟩, lw_t1 (List.mem_of_getElem? (i := 61) rfl), lw_t3 (List.mem_of_getElem? (i := 170) rfl), lw_t3 (List.mem_of_getElem? (i := 171) rfl)⟩
theorem lw_p8 : lw_okq (⟨"java/util/ArrayList", "add", "(Ljava/lang/Object;[Ljava/lang/Object;I)V"⟩, 3) := ⟨⟨by decide +kernel, by decide +kernel⟩, lw_t1 (List.mem_of_getElem? (i := 69) rfl), lw_t3 (List.mem_of_getElem? (i := 217) rfl), lw_t3 (List.mem_of_getElem? (i := 218) rfl)⟩
theorem lw_p9 : lw_okq (⟨"java/util/ArrayList", "grow", "()[Ljava/lang/Object;"⟩, 3) := ⟨⟨by decide +kernel, by decide +kernel⟩, lw_t1 (List.mem_of_getElem? (i := 69) rfl), lw_t3 (List.mem_of_getElem? (i := 221) rfl), lw_t3 (List.mem_of_getElem? (i := 222) rfl)⟩
theorem lw_p10 : lw_okq (⟨"java/util/ArrayList", "grow", "(I)[Ljava/lang/Object;"⟩, 3) := ⟨⟨by decide +kernel, by decide +kernel⟩, lw_t1 (List.mem_of_getElem? (i := 69) rfl), lw_t3 (List.mem_of_getElem? (i := 225) rfl), lw_t3 (List.mem_of_getElem? (i := 226) rfl)⟩
theorem lw_p11 : lw_okq (⟨"Weaversgate", "countAt", "(LWeaversgate$Place;C)I"⟩, 7) := ⟨⟨by decide +kernel, by decide +kernel⟩, lw_t1 (List.mem_of_getElem? (i := 61) rfl), lw_t4 (List.mem_of_getElem? (i := 47) rfl), lw_t4 (List.mem_of_getElem? (i := 48) rfl)⟩
theorem lw_p12 : lw_okq (⟨"Weaversgate$Run", "order", "()V"⟩, 9) := ⟨⟨by decide +kernel, by decide +kernel⟩, lw_t1 (List.mem_of_getElem? (i := 100) rfl), lw_t4 (List.mem_of_getElem? (i := 167) rfl), lw_t4 (List.mem_of_getElem? (i := 168) rfl)⟩
theorem lw_p13 : lw_okq (⟨"Weaversgate$Run", "call", "(LWeaversgate$Thing;IIILWeaversgate$Place;)I"⟩, 9) := ⟨⟨by decide +kernel, by decide +kernel⟩, lw_t1 (List.mem_of_getElem? (i := 100) rfl), lw_t4 (List.mem_of_getElem? (i := 189) rfl), lw_t4 (List.mem_of_getElem? (i := 190) rfl)⟩
theorem lw_p14 : lw_okq (⟨"Weaversgate$Run", "lambda$call$0", "(LWeaversgate$Thing;II)I"⟩, 9) := ⟨⟨by decide +kernel, by decide +kernel⟩, lw_t1 (List.mem_of_getElem? (i := 100) rfl), lw_t4 (List.mem_of_getElem? (i := 192) rfl), lw_t4 (List.mem_of_getElem? (i := 193) rfl)⟩
theorem lw_p15 : lw_okq (⟨"Weaversgate$Run", "body", "(LWeaversgate$Thing;II)I"⟩, 9) := ⟨⟨by decide +kernel, by decide +kernel⟩, lw_t1 (List.mem_of_getElem? (i := 100) rfl), lw_t4 (List.mem_of_getElem? (i := 196) rfl), lw_t4 (List.mem_of_getElem? (i := 197) rfl)⟩
def lw_privs_1 : List (MethodName × Nat) := [(⟨"Weaversgate", "hasRing", "()Z"⟩, 7), (⟨"Weaversgate", "aspectOf", "(I)I"⟩, 7), (⟨"Weaversgate", "countPairs", "(C)I"⟩, 7), (⟨"Weaversgate", "placesOf", "(LWeaversgate$Type;I)I"⟩, 7), (⟨"java/lang/Throwable", "fillInStackTrace", "(I)Ljava/lang/Throwable;"⟩, 6), (⟨"Weaversgate", "placeOf", "(LWeaversgate$Type;II)LWeaversgate$Place;"⟩, 7), (⟨"Weaversgate", "madePlace", "(LWeaversgate$Type;II)LWeaversgate$Place;"⟩, 7), (⟨"Weaversgate", "possibleIn", "(LWeaversgate$Type;I)I"⟩, 7), (⟨"java/util/ArrayList", "add", "(Ljava/lang/Object;[Ljava/lang/Object;I)V"⟩, 3), (⟨"java/util/ArrayList", "grow", "()[Ljava/lang/Object;"⟩, 3), (⟨"java/util/ArrayList", "grow", "(I)[Ljava/lang/Object;"⟩, 3), (⟨"Weaversgate", "countAt", "(LWeaversgate$Place;C)I"⟩, 7), (⟨"Weaversgate$Run", "order", "()V"⟩, 9), (⟨"Weaversgate$Run", "call", "(LWeaversgate$Thing;IIILWeaversgate$Place;)I"⟩, 9), (⟨"Weaversgate$Run", "lambda$call$0", "(LWeaversgate$Thing;II)I"⟩, 9), (⟨"Weaversgate$Run", "body", "(LWeaversgate$Thing;II)I"⟩, 9)]
theorem lw_r1 : ∀ q ∈ lw_privs_1, lw_okq q := List.forall_mem_cons.mpr ⟨lw_p0, List.forall_mem_cons.mpr ⟨lw_p1, List.forall_mem_cons.mpr ⟨lw_p2, List.forall_mem_cons.mpr ⟨lw_p3, List.forall_mem_cons.mpr ⟨lw_p4, List.forall_mem_cons.mpr ⟨lw_p5, List.forall_mem_cons.mpr ⟨lw_p6, List.forall_mem_cons.mpr ⟨lw_p7, List.forall_mem_cons.mpr ⟨lw_p8, List.forall_mem_cons.mpr ⟨lw_p9, List.forall_mem_cons.mpr ⟨lw_p10, List.forall_mem_cons.mpr ⟨lw_p11, List.forall_mem_cons.mpr ⟨lw_p12, List.forall_mem_cons.mpr ⟨lw_p13, List.forall_mem_cons.mpr ⟨lw_p14, List.forall_mem_cons.mpr ⟨lw_p15, fun _ h => absurd h List.not_mem_nil⟩⟩⟩⟩⟩⟩⟩⟩⟩⟩⟩⟩⟩⟩⟩⟩
theorem lw_p16 : lw_okq (⟨"Weaversgate$Run", "lambda$body$1", "(LWeaversgate$Thing;LWeaversgate$Type;II)I"⟩, 9) := ⟨⟨by decide +kernel, by decide +kernel⟩, lw_t1 (List.mem_of_getElem? (i := 100) rfl), lw_t4 (List.mem_of_getElem? (i := 222) rfl), lw_t4 (List.mem_of_getElem? (i := 223) rfl)⟩
theorem lw_p17 : lw_okq (⟨"Weaversgate$Run", "steps", "(LWeaversgate$Thing;LWeaversgate$Type;II)I"⟩, 9) := ⟨⟨by decide +kernel, by decide +kernel⟩, lw_t1 (List.mem_of_getElem? (i := 100) rfl), lw_t4 (List.mem_of_getElem? (i := 226) rfl), lw_t4 (List.mem_of_getElem? (i := 227) rfl)⟩
theorem lw_p18 : lw_okq (⟨"Weaversgate$Run", "done", "(LWeaversgate$Thing;LWeaversgate$Type;ILWeaversgate$Step;II)I"⟩, 9) := ⟨⟨by decide +kernel, by decide +kernel⟩, lw_t1 (List.mem_of_getElem? (i := 100) rfl), lw_t4 (List.mem_of_getElem? (i := 232) rfl), lw_t4 (List.mem_of_getElem? (i := 233) rfl)⟩
theorem lw_p19 : lw_okq (⟨"Weaversgate$Run", "point", "(CILWeaversgate$Type;ILWeaversgate$Place;ILWeaversgate$Act;)I"⟩, 9) := ⟨⟨by decide +kernel, by decide +kernel⟩, lw_t1 (List.mem_of_getElem? (i := 100) rfl), lw_t5 (List.mem_of_getElem? (i := 9) rfl), lw_t5 (List.mem_of_getElem? (i := 10) rfl)⟩
theorem lw_p20 : lw_okq (⟨"Weaversgate$Run", "chosen", "(LWeaversgate$Point;LWeaversgate$Place;)I"⟩, 9) := ⟨⟨by decide +kernel, by decide +kernel⟩, lw_t1 (List.mem_of_getElem? (i := 100) rfl), lw_t5 (List.mem_of_getElem? (i := 72) rfl), lw_t5 (List.mem_of_getElem? (i := 73) rfl)⟩
theorem lw_p21 : lw_okq (⟨"Weaversgate$Run", "goOn", "(IIILWeaversgate$Act;)I"⟩, 9) := ⟨⟨by decide +kernel, by decide +kernel⟩, lw_t1 (List.mem_of_getElem? (i := 100) rfl), lw_t5 (List.mem_of_getElem? (i := 153) rfl), lw_t5 (List.mem_of_getElem? (i := 154) rfl)⟩
theorem lw_p22 : lw_okq (⟨"Weaversgate$Run", "around", "(LWeaversgate$Advice;IIILWeaversgate$Act;)I"⟩, 9) := ⟨⟨by decide +kernel, by decide +kernel⟩, lw_t1 (List.mem_of_getElem? (i := 100) rfl), lw_t5 (List.mem_of_getElem? (i := 161) rfl), lw_t5 (List.mem_of_getElem? (i := 162) rfl)⟩
theorem lw_p23 : lw_okq (⟨"Weaversgate$Run", "behind", "(LWeaversgate$Advice;IIILWeaversgate$Act;)I"⟩, 9) := ⟨⟨by decide +kernel, by decide +kernel⟩, lw_t1 (List.mem_of_getElem? (i := 100) rfl), lw_t5 (List.mem_of_getElem? (i := 171) rfl), lw_t5 (List.mem_of_getElem? (i := 172) rfl)⟩
theorem lw_p24 : lw_okq (⟨"Weaversgate$Run", "lambda$done$4", "(LWeaversgate$Thing;LWeaversgate$Step;I)I"⟩, 9) := ⟨⟨by decide +kernel, by decide +kernel⟩, lw_t1 (List.mem_of_getElem? (i := 100) rfl), lw_t5 (List.mem_of_getElem? (i := 176) rfl), lw_t5 (List.mem_of_getElem? (i := 177) rfl)⟩
theorem lw_p25 : lw_okq (⟨"Weaversgate$Run", "put", "(LWeaversgate$Thing;II)I"⟩, 9) := ⟨⟨by decide +kernel, by decide +kernel⟩, lw_t1 (List.mem_of_getElem? (i := 100) rfl), lw_t5 (List.mem_of_getElem? (i := 180) rfl), lw_t5 (List.mem_of_getElem? (i := 181) rfl)⟩
theorem lw_p26 : lw_okq (⟨"Weaversgate$Run", "handled", "(LWeaversgate$Thing;LWeaversgate$Type;IILWeaversgate$Thrown;)I"⟩, 9) := ⟨⟨by decide +kernel, by decide +kernel⟩, lw_t1 (List.mem_of_getElem? (i := 100) rfl), lw_t5 (List.mem_of_getElem? (i := 184) rfl), lw_t5 (List.mem_of_getElem? (i := 185) rfl)⟩
theorem lw_p27 : lw_okq (⟨"Weaversgate", "type", "(I)LWeaversgate$Type;"⟩, 7) := ⟨⟨by decide +kernel, by decide +kernel⟩, lw_t1 (List.mem_of_getElem? (i := 61) rfl), lw_t5 (List.mem_of_getElem? (i := 221) rfl), lw_t5 (List.mem_of_getElem? (i := 222) rfl)⟩
theorem lw_p28 : lw_okq (⟨"Weaversgate", "forgetPlaces", "()V"⟩, 7) := ⟨⟨by decide +kernel, by decide +kernel⟩, lw_t1 (List.mem_of_getElem? (i := 61) rfl), lw_t6 (List.mem_of_getElem? (i := 49) rfl), lw_t6 (List.mem_of_getElem? (i := 50) rfl)⟩
theorem lw_p29 : lw_okq (⟨"Weaversgate", "isStepRight", "(CII)Z"⟩, 7) := ⟨⟨by decide +kernel, by decide +kernel⟩, lw_t1 (List.mem_of_getElem? (i := 61) rfl), lw_t6 (List.mem_of_getElem? (i := 76) rfl), lw_t6 (List.mem_of_getElem? (i := 77) rfl)⟩
theorem lw_p30 : lw_okq (⟨"Weaversgate", "made", "(CII)LWeaversgate$Pattern;"⟩, 7) := ⟨⟨by decide +kernel, by decide +kernel⟩, lw_t1 (List.mem_of_getElem? (i := 61) rfl), lw_t6 (List.mem_of_getElem? (i := 126) rfl), lw_t6 (List.mem_of_getElem? (i := 127) rfl)⟩
theorem lw_p31 : lw_okq (⟨"Weaversgate", "pattern", "(I)LWeaversgate$Pattern;"⟩, 7) := ⟨⟨by decide +kernel, by decide +kernel⟩, lw_t1 (List.mem_of_getElem? (i := 61) rfl), lw_t6 (List.mem_of_getElem? (i := 175) rfl), lw_t6 (List.mem_of_getElem? (i := 176) rfl)⟩
def lw_privs_2 : List (MethodName × Nat) := [(⟨"Weaversgate$Run", "lambda$body$1", "(LWeaversgate$Thing;LWeaversgate$Type;II)I"⟩, 9), (⟨"Weaversgate$Run", "steps", "(LWeaversgate$Thing;LWeaversgate$Type;II)I"⟩, 9), (⟨"Weaversgate$Run", "done", "(LWeaversgate$Thing;LWeaversgate$Type;ILWeaversgate$Step;II)I"⟩, 9), (⟨"Weaversgate$Run", "point", "(CILWeaversgate$Type;ILWeaversgate$Place;ILWeaversgate$Act;)I"⟩, 9), (⟨"Weaversgate$Run", "chosen", "(LWeaversgate$Point;LWeaversgate$Place;)I"⟩, 9), (⟨"Weaversgate$Run", "goOn", "(IIILWeaversgate$Act;)I"⟩, 9), (⟨"Weaversgate$Run", "around", "(LWeaversgate$Advice;IIILWeaversgate$Act;)I"⟩, 9), (⟨"Weaversgate$Run", "behind", "(LWeaversgate$Advice;IIILWeaversgate$Act;)I"⟩, 9), (⟨"Weaversgate$Run", "lambda$done$4", "(LWeaversgate$Thing;LWeaversgate$Step;I)I"⟩, 9), (⟨"Weaversgate$Run", "put", "(LWeaversgate$Thing;II)I"⟩, 9), (⟨"Weaversgate$Run", "handled", "(LWeaversgate$Thing;LWeaversgate$Type;IILWeaversgate$Thrown;)I"⟩, 9), (⟨"Weaversgate", "type", "(I)LWeaversgate$Type;"⟩, 7), (⟨"Weaversgate", "forgetPlaces", "()V"⟩, 7), (⟨"Weaversgate", "isStepRight", "(CII)Z"⟩, 7), (⟨"Weaversgate", "made", "(CII)LWeaversgate$Pattern;"⟩, 7), (⟨"Weaversgate", "pattern", "(I)LWeaversgate$Pattern;"⟩, 7)]
theorem lw_r2 : ∀ q ∈ lw_privs_2, lw_okq q := List.forall_mem_cons.mpr ⟨lw_p16, List.forall_mem_cons.mpr ⟨lw_p17, List.forall_mem_cons.mpr ⟨lw_p18, List.forall_mem_cons.mpr ⟨lw_p19, List.forall_mem_cons.mpr ⟨lw_p20, List.forall_mem_cons.mpr ⟨lw_p21, List.forall_mem_cons.mpr ⟨lw_p22, List.forall_mem_cons.mpr ⟨lw_p23, List.forall_mem_cons.mpr ⟨lw_p24, List.forall_mem_cons.mpr ⟨lw_p25, List.forall_mem_cons.mpr ⟨lw_p26, List.forall_mem_cons.mpr ⟨lw_p27, List.forall_mem_cons.mpr ⟨lw_p28, List.forall_mem_cons.mpr ⟨lw_p29, List.forall_mem_cons.mpr ⟨lw_p30, List.forall_mem_cons.mpr ⟨lw_p31, fun _ h => absurd h List.not_mem_nil⟩⟩⟩⟩⟩⟩⟩⟩⟩⟩⟩⟩⟩⟩⟩⟩
theorem lw_p32 : lw_okq (⟨"Weaversgate", "advice", "(I)LWeaversgate$Advice;"⟩, 7) := ⟨⟨by decide +kernel, by decide +kernel⟩, lw_t1 (List.mem_of_getElem? (i := 61) rfl), lw_t7 (List.mem_of_getElem? (i := 78) rfl), lw_t7 (List.mem_of_getElem? (i := 79) rfl)⟩
theorem lw_p33 : lw_okq (⟨"Weaversgate", "runBy", "(IIIZ)C"⟩, 7) := ⟨⟨by decide +kernel, by decide +kernel⟩, lw_t1 (List.mem_of_getElem? (i := 61) rfl), lw_t7 (List.mem_of_getElem? (i := 117) rfl), lw_t7 (List.mem_of_getElem? (i := 118) rfl)⟩
theorem lw_p34 : lw_okq (⟨"Weaversgate", "checkIndex", "(I)V"⟩, 7) := ⟨⟨by decide +kernel, by decide +kernel⟩, lw_t1 (List.mem_of_getElem? (i := 61) rfl), lw_t7 (List.mem_of_getElem? (i := 142) rfl), lw_t7 (List.mem_of_getElem? (i := 143) rfl)⟩
theorem lw_p35 : lw_okq (⟨"WeaversgateModel", "isClass", "(I)Z"⟩, 17) := ⟨⟨by decide +kernel, by decide +kernel⟩, lw_t8 (List.mem_of_getElem? (i := 20) rfl), lw_t8 (List.mem_of_getElem? (i := 133) rfl), lw_t8 (List.mem_of_getElem? (i := 134) rfl)⟩
theorem lw_p36 : lw_okq (⟨"WeaversgateModel", "isStep", "(CII)Z"⟩, 17) := ⟨⟨by decide +kernel, by decide +kernel⟩, lw_t8 (List.mem_of_getElem? (i := 20) rfl), lw_t8 (List.mem_of_getElem? (i := 147) rfl), lw_t8 (List.mem_of_getElem? (i := 148) rfl)⟩
theorem lw_p37 : lw_okq (⟨"WeaversgateModel", "body", "(II)LWeaversgateModel$Body;"⟩, 17) := ⟨⟨by decide +kernel, by decide +kernel⟩, lw_t8 (List.mem_of_getElem? (i := 20) rfl), lw_t8 (List.mem_of_getElem? (i := 151) rfl), lw_t8 (List.mem_of_getElem? (i := 152) rfl)⟩
theorem lw_p38 : lw_okq (⟨"WeaversgateModel", "wrong", "(II)I"⟩, 17) := ⟨⟨by decide +kernel, by decide +kernel⟩, lw_t8 (List.mem_of_getElem? (i := 20) rfl), lw_t8 (List.mem_of_getElem? (i := 185) rfl), lw_t8 (List.mem_of_getElem? (i := 186) rfl)⟩
theorem lw_p39 : lw_okq (⟨"WeaversgateModel", "found", "(II)I"⟩, 17) := ⟨⟨by decide +kernel, by decide +kernel⟩, lw_t8 (List.mem_of_getElem? (i := 20) rfl), lw_t8 (List.mem_of_getElem? (i := 193) rfl), lw_t8 (List.mem_of_getElem? (i := 194) rfl)⟩
theorem lw_p40 : lw_okq (⟨"WeaversgateModel", "arePatterns", "(CII)Z"⟩, 17) := ⟨⟨by decide +kernel, by decide +kernel⟩, lw_t8 (List.mem_of_getElem? (i := 20) rfl), lw_t8 (List.mem_of_getElem? (i := 211) rfl), lw_t8 (List.mem_of_getElem? (i := 212) rfl)⟩
theorem lw_p41 : lw_okq (⟨"WeaversgateModel", "isPattern", "(I)Z"⟩, 17) := ⟨⟨by decide +kernel, by decide +kernel⟩, lw_t8 (List.mem_of_getElem? (i := 20) rfl), lw_t8 (List.mem_of_getElem? (i := 216) rfl), lw_t8 (List.mem_of_getElem? (i := 217) rfl)⟩
theorem lw_p42 : lw_okq (⟨"WeaversgateModel", "isAdvice", "(I)Z"⟩, 17) := ⟨⟨by decide +kernel, by decide +kernel⟩, lw_t8 (List.mem_of_getElem? (i := 20) rfl), lw_t8 (List.mem_of_getElem? (i := 233) rfl), lw_t8 (List.mem_of_getElem? (i := 234) rfl)⟩
theorem lw_p43 : lw_okq (⟨"WeaversgateModel", "checked", "(Z)I"⟩, 17) := ⟨⟨by decide +kernel, by decide +kernel⟩, lw_t8 (List.mem_of_getElem? (i := 20) rfl), lw_t8 (List.mem_of_getElem? (i := 237) rfl), lw_t8 (List.mem_of_getElem? (i := 238) rfl)⟩
theorem lw_p44 : lw_okq (⟨"WeaversgateModel", "order", "()Ljava/util/ArrayList;"⟩, 17) := ⟨⟨by decide +kernel, by decide +kernel⟩, lw_t8 (List.mem_of_getElem? (i := 20) rfl), lw_t9 (List.mem_of_getElem? (i := 9) rfl), lw_t9 (List.mem_of_getElem? (i := 10) rfl)⟩
theorem lw_p45 : lw_okq (⟨"WeaversgateModel", "isNext", "(ILjava/util/ArrayList;)Z"⟩, 17) := ⟨⟨by decide +kernel, by decide +kernel⟩, lw_t8 (List.mem_of_getElem? (i := 20) rfl), lw_t9 (List.mem_of_getElem? (i := 15) rfl), lw_t9 (List.mem_of_getElem? (i := 16) rfl)⟩
theorem lw_p46 : lw_okq (⟨"WeaversgateModel", "spots", "(II)Ljava/util/ArrayList;"⟩, 17) := ⟨⟨by decide +kernel, by decide +kernel⟩, lw_t8 (List.mem_of_getElem? (i := 20) rfl), lw_t9 (List.mem_of_getElem? (i := 120) rfl), lw_t9 (List.mem_of_getElem? (i := 121) rfl)⟩
theorem lw_p47 : lw_okq (⟨"WeaversgateModel", "matches", "(LWeaversgateModel$Spot;III)C"⟩, 17) := ⟨⟨by decide +kernel, by decide +kernel⟩, lw_t8 (List.mem_of_getElem? (i := 20) rfl), lw_t9 (List.mem_of_getElem? (i := 151) rfl), lw_t9 (List.mem_of_getElem? (i := 152) rfl)⟩
def lw_privs_3 : List (MethodName × Nat) := [(⟨"Weaversgate", "advice", "(I)LWeaversgate$Advice;"⟩, 7), (⟨"Weaversgate", "runBy", "(IIIZ)C"⟩, 7), (⟨"Weaversgate", "checkIndex", "(I)V"⟩, 7), (⟨"WeaversgateModel", "isClass", "(I)Z"⟩, 17), (⟨"WeaversgateModel", "isStep", "(CII)Z"⟩, 17), (⟨"WeaversgateModel", "body", "(II)LWeaversgateModel$Body;"⟩, 17), (⟨"WeaversgateModel", "wrong", "(II)I"⟩, 17), (⟨"WeaversgateModel", "found", "(II)I"⟩, 17), (⟨"WeaversgateModel", "arePatterns", "(CII)Z"⟩, 17), (⟨"WeaversgateModel", "isPattern", "(I)Z"⟩, 17), (⟨"WeaversgateModel", "isAdvice", "(I)Z"⟩, 17), (⟨"WeaversgateModel", "checked", "(Z)I"⟩, 17), (⟨"WeaversgateModel", "order", "()Ljava/util/ArrayList;"⟩, 17), (⟨"WeaversgateModel", "isNext", "(ILjava/util/ArrayList;)Z"⟩, 17), (⟨"WeaversgateModel", "spots", "(II)Ljava/util/ArrayList;"⟩, 17), (⟨"WeaversgateModel", "matches", "(LWeaversgateModel$Spot;III)C"⟩, 17)]
theorem lw_r3 : ∀ q ∈ lw_privs_3, lw_okq q := List.forall_mem_cons.mpr ⟨lw_p32, List.forall_mem_cons.mpr ⟨lw_p33, List.forall_mem_cons.mpr ⟨lw_p34, List.forall_mem_cons.mpr ⟨lw_p35, List.forall_mem_cons.mpr ⟨lw_p36, List.forall_mem_cons.mpr ⟨lw_p37, List.forall_mem_cons.mpr ⟨lw_p38, List.forall_mem_cons.mpr ⟨lw_p39, List.forall_mem_cons.mpr ⟨lw_p40, List.forall_mem_cons.mpr ⟨lw_p41, List.forall_mem_cons.mpr ⟨lw_p42, List.forall_mem_cons.mpr ⟨lw_p43, List.forall_mem_cons.mpr ⟨lw_p44, List.forall_mem_cons.mpr ⟨lw_p45, List.forall_mem_cons.mpr ⟨lw_p46, List.forall_mem_cons.mpr ⟨lw_p47, fun _ h => absurd h List.not_mem_nil⟩⟩⟩⟩⟩⟩⟩⟩⟩⟩⟩⟩⟩⟩⟩⟩
theorem lw_p48 : lw_okq (⟨"WeaversgateModel", "nameMatch", "(LWeaversgateModel$Spot;I)C"⟩, 17) := ⟨⟨by decide +kernel, by decide +kernel⟩, lw_t8 (List.mem_of_getElem? (i := 20) rfl), lw_t9 (List.mem_of_getElem? (i := 155) rfl), lw_t9 (List.mem_of_getElem? (i := 156) rfl)⟩
theorem lw_p49 : lw_okq (⟨"WeaversgateModel", "classMatch", "(LWeaversgateModel$Spot;III)C"⟩, 17) := ⟨⟨by decide +kernel, by decide +kernel⟩, lw_t8 (List.mem_of_getElem? (i := 20) rfl), lw_t9 (List.mem_of_getElem? (i := 170) rfl), lw_t9 (List.mem_of_getElem? (i := 171) rfl)⟩
theorem lw_p50 : lw_okq (⟨"WeaversgateModel", "isBelow", "(II)Z"⟩, 17) := ⟨⟨by decide +kernel, by decide +kernel⟩, lw_t8 (List.mem_of_getElem? (i := 20) rfl), lw_t9 (List.mem_of_getElem? (i := 178) rfl), lw_t9 (List.mem_of_getElem? (i := 179) rfl)⟩
theorem lw_p51 : lw_okq (⟨"WeaversgateModel", "pairs", "(C)I"⟩, 17) := ⟨⟨by decide +kernel, by decide +kernel⟩, lw_t8 (List.mem_of_getElem? (i := 20) rfl), lw_t9 (List.mem_of_getElem? (i := 192) rfl), lw_t9 (List.mem_of_getElem? (i := 193) rfl)⟩
theorem lw_p52 : lw_okq (⟨"WeaversgateModel", "plain", "(I)I"⟩, 17) := ⟨⟨by decide +kernel, by decide +kernel⟩, lw_t8 (List.mem_of_getElem? (i := 20) rfl), lw_t10 (List.mem_of_getElem? (i := 4) rfl), lw_t10 (List.mem_of_getElem? (i := 5) rfl)⟩
theorem lw_p53 : lw_okq (⟨"WeaversgateModel", "ran", "(ZIII)C"⟩, 17) := ⟨⟨by decide +kernel, by decide +kernel⟩, lw_t8 (List.mem_of_getElem? (i := 20) rfl), lw_t10 (List.mem_of_getElem? (i := 16) rfl), lw_t10 (List.mem_of_getElem? (i := 17) rfl)⟩
theorem lw_p54 : lw_okq (⟨"java/util/ArrayList", "fastRemove", "([Ljava/lang/Object;I)V"⟩, 3) := ⟨⟨by decide +kernel, by decide +kernel⟩, lw_t1 (List.mem_of_getElem? (i := 69) rfl), lw_t11 (List.mem_of_getElem? (i := 13) rfl), lw_t11 (List.mem_of_getElem? (i := 14) rfl)⟩
theorem lw_p55 : lw_okq (⟨"WeaversgateModel", "wrongIndex", "(I)I"⟩, 17) := ⟨⟨by decide +kernel, by decide +kernel⟩, lw_t8 (List.mem_of_getElem? (i := 20) rfl), lw_t11 (List.mem_of_getElem? (i := 42) rfl), lw_t11 (List.mem_of_getElem? (i := 43) rfl)⟩
theorem lw_p56 : lw_okq (⟨"WeaversgateModel", "lowest", "()I"⟩, 17) := ⟨⟨by decide +kernel, by decide +kernel⟩, lw_t8 (List.mem_of_getElem? (i := 20) rfl), lw_t11 (List.mem_of_getElem? (i := 88) rfl), lw_t11 (List.mem_of_getElem? (i := 89) rfl)⟩
theorem lw_p57 : lw_okq (⟨"java/util/ArrayList", "equalsArrayList", "(Ljava/util/ArrayList;)Z"⟩, 3) := ⟨⟨by decide +kernel, by decide +kernel⟩, lw_t1 (List.mem_of_getElem? (i := 69) rfl), lw_t11 (List.mem_of_getElem? (i := 99) rfl), lw_t11 (List.mem_of_getElem? (i := 100) rfl)⟩
theorem lw_p58 : lw_okq (⟨"java/util/ArrayList", "checkForComodification", "(I)V"⟩, 3) := ⟨⟨by decide +kernel, by decide +kernel⟩, lw_t1 (List.mem_of_getElem? (i := 69) rfl), lw_t11 (List.mem_of_getElem? (i := 107) rfl), lw_t11 (List.mem_of_getElem? (i := 108) rfl)⟩
def lw_privs_4 : List (MethodName × Nat) := [(⟨"WeaversgateModel", "nameMatch", "(LWeaversgateModel$Spot;I)C"⟩, 17), (⟨"WeaversgateModel", "classMatch", "(LWeaversgateModel$Spot;III)C"⟩, 17), (⟨"WeaversgateModel", "isBelow", "(II)Z"⟩, 17), (⟨"WeaversgateModel", "pairs", "(C)I"⟩, 17), (⟨"WeaversgateModel", "plain", "(I)I"⟩, 17), (⟨"WeaversgateModel", "ran", "(ZIII)C"⟩, 17), (⟨"java/util/ArrayList", "fastRemove", "([Ljava/lang/Object;I)V"⟩, 3), (⟨"WeaversgateModel", "wrongIndex", "(I)I"⟩, 17), (⟨"WeaversgateModel", "lowest", "()I"⟩, 17), (⟨"java/util/ArrayList", "equalsArrayList", "(Ljava/util/ArrayList;)Z"⟩, 3), (⟨"java/util/ArrayList", "checkForComodification", "(I)V"⟩, 3)]
theorem lw_r4 : ∀ q ∈ lw_privs_4, lw_okq q := List.forall_mem_cons.mpr ⟨lw_p48, List.forall_mem_cons.mpr ⟨lw_p49, List.forall_mem_cons.mpr ⟨lw_p50, List.forall_mem_cons.mpr ⟨lw_p51, List.forall_mem_cons.mpr ⟨lw_p52, List.forall_mem_cons.mpr ⟨lw_p53, List.forall_mem_cons.mpr ⟨lw_p54, List.forall_mem_cons.mpr ⟨lw_p55, List.forall_mem_cons.mpr ⟨lw_p56, List.forall_mem_cons.mpr ⟨lw_p57, List.forall_mem_cons.mpr ⟨lw_p58, fun _ h => absurd h List.not_mem_nil⟩⟩⟩⟩⟩⟩⟩⟩⟩⟩⟩
def lw_privs : List (MethodName × Nat) := lw_privs_1 ++ (lw_privs_2 ++ (lw_privs_3 ++ (lw_privs_4)))
def lw_tbl : List Cond := k2_sels lw_privs ++ tables_1
theorem lw_privs_ok : ∀ q ∈ lw_privs, lw_okq q := by
  show ∀ q ∈ lw_privs_1 ++ (lw_privs_2 ++ (lw_privs_3 ++ (lw_privs_4))), lw_okq q
  exact List.forall_mem_append.mpr ⟨lw_r1, List.forall_mem_append.mpr ⟨lw_r2, List.forall_mem_append.mpr ⟨lw_r3, lw_r4⟩⟩⟩
-- ===== ONE list of words for every method: the tables' words that hold all through a run =====
def lw_all : List Cond := lw_tbl.filter goodWord
/-- a word of the tables by its place: claim/WORDS.tsv -/
theorem lw_w {w : Cond} (i : Nat) (h : lw_tbl[i]? = some w) (g : goodWord w = true) : w ∈ lw_all := List.mem_filter.mpr ⟨List.mem_of_getElem? h, g⟩
theorem lw_all_tbl {w : Cond} (h : w ∈ lw_all) : w ∈ lw_tbl := (List.mem_filter.mp h).1
theorem lw_self : GoodIn lw_all lw_all := fun w h => ⟨h, good_of_word (List.mem_filter.mp h).2⟩
/-- a class's field words, by their places -/
theorem lw_in (ws : List Cond) (ps : List Nat) (hp : ws = ps.filterMap (fun i => lw_tbl[i]?)) (hg : ws.all goodWord = true) : ∀ w ∈ ws, w ∈ lw_all := by
  intro w h
  have h1 := List.all_eq_true.mp hg w h
  rw [hp] at h
  obtain ⟨i, -, hi⟩ := List.mem_filterMap.mp h
  exact lw_w i hi h1
/-- the words of a contract for the method y with code b, L locals, answer r -/
abbrev ws_ (y : MethodName) (b : ByteArray) (L : Nat) (r : Option FieldType) : List Cond := Cond.code y b L r :: lw_all
theorem lw_meth {y : MethodName} {b : ByteArray} {L : Nat} {r : Option FieldType} (h : Cond.code y b L r ∈ lw_all) : GoodIn lw_all (ws_ y b L r) := by
  intro w hw
  rcases List.mem_cons.mp hw with e | e
  · rw [e]
    exact lw_self _ h
  · exact lw_self _ e
theorem lw_app {a c : List Cond} (ha : ∀ w ∈ a, w ∈ lw_all) (hc : GoodIn lw_all c) : GoodIn lw_all (a ++ c) := by
  intro w hw
  rcases List.mem_append.mp hw with e | e
  · exact lw_self w (ha w e)
  · exact hc w e
/-- what a call through an object asks: cwV n hts (lw_V ..) -/
theorem lw_V {own : String} {idx : Nat} {C : String} {y : MethodName} {b : ByteArray} {L : Nat} {r : Option FieldType} (h1 : Cond.methodLink own idx y ∈ lw_all) (h2 : Cond.instanceMethod y ∈ lw_all) (h3 : Cond.selects C y y ∈ lw_all) (h4 : Cond.initialized C ∈ lw_all) (h5 : Cond.code y b L r ∈ lw_all) : GoodIn lw_all (wsV own idx C y (ws_ y b L r)) := by
  refine lw_app ?_ (lw_meth h5)
  intro w hw
  simp only [List.mem_cons, List.not_mem_nil, or_false] at hw
  rcases hw with e | e | e | e
  · rw [e]; exact h1
  · rw [e]; exact h2
  · rw [e]; exact h3
  · rw [e]; exact h4
/-- what a static call asks: va_cwS n hts (lw_S ..) -/
theorem lw_S {own : String} {idx : Nat} {y : MethodName} {b : ByteArray} {L : Nat} {r : Option FieldType} (h1 : Cond.methodLink own idx y ∈ lw_all) (h2 : Cond.static y ∈ lw_all) (h3 : Cond.initialized y.cls ∈ lw_all) (h4 : Cond.code y b L r ∈ lw_all) : GoodIn lw_all (va_wsS own idx y (ws_ y b L r)) := by
  refine lw_app ?_ (lw_meth h4)
  intro w hw
  simp only [List.mem_cons, List.not_mem_nil, or_false] at hw
  rcases hw with e | e | e
  · rw [e]; exact h1
  · rw [e]; exact h2
  · rw [e]; exact h3
/-- the words of a contract for a method WITH HANDLERS (hh: its table) -/
abbrev wsW_ (y : MethodName) (b : ByteArray) (L : Nat) (r : Option FieldType) (hh : List (Nat × Nat × Nat × Nat)) : List Cond := Cond.codeWith y b L r hh :: lw_all
theorem lw_methW {y : MethodName} {b : ByteArray} {L : Nat} {r : Option FieldType} {hh : List (Nat × Nat × Nat × Nat)} (h : Cond.codeWith y b L r hh ∈ lw_all) : GoodIn lw_all (wsW_ y b L r hh) := by
  intro w hw
  rcases List.mem_cons.mp hw with e | e
  · rw [e]
    exact lw_self _ h
  · exact lw_self _ e
/-- any list of words by their places (lw_in), good -/
theorem lw_good {ws : List Cond} (h : ∀ w ∈ ws, w ∈ lw_all) : GoodIn lw_all ws := fun w hw => lw_self w (h w hw)
/-- what a call of a method with handlers asks: vx_cwVW n hts (lw_VW ..), vx_cwSW n hts (lw_SW ..) -/
theorem lw_VW {own : String} {idx : Nat} {C : String} {y : MethodName} {b : ByteArray} {L : Nat} {r : Option FieldType} {hh : List (Nat × Nat × Nat × Nat)} (h1 : Cond.methodLink own idx y ∈ lw_all) (h2 : Cond.instanceMethod y ∈ lw_all) (h3 : Cond.selects C y y ∈ lw_all) (h4 : Cond.initialized C ∈ lw_all) (h5 : Cond.codeWith y b L r hh ∈ lw_all) : GoodIn lw_all (wsV own idx C y (wsW_ y b L r hh)) := by
  refine lw_app ?_ (lw_methW h5)
  intro w hw
  simp only [List.mem_cons, List.not_mem_nil, or_false] at hw
  rcases hw with e | e | e | e
  · rw [e]; exact h1
  · rw [e]; exact h2
  · rw [e]; exact h3
  · rw [e]; exact h4
theorem lw_SW {own : String} {idx : Nat} {y : MethodName} {b : ByteArray} {L : Nat} {r : Option FieldType} {hh : List (Nat × Nat × Nat × Nat)} (h1 : Cond.methodLink own idx y ∈ lw_all) (h2 : Cond.static y ∈ lw_all) (h3 : Cond.initialized y.cls ∈ lw_all) (h4 : Cond.codeWith y b L r hh ∈ lw_all) : GoodIn lw_all (va_wsS own idx y (wsW_ y b L r hh)) := by
  refine lw_app ?_ (lw_methW h4)
  intro w hw
  simp only [List.mem_cons, List.not_mem_nil, or_false] at hw
  rcases hw with e | e | e
  · rw [e]; exact h1
  · rw [e]; exact h2
  · rw [e]; exact h3
/-- a word by its place in its run of the tables -/
theorem lw_at {r : List Cond} (hr : ∀ w ∈ r, w ∈ lw_tbl) {w : Cond} (i : Nat) (h : r[i]? = some w) : w ∈ lw_tbl := hr w (List.mem_of_getElem? h)
theorem lw_g {w : Cond} (h : w ∈ lw_tbl) (g : goodWord w = true) : w ∈ lw_all := List.mem_filter.mpr ⟨h, g⟩
theorem lw_ms : ∀ w ∈ k2_sels lw_privs, w ∈ lw_tbl := fun w h => show w ∈ k2_sels lw_privs ++ tables_1 from List.mem_append_left _ h
theorem lw_m1 : ∀ w ∈ tables_1_1, w ∈ lw_tbl := fun w h => show w ∈ k2_sels lw_privs ++ tables_1 from List.mem_append_right (k2_sels lw_privs) (show w ∈ tables_1 from List.mem_append_left _ h)
theorem lw_m2 : ∀ w ∈ tables_1_2, w ∈ lw_tbl := fun w h => show w ∈ k2_sels lw_privs ++ tables_1 from List.mem_append_right (k2_sels lw_privs) (show w ∈ tables_1 from List.mem_append_right _ (List.mem_append_left _ h))
theorem lw_m3 : ∀ w ∈ tables_1_3, w ∈ lw_tbl := fun w h => show w ∈ k2_sels lw_privs ++ tables_1 from List.mem_append_right (k2_sels lw_privs) (show w ∈ tables_1 from List.mem_append_right _ (List.mem_append_right _ (List.mem_append_left _ h)))
theorem lw_m4 : ∀ w ∈ tables_1_4, w ∈ lw_tbl := fun w h => show w ∈ k2_sels lw_privs ++ tables_1 from List.mem_append_right (k2_sels lw_privs) (show w ∈ tables_1 from List.mem_append_right _ (List.mem_append_right _ (List.mem_append_right _ (List.mem_append_left _ h))))
theorem lw_m5 : ∀ w ∈ tables_1_5, w ∈ lw_tbl := fun w h => show w ∈ k2_sels lw_privs ++ tables_1 from List.mem_append_right (k2_sels lw_privs) (show w ∈ tables_1 from List.mem_append_right _ (List.mem_append_right _ (List.mem_append_right _ (List.mem_append_right _ (List.mem_append_left _ h)))))
theorem lw_m6 : ∀ w ∈ tables_1_6, w ∈ lw_tbl := fun w h => show w ∈ k2_sels lw_privs ++ tables_1 from List.mem_append_right (k2_sels lw_privs) (show w ∈ tables_1 from List.mem_append_right _ (List.mem_append_right _ (List.mem_append_right _ (List.mem_append_right _ (List.mem_append_right _ (List.mem_append_left _ h))))))
theorem lw_m7 : ∀ w ∈ tables_1_7, w ∈ lw_tbl := fun w h => show w ∈ k2_sels lw_privs ++ tables_1 from List.mem_append_right (k2_sels lw_privs) (show w ∈ tables_1 from List.mem_append_right _ (List.mem_append_right _ (List.mem_append_right _ (List.mem_append_right _ (List.mem_append_right _ (List.mem_append_right _ (List.mem_append_left _ h)))))))
theorem lw_m8 : ∀ w ∈ tables_1_8, w ∈ lw_tbl := fun w h => show w ∈ k2_sels lw_privs ++ tables_1 from List.mem_append_right (k2_sels lw_privs) (show w ∈ tables_1 from List.mem_append_right _ (List.mem_append_right _ (List.mem_append_right _ (List.mem_append_right _ (List.mem_append_right _ (List.mem_append_right _ (List.mem_append_right _ (List.mem_append_left _ h))))))))
theorem lw_m9 : ∀ w ∈ tables_1_9, w ∈ lw_tbl := fun w h => show w ∈ k2_sels lw_privs ++ tables_1 from List.mem_append_right (k2_sels lw_privs) (show w ∈ tables_1 from List.mem_append_right _ (List.mem_append_right _ (List.mem_append_right _ (List.mem_append_right _ (List.mem_append_right _ (List.mem_append_right _ (List.mem_append_right _ (List.mem_append_right _ (List.mem_append_left _ h)))))))))
theorem lw_m10 : ∀ w ∈ tables_1_10, w ∈ lw_tbl := fun w h => show w ∈ k2_sels lw_privs ++ tables_1 from List.mem_append_right (k2_sels lw_privs) (show w ∈ tables_1 from List.mem_append_right _ (List.mem_append_right _ (List.mem_append_right _ (List.mem_append_right _ (List.mem_append_right _ (List.mem_append_right _ (List.mem_append_right _ (List.mem_append_right _ (List.mem_append_right _ (List.mem_append_left _ h))))))))))
theorem lw_m11 : ∀ w ∈ tables_1_11, w ∈ lw_tbl := fun w h => show w ∈ k2_sels lw_privs ++ tables_1 from List.mem_append_right (k2_sels lw_privs) (show w ∈ tables_1 from List.mem_append_right _ (List.mem_append_right _ (List.mem_append_right _ (List.mem_append_right _ (List.mem_append_right _ (List.mem_append_right _ (List.mem_append_right _ (List.mem_append_right _ (List.mem_append_right _ (List.mem_append_right _ h))))))))))
theorem qs0 : (Cond.selects "Weaversgate" ⟨"Weaversgate", "hasRing", "()Z"⟩ ⟨"Weaversgate", "hasRing", "()Z"⟩) ∈ lw_all := lw_g (lw_at lw_ms 0 rfl) rfl
theorem qs1 : (Cond.selects "Weaversgate" ⟨"Weaversgate", "aspectOf", "(I)I"⟩ ⟨"Weaversgate", "aspectOf", "(I)I"⟩) ∈ lw_all := lw_g (lw_at lw_ms 1 rfl) rfl
theorem qs2 : (Cond.selects "Weaversgate" ⟨"Weaversgate", "countPairs", "(C)I"⟩ ⟨"Weaversgate", "countPairs", "(C)I"⟩) ∈ lw_all := lw_g (lw_at lw_ms 2 rfl) rfl
theorem qs3 : (Cond.selects "Weaversgate" ⟨"Weaversgate", "placesOf", "(LWeaversgate$Type;I)I"⟩ ⟨"Weaversgate", "placesOf", "(LWeaversgate$Type;I)I"⟩) ∈ lw_all := lw_g (lw_at lw_ms 3 rfl) rfl
theorem qs4 : (Cond.selects "java/lang/Throwable" ⟨"java/lang/Throwable", "fillInStackTrace", "(I)Ljava/lang/Throwable;"⟩ ⟨"java/lang/Throwable", "fillInStackTrace", "(I)Ljava/lang/Throwable;"⟩) ∈ lw_all := lw_g (lw_at lw_ms 4 rfl) rfl
theorem qs5 : (Cond.selects "Weaversgate" ⟨"Weaversgate", "placeOf", "(LWeaversgate$Type;II)LWeaversgate$Place;"⟩ ⟨"Weaversgate", "placeOf", "(LWeaversgate$Type;II)LWeaversgate$Place;"⟩) ∈ lw_all := lw_g (lw_at lw_ms 5 rfl) rfl
theorem qs6 : (Cond.selects "Weaversgate" ⟨"Weaversgate", "madePlace", "(LWeaversgate$Type;II)LWeaversgate$Place;"⟩ ⟨"Weaversgate", "madePlace", "(LWeaversgate$Type;II)LWeaversgate$Place;"⟩) ∈ lw_all := lw_g (lw_at lw_ms 6 rfl) rfl
theorem qs7 : (Cond.selects "Weaversgate" ⟨"Weaversgate", "possibleIn", "(LWeaversgate$Type;I)I"⟩ ⟨"Weaversgate", "possibleIn", "(LWeaversgate$Type;I)I"⟩) ∈ lw_all := lw_g (lw_at lw_ms 7 rfl) rfl
theorem qs8 : (Cond.selects "java/util/ArrayList" ⟨"java/util/ArrayList", "add", "(Ljava/lang/Object;[Ljava/lang/Object;I)V"⟩ ⟨"java/util/ArrayList", "add", "(Ljava/lang/Object;[Ljava/lang/Object;I)V"⟩) ∈ lw_all := lw_g (lw_at lw_ms 8 rfl) rfl
theorem qs9 : (Cond.selects "java/util/ArrayList" ⟨"java/util/ArrayList", "grow", "()[Ljava/lang/Object;"⟩ ⟨"java/util/ArrayList", "grow", "()[Ljava/lang/Object;"⟩) ∈ lw_all := lw_g (lw_at lw_ms 9 rfl) rfl
theorem qs10 : (Cond.selects "java/util/ArrayList" ⟨"java/util/ArrayList", "grow", "(I)[Ljava/lang/Object;"⟩ ⟨"java/util/ArrayList", "grow", "(I)[Ljava/lang/Object;"⟩) ∈ lw_all := lw_g (lw_at lw_ms 10 rfl) rfl
theorem qs11 : (Cond.selects "Weaversgate" ⟨"Weaversgate", "countAt", "(LWeaversgate$Place;C)I"⟩ ⟨"Weaversgate", "countAt", "(LWeaversgate$Place;C)I"⟩) ∈ lw_all := lw_g (lw_at lw_ms 11 rfl) rfl
theorem qs12 : (Cond.selects "Weaversgate$Run" ⟨"Weaversgate$Run", "order", "()V"⟩ ⟨"Weaversgate$Run", "order", "()V"⟩) ∈ lw_all := lw_g (lw_at lw_ms 12 rfl) rfl
theorem qs13 : (Cond.selects "Weaversgate$Run" ⟨"Weaversgate$Run", "call", "(LWeaversgate$Thing;IIILWeaversgate$Place;)I"⟩ ⟨"Weaversgate$Run", "call", "(LWeaversgate$Thing;IIILWeaversgate$Place;)I"⟩) ∈ lw_all := lw_g (lw_at lw_ms 13 rfl) rfl
theorem qs14 : (Cond.selects "Weaversgate$Run" ⟨"Weaversgate$Run", "lambda$call$0", "(LWeaversgate$Thing;II)I"⟩ ⟨"Weaversgate$Run", "lambda$call$0", "(LWeaversgate$Thing;II)I"⟩) ∈ lw_all := lw_g (lw_at lw_ms 14 rfl) rfl
theorem qs15 : (Cond.selects "Weaversgate$Run" ⟨"Weaversgate$Run", "body", "(LWeaversgate$Thing;II)I"⟩ ⟨"Weaversgate$Run", "body", "(LWeaversgate$Thing;II)I"⟩) ∈ lw_all := lw_g (lw_at lw_ms 15 rfl) rfl
theorem qs16 : (Cond.selects "Weaversgate$Run" ⟨"Weaversgate$Run", "lambda$body$1", "(LWeaversgate$Thing;LWeaversgate$Type;II)I"⟩ ⟨"Weaversgate$Run", "lambda$body$1", "(LWeaversgate$Thing;LWeaversgate$Type;II)I"⟩) ∈ lw_all := lw_g (lw_at lw_ms 16 rfl) rfl
theorem qs17 : (Cond.selects "Weaversgate$Run" ⟨"Weaversgate$Run", "steps", "(LWeaversgate$Thing;LWeaversgate$Type;II)I"⟩ ⟨"Weaversgate$Run", "steps", "(LWeaversgate$Thing;LWeaversgate$Type;II)I"⟩) ∈ lw_all := lw_g (lw_at lw_ms 17 rfl) rfl
theorem qs18 : (Cond.selects "Weaversgate$Run" ⟨"Weaversgate$Run", "done", "(LWeaversgate$Thing;LWeaversgate$Type;ILWeaversgate$Step;II)I"⟩ ⟨"Weaversgate$Run", "done", "(LWeaversgate$Thing;LWeaversgate$Type;ILWeaversgate$Step;II)I"⟩) ∈ lw_all := lw_g (lw_at lw_ms 18 rfl) rfl
theorem qs19 : (Cond.selects "Weaversgate$Run" ⟨"Weaversgate$Run", "point", "(CILWeaversgate$Type;ILWeaversgate$Place;ILWeaversgate$Act;)I"⟩ ⟨"Weaversgate$Run", "point", "(CILWeaversgate$Type;ILWeaversgate$Place;ILWeaversgate$Act;)I"⟩) ∈ lw_all := lw_g (lw_at lw_ms 19 rfl) rfl
theorem qs20 : (Cond.selects "Weaversgate$Run" ⟨"Weaversgate$Run", "chosen", "(LWeaversgate$Point;LWeaversgate$Place;)I"⟩ ⟨"Weaversgate$Run", "chosen", "(LWeaversgate$Point;LWeaversgate$Place;)I"⟩) ∈ lw_all := lw_g (lw_at lw_ms 20 rfl) rfl
theorem qs21 : (Cond.selects "Weaversgate$Run" ⟨"Weaversgate$Run", "goOn", "(IIILWeaversgate$Act;)I"⟩ ⟨"Weaversgate$Run", "goOn", "(IIILWeaversgate$Act;)I"⟩) ∈ lw_all := lw_g (lw_at lw_ms 21 rfl) rfl
theorem qs22 : (Cond.selects "Weaversgate$Run" ⟨"Weaversgate$Run", "around", "(LWeaversgate$Advice;IIILWeaversgate$Act;)I"⟩ ⟨"Weaversgate$Run", "around", "(LWeaversgate$Advice;IIILWeaversgate$Act;)I"⟩) ∈ lw_all := lw_g (lw_at lw_ms 22 rfl) rfl
theorem qs23 : (Cond.selects "Weaversgate$Run" ⟨"Weaversgate$Run", "behind", "(LWeaversgate$Advice;IIILWeaversgate$Act;)I"⟩ ⟨"Weaversgate$Run", "behind", "(LWeaversgate$Advice;IIILWeaversgate$Act;)I"⟩) ∈ lw_all := lw_g (lw_at lw_ms 23 rfl) rfl
theorem qs24 : (Cond.selects "Weaversgate$Run" ⟨"Weaversgate$Run", "lambda$done$4", "(LWeaversgate$Thing;LWeaversgate$Step;I)I"⟩ ⟨"Weaversgate$Run", "lambda$done$4", "(LWeaversgate$Thing;LWeaversgate$Step;I)I"⟩) ∈ lw_all := lw_g (lw_at lw_ms 24 rfl) rfl
theorem qs25 : (Cond.selects "Weaversgate$Run" ⟨"Weaversgate$Run", "put", "(LWeaversgate$Thing;II)I"⟩ ⟨"Weaversgate$Run", "put", "(LWeaversgate$Thing;II)I"⟩) ∈ lw_all := lw_g (lw_at lw_ms 25 rfl) rfl
theorem qs26 : (Cond.selects "Weaversgate$Run" ⟨"Weaversgate$Run", "handled", "(LWeaversgate$Thing;LWeaversgate$Type;IILWeaversgate$Thrown;)I"⟩ ⟨"Weaversgate$Run", "handled", "(LWeaversgate$Thing;LWeaversgate$Type;IILWeaversgate$Thrown;)I"⟩) ∈ lw_all := lw_g (lw_at lw_ms 26 rfl) rfl
theorem qs27 : (Cond.selects "Weaversgate" ⟨"Weaversgate", "type", "(I)LWeaversgate$Type;"⟩ ⟨"Weaversgate", "type", "(I)LWeaversgate$Type;"⟩) ∈ lw_all := lw_g (lw_at lw_ms 27 rfl) rfl
theorem qs28 : (Cond.selects "Weaversgate" ⟨"Weaversgate", "forgetPlaces", "()V"⟩ ⟨"Weaversgate", "forgetPlaces", "()V"⟩) ∈ lw_all := lw_g (lw_at lw_ms 28 rfl) rfl
theorem qs29 : (Cond.selects "Weaversgate" ⟨"Weaversgate", "isStepRight", "(CII)Z"⟩ ⟨"Weaversgate", "isStepRight", "(CII)Z"⟩) ∈ lw_all := lw_g (lw_at lw_ms 29 rfl) rfl
theorem qs30 : (Cond.selects "Weaversgate" ⟨"Weaversgate", "made", "(CII)LWeaversgate$Pattern;"⟩ ⟨"Weaversgate", "made", "(CII)LWeaversgate$Pattern;"⟩) ∈ lw_all := lw_g (lw_at lw_ms 30 rfl) rfl
theorem qs31 : (Cond.selects "Weaversgate" ⟨"Weaversgate", "pattern", "(I)LWeaversgate$Pattern;"⟩ ⟨"Weaversgate", "pattern", "(I)LWeaversgate$Pattern;"⟩) ∈ lw_all := lw_g (lw_at lw_ms 31 rfl) rfl
theorem qs32 : (Cond.selects "Weaversgate" ⟨"Weaversgate", "advice", "(I)LWeaversgate$Advice;"⟩ ⟨"Weaversgate", "advice", "(I)LWeaversgate$Advice;"⟩) ∈ lw_all := lw_g (lw_at lw_ms 32 rfl) rfl
theorem qs33 : (Cond.selects "Weaversgate" ⟨"Weaversgate", "runBy", "(IIIZ)C"⟩ ⟨"Weaversgate", "runBy", "(IIIZ)C"⟩) ∈ lw_all := lw_g (lw_at lw_ms 33 rfl) rfl
theorem qs34 : (Cond.selects "Weaversgate" ⟨"Weaversgate", "checkIndex", "(I)V"⟩ ⟨"Weaversgate", "checkIndex", "(I)V"⟩) ∈ lw_all := lw_g (lw_at lw_ms 34 rfl) rfl
theorem qs35 : (Cond.selects "WeaversgateModel" ⟨"WeaversgateModel", "isClass", "(I)Z"⟩ ⟨"WeaversgateModel", "isClass", "(I)Z"⟩) ∈ lw_all := lw_g (lw_at lw_ms 35 rfl) rfl
theorem qs36 : (Cond.selects "WeaversgateModel" ⟨"WeaversgateModel", "isStep", "(CII)Z"⟩ ⟨"WeaversgateModel", "isStep", "(CII)Z"⟩) ∈ lw_all := lw_g (lw_at lw_ms 36 rfl) rfl
theorem qs37 : (Cond.selects "WeaversgateModel" ⟨"WeaversgateModel", "body", "(II)LWeaversgateModel$Body;"⟩ ⟨"WeaversgateModel", "body", "(II)LWeaversgateModel$Body;"⟩) ∈ lw_all := lw_g (lw_at lw_ms 37 rfl) rfl
theorem qs38 : (Cond.selects "WeaversgateModel" ⟨"WeaversgateModel", "wrong", "(II)I"⟩ ⟨"WeaversgateModel", "wrong", "(II)I"⟩) ∈ lw_all := lw_g (lw_at lw_ms 38 rfl) rfl
theorem qs39 : (Cond.selects "WeaversgateModel" ⟨"WeaversgateModel", "found", "(II)I"⟩ ⟨"WeaversgateModel", "found", "(II)I"⟩) ∈ lw_all := lw_g (lw_at lw_ms 39 rfl) rfl
theorem qs40 : (Cond.selects "WeaversgateModel" ⟨"WeaversgateModel", "arePatterns", "(CII)Z"⟩ ⟨"WeaversgateModel", "arePatterns", "(CII)Z"⟩) ∈ lw_all := lw_g (lw_at lw_ms 40 rfl) rfl
theorem qs41 : (Cond.selects "WeaversgateModel" ⟨"WeaversgateModel", "isPattern", "(I)Z"⟩ ⟨"WeaversgateModel", "isPattern", "(I)Z"⟩) ∈ lw_all := lw_g (lw_at lw_ms 41 rfl) rfl
theorem qs42 : (Cond.selects "WeaversgateModel" ⟨"WeaversgateModel", "isAdvice", "(I)Z"⟩ ⟨"WeaversgateModel", "isAdvice", "(I)Z"⟩) ∈ lw_all := lw_g (lw_at lw_ms 42 rfl) rfl
theorem qs43 : (Cond.selects "WeaversgateModel" ⟨"WeaversgateModel", "checked", "(Z)I"⟩ ⟨"WeaversgateModel", "checked", "(Z)I"⟩) ∈ lw_all := lw_g (lw_at lw_ms 43 rfl) rfl
theorem qs44 : (Cond.selects "WeaversgateModel" ⟨"WeaversgateModel", "order", "()Ljava/util/ArrayList;"⟩ ⟨"WeaversgateModel", "order", "()Ljava/util/ArrayList;"⟩) ∈ lw_all := lw_g (lw_at lw_ms 44 rfl) rfl
theorem qs45 : (Cond.selects "WeaversgateModel" ⟨"WeaversgateModel", "isNext", "(ILjava/util/ArrayList;)Z"⟩ ⟨"WeaversgateModel", "isNext", "(ILjava/util/ArrayList;)Z"⟩) ∈ lw_all := lw_g (lw_at lw_ms 45 rfl) rfl
theorem qs46 : (Cond.selects "WeaversgateModel" ⟨"WeaversgateModel", "spots", "(II)Ljava/util/ArrayList;"⟩ ⟨"WeaversgateModel", "spots", "(II)Ljava/util/ArrayList;"⟩) ∈ lw_all := lw_g (lw_at lw_ms 46 rfl) rfl
theorem qs47 : (Cond.selects "WeaversgateModel" ⟨"WeaversgateModel", "matches", "(LWeaversgateModel$Spot;III)C"⟩ ⟨"WeaversgateModel", "matches", "(LWeaversgateModel$Spot;III)C"⟩) ∈ lw_all := lw_g (lw_at lw_ms 47 rfl) rfl
theorem qs48 : (Cond.selects "WeaversgateModel" ⟨"WeaversgateModel", "nameMatch", "(LWeaversgateModel$Spot;I)C"⟩ ⟨"WeaversgateModel", "nameMatch", "(LWeaversgateModel$Spot;I)C"⟩) ∈ lw_all := lw_g (lw_at lw_ms 48 rfl) rfl
theorem qs49 : (Cond.selects "WeaversgateModel" ⟨"WeaversgateModel", "classMatch", "(LWeaversgateModel$Spot;III)C"⟩ ⟨"WeaversgateModel", "classMatch", "(LWeaversgateModel$Spot;III)C"⟩) ∈ lw_all := lw_g (lw_at lw_ms 49 rfl) rfl
theorem qs50 : (Cond.selects "WeaversgateModel" ⟨"WeaversgateModel", "isBelow", "(II)Z"⟩ ⟨"WeaversgateModel", "isBelow", "(II)Z"⟩) ∈ lw_all := lw_g (lw_at lw_ms 50 rfl) rfl
theorem qs51 : (Cond.selects "WeaversgateModel" ⟨"WeaversgateModel", "pairs", "(C)I"⟩ ⟨"WeaversgateModel", "pairs", "(C)I"⟩) ∈ lw_all := lw_g (lw_at lw_ms 51 rfl) rfl
theorem qs52 : (Cond.selects "WeaversgateModel" ⟨"WeaversgateModel", "plain", "(I)I"⟩ ⟨"WeaversgateModel", "plain", "(I)I"⟩) ∈ lw_all := lw_g (lw_at lw_ms 52 rfl) rfl
theorem qs53 : (Cond.selects "WeaversgateModel" ⟨"WeaversgateModel", "ran", "(ZIII)C"⟩ ⟨"WeaversgateModel", "ran", "(ZIII)C"⟩) ∈ lw_all := lw_g (lw_at lw_ms 53 rfl) rfl
theorem qs54 : (Cond.selects "java/util/ArrayList" ⟨"java/util/ArrayList", "fastRemove", "([Ljava/lang/Object;I)V"⟩ ⟨"java/util/ArrayList", "fastRemove", "([Ljava/lang/Object;I)V"⟩) ∈ lw_all := lw_g (lw_at lw_ms 54 rfl) rfl
theorem qs55 : (Cond.selects "WeaversgateModel" ⟨"WeaversgateModel", "wrongIndex", "(I)I"⟩ ⟨"WeaversgateModel", "wrongIndex", "(I)I"⟩) ∈ lw_all := lw_g (lw_at lw_ms 55 rfl) rfl
theorem qs56 : (Cond.selects "WeaversgateModel" ⟨"WeaversgateModel", "lowest", "()I"⟩ ⟨"WeaversgateModel", "lowest", "()I"⟩) ∈ lw_all := lw_g (lw_at lw_ms 56 rfl) rfl
theorem qs57 : (Cond.selects "java/util/ArrayList" ⟨"java/util/ArrayList", "equalsArrayList", "(Ljava/util/ArrayList;)Z"⟩ ⟨"java/util/ArrayList", "equalsArrayList", "(Ljava/util/ArrayList;)Z"⟩) ∈ lw_all := lw_g (lw_at lw_ms 57 rfl) rfl
theorem qs58 : (Cond.selects "java/util/ArrayList" ⟨"java/util/ArrayList", "checkForComodification", "(I)V"⟩ ⟨"java/util/ArrayList", "checkForComodification", "(I)V"⟩) ∈ lw_all := lw_g (lw_at lw_ms 58 rfl) rfl
