/-! A RECORD's equals: the class that the rule makes for it (own work, after the shape of the lambdas' rows) -/
section WV40
def wr_sh : Jvm.Record.Shape := { which := .equals, cls := "WeaversgateModel$Act", comps := [("kind", .char), ("number", .int), ("advice", .int)] }
theorem wr_site : siteWord_1_7 = .recordSite yX31_equals 2 28 wr_sh := rfl
def wr_D : ClassFile := (wr_sh.file).getD { minorVersion := 0, majorVersion := 0, constantPool := #[], accessFlags := 0, thisClass := 0, superClass := 0, interfaces := #[], fields := #[], methods := #[], attributes := #[] }
def wr_F : Method := ((layoutMethods wr_D).bind (fun x => x[0]?)).getD default
def wr_B : ByteArray := ⟨#[42, 43, 166, 0, 5, 4, 172, 43, 193, 0, 8, 154, 0, 5, 3, 172, 43, 192, 0, 8, 77, 42, 180, 0, 12, 44, 180, 0, 12, 159, 0, 5, 3, 172, 42, 180, 0, 15, 44, 180, 0, 15, 159, 0, 5, 3, 172, 42, 180, 0, 19, 44, 180, 0, 19, 159, 0, 5, 3, 172, 4, 172]⟩
theorem wr_file : wr_sh.file = some wr_D := by
  have h : (wr_sh.file).isSome = true := by decide +kernel
  obtain ⟨x, hx⟩ := Option.isSome_iff_exists.mp h
  simp [wr_D, hx]
theorem wr_fst : ∀ ms, layoutMethods wr_D = some ms → ms[0]? = some wr_F := by
  intro ms hms
  have h : ((layoutMethods wr_D).bind (fun x => x[0]?)).isSome = true := by decide +kernel
  obtain ⟨x, hx⟩ := Option.isSome_iff_exists.mp h
  have hf : wr_F = x := by simp [wr_F, hx]
  rw [hms] at hx
  rw [hf]
  exact hx
theorem wr_code : (wr_F.code.map fun c => (c.code.data, c.maxLocals)) = some (wr_B.data, 203) := by decide +kernel
theorem wr_flags : (wr_F.accessFlags, wr_F.name, wr_F.sig.returnType) = (0x0008, "equals", some FieldType.boolean) := by decide +kernel
theorem wr_cls : wr_D.constantPool[8]? = some (.class_ 7) ∧ wr_D.constantPool.string? 7 = some "WeaversgateModel$Act" ∧ 8 ≠ wr_D.thisClass := by decide +kernel
theorem wr_f12 : wr_D.constantPool[12]? = some (.fieldref 8 11) ∧ wr_D.constantPool.nameAndType? 11 = some ("advice", "I") := by decide +kernel
theorem wr_f15 : wr_D.constantPool[15]? = some (.fieldref 8 14) ∧ wr_D.constantPool.nameAndType? 14 = some ("number", "I") := by decide +kernel
theorem wr_f19 : wr_D.constantPool[19]? = some (.fieldref 8 18) ∧ wr_D.constantPool.nameAndType? 18 = some ("kind", "C") := by decide +kernel
theorem wr_d0 : decode wr_B 0 = .ok (.aload_n 0, 1) := by decide +kernel
theorem wr_d1 : decode wr_B 1 = .ok (.aload_n 1, 1) := by decide +kernel
theorem wr_d2 : decode wr_B 2 = .ok (.if_acmp .ne 5, 3) := by decide +kernel
theorem wr_d7 : decode wr_B 7 = .ok (.aload_n 1, 1) := by decide +kernel
theorem wr_d8 : decode wr_B 8 = .ok (.instanceof 8, 3) := by decide +kernel
theorem wr_d11 : decode wr_B 11 = .ok (.ifCond .ne 5, 3) := by decide +kernel
theorem wr_d16 : decode wr_B 16 = .ok (.aload_n 1, 1) := by decide +kernel
theorem wr_d17 : decode wr_B 17 = .ok (.checkcast 8, 3) := by decide +kernel
theorem wr_d20 : decode wr_B 20 = .ok (.astore_n 2, 1) := by decide +kernel
theorem wr_d21 : decode wr_B 21 = .ok (.aload_n 0, 1) ∧ decode wr_B 22 = .ok (.getfield 12, 3) ∧ decode wr_B 25 = .ok (.aload_n 2, 1) ∧ decode wr_B 26 = .ok (.getfield 12, 3) ∧ decode wr_B 29 = .ok (.if_icmp .eq 5, 3) ∧ decode wr_B 32 = .ok (.iconst 0, 1) ∧ decode wr_B 33 = .ok (.ireturn, 1) := by decide +kernel
theorem wr_d34 : decode wr_B 34 = .ok (.aload_n 0, 1) ∧ decode wr_B 35 = .ok (.getfield 15, 3) ∧ decode wr_B 38 = .ok (.aload_n 2, 1) ∧ decode wr_B 39 = .ok (.getfield 15, 3) ∧ decode wr_B 42 = .ok (.if_icmp .eq 5, 3) ∧ decode wr_B 45 = .ok (.iconst 0, 1) ∧ decode wr_B 46 = .ok (.ireturn, 1) := by decide +kernel
theorem wr_d47 : decode wr_B 47 = .ok (.aload_n 0, 1) ∧ decode wr_B 48 = .ok (.getfield 19, 3) ∧ decode wr_B 51 = .ok (.aload_n 2, 1) ∧ decode wr_B 52 = .ok (.getfield 19, 3) ∧ decode wr_B 55 = .ok (.if_icmp .eq 5, 3) ∧ decode wr_B 58 = .ok (.iconst 0, 1) ∧ decode wr_B 59 = .ok (.ireturn, 1) := by decide +kernel
theorem wr_d60 : decode wr_B 60 = .ok (.iconst 1, 1) ∧ decode wr_B 61 = .ok (.ireturn, 1) := by decide +kernel
-- ===== the site, and the class made =====
theorem wr_at {s : State} {x : MethodName} {pc index : Nat} {sh : Jvm.Record.Shape} {c : ClassId} {ap : Value} (hs : sh.which = .equals) (h : s.recordAt? x pc index sh = some (c, ap)) :
    ap = .null ∧ ∃ (m : MethodId) (k : Class) (cf : ClassFile) (i0 p0 : Nat), s.methodNamed? x = some m ∧ s.vm.classes[m.cls]? = some k ∧ k.cf = some cf ∧ Jvm.Record.shapeOf? cf index = some sh ∧
      (k.callSites.find? fun y => y.1 == m.idx && y.2.1 == pc) = some (i0, p0, .calls ⟨c, 0⟩ .null) ∧ Jvm.Record.isMade { classPath := fun _ => none } s.vm m.cls sh c = true := by
  simp only [State.recordAt?, hs, Option.bind_eq_bind, Option.bind_eq_some_iff, Option.pure_def, guard] at h
  obtain ⟨m, hm, k, hk, cf, hcf, u1, hu1, u2, hu2, h⟩ := h
  have hu1 : Jvm.Record.shapeOf? cf index = some sh := by
    by_cases q : (decide (Jvm.Record.shapeOf? cf index = some sh) && !jdkName k.name) = true
    · simp only [Bool.and_eq_true, decide_eq_true_eq] at q
      exact q.1
    · rw [if_neg q] at hu1
      cases hu1
  cases hf : k.callSites.find? (fun y => y.1 == m.idx && y.2.1 == pc) with
  | none => simp [hf] at h
  | some w =>
    obtain ⟨i0, p0, l⟩ := w
    simp only [hf, Option.map_some] at h
    split at h
    · rename_i c' ap' hl
      simp only [Option.some.injEq] at hl
      subst hl
      simp only [Option.bind_eq_some_iff] at h
      obtain ⟨u3, hu3, h⟩ := h
      have hmade : Jvm.Record.isMade { classPath := fun _ => none } s.vm m.cls sh c' = true := by
        by_cases q : Jvm.Record.isMade { classPath := fun _ => none } s.vm m.cls sh c' = true
        · exact q
        · rw [if_neg q] at hu3
          cases hu3
      cases ap' with
      | null =>
        simp only [Option.some.injEq, Prod.mk.injEq] at h
        obtain ⟨rfl, rfl⟩ := h
        exact ⟨rfl, m, k, cf, i0, p0, hm, hk, hcf, hu1, hf, hmade⟩
      | _ => simp at h
    · simp at h
theorem wr_atom {A : Array Value} {s : State} {x : MethodName} {pc index : Nat} {sh : Jvm.Record.Shape} (h : (Cond.recordSite x pc index sh).before A s = true) : ∃ c ap, s.recordAt? x pc index sh = some (c, ap) := by
  simp only [Cond.before, Cond.holds, Cond.value] at h
  cases hx : s.recordAt? x pc index sh with
  | none => simp [hx] at h
  | some w => exact ⟨w.1, w.2, rfl⟩
/-- what the record of the made class is, as far as it is needed -/
theorem wr_isMade {vm : Vm} {d c : ClassId} (h : Jvm.Record.isMade { classPath := fun _ => none } vm d wr_sh c = true) :
    ∃ (dk k : Class) (file : ClassFile), vm.classes[d]? = some dk ∧ vm.classes[c]? = some k ∧ k.cf = some file ∧ dk.name = "WeaversgateModel$Act" ∧ k.name = "WeaversgateModel$Act$$Record" ∧ file.constantPool = wr_D.constantPool ∧
      (∃ b, k.methods[0]? = some b ∧ Jvm.Record.sameMethod wr_F b = true) ∧ ∀ (i : Nat) x, (Jvm.Record.resolvedOf { classPath := fun _ => none } vm wr_D d c)[i]? = some (some x) → k.resolved[i]? = some (some x) := by
  simp only [Jvm.Record.isMade, wr_file, Option.bind_eq_bind, Option.pure_def, Option.getD_eq_iff, Option.bind_eq_some_iff, Bool.false_eq_true, and_false, or_false, Option.some.injEq] at h
  obtain ⟨dk, h2, k, h3, file, h4, cf, h5, object, ho, ok, h6, methods, h8, h⟩ := h
  subst h5
  simp only [Bool.and_eq_true, decide_eq_true_eq, beq_iff_eq] at h
  obtain ⟨⟨⟨⟨⟨⟨⟨⟨⟨⟨⟨⟨b1, -⟩, -⟩, -⟩, -⟩, -⟩, -⟩, b6⟩, b7⟩, b8⟩, -⟩, b10⟩, -⟩ := h
  refine ⟨dk, k, file, h2, h3, h4, b1.1, b1.2.1, b6.2.1, ?_, fun i x hx => ?_⟩
  · have h0 := wr_fst methods h8
    have hlt : 0 < k.methods.size := by rw [← b7]; exact (Array.getElem?_eq_some_iff.mp h0).1
    exact ⟨k.methods[0], Array.getElem?_eq_getElem hlt, Jvm.Lambda.zip_all b8 h0 (Array.getElem?_eq_getElem hlt)⟩
  · rw [List.all_eq_true] at b10
    have := b10 (some x, i) (by rw [List.mem_zipIdx_iff_getElem?]; simpa using hx)
    simpa using this
end WV40
