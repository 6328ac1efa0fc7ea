/-! ROWS 13: the classes that stand for lambdas (after the shape that the rule gives them) -/
section WV17
def wm0_sh : Jvm.Lambda.Shape := { iface := "Weaversgate$Act", name := "with", sam := ⟨[.int], some .int⟩, captured := [(.object "Weaversgate$Run"), (.object "Weaversgate$Thing"), .int], kind := 5, implClass := "Weaversgate$Run", implName := "lambda$call$0", implDesc := ⟨[(.object "Weaversgate$Thing"), .int, .int], some .int⟩, implItf := false, inst := ⟨[.int], some .int⟩ }
theorem wm0_site : ∃ x pc i, wv_site 0 = .lambdaSite x pc i wm0_sh := ⟨_, _, _, rfl⟩
def wm0_D : ClassFile := (wm0_sh.file "Weaversgate$Run").getD { minorVersion := 0, majorVersion := 0, constantPool := #[], accessFlags := 0, thisClass := 0, superClass := 0, interfaces := #[], fields := #[], methods := #[], attributes := #[] }
def wm0_F : Method := ((layoutMethods wm0_D).bind (fun x => x[1]?)).getD default
def wm0_L : Array Field × Array FieldType × Array FieldType := (layoutFields wm0_D 0).getD (#[], #[], #[])
def wm0_B : ByteArray := ⟨#[42, 180, 0, 19, 42, 180, 0, 21, 42, 180, 0, 23, 27, 182, 0, 31, 172]⟩
theorem wm0_file : wm0_sh.file "Weaversgate$Run" = some wm0_D := by
  have h : (wm0_sh.file "Weaversgate$Run").isSome = true := by decide +kernel
  obtain ⟨x, hx⟩ := Option.isSome_iff_exists.mp h
  simp [wm0_D, hx]
theorem wm0_snd : ∀ ms, layoutMethods wm0_D = some ms → ms[1]? = some wm0_F := by
  intro ms hms
  have h : ((layoutMethods wm0_D).bind (fun x => x[1]?)).isSome = true := by decide +kernel
  obtain ⟨x, hx⟩ := Option.isSome_iff_exists.mp h
  have hf : wm0_F = x := by simp [wm0_F, hx]
  rw [hms] at hx
  rw [hf]
  exact hx
theorem wm0_laid : layoutFields wm0_D 0 = some wm0_L := by
  have h : (layoutFields wm0_D 0).isSome = true := by decide +kernel
  obtain ⟨x, hx⟩ := Option.isSome_iff_exists.mp h
  simp [wm0_L, hx]
theorem wm0_code : (wm0_F.code.map fun c => (c.code.data, c.maxLocals)) = some (wm0_B.data, 2) := by decide +kernel
theorem wm0_flags : (wm0_F.accessFlags, wm0_F.name, wm0_F.sig.returnType) = (0x0001, "with", some FieldType.int) := by decide +kernel
theorem wm0_lays : (wm0_sh.file "Weaversgate$Run").bind (fun f => (layoutFields f 0).map (fun x => x.2.1)) = some wm0_sh.captured.toArray := by decide +kernel
theorem wm0_M : wm0_D.constantPool[31]? = some (.methodref 27 30) ∧ wm0_D.constantPool.className? 27 = some "Weaversgate$Run" ∧ wm0_D.constantPool.nameAndType? 30 = some ("lambda$call$0", "(LWeaversgate$Thing;II)I") := by decide +kernel
theorem wm0_C : wm0_D.constantPool[27]? = some (.class_ 26) ∧ wm0_D.constantPool.string? 26 = some "Weaversgate$Run" ∧ 27 ≠ wm0_D.thisClass := by decide +kernel
theorem wm0_f0 : wm0_D.constantPool[19]? = some (.fieldref 2 18) ∧ wm0_D.constantPool.nameAndType? 18 = some ("arg$1", "LWeaversgate$Run;") ∧ wm0_L.1.findIdx? (fun q => q.name == "arg$1") = some 0 ∧ (wm0_L.1[0]?).map (fun f => (f.isStatic, f.slot)) = some (false, 0) := by decide +kernel
theorem wm0_f1 : wm0_D.constantPool[21]? = some (.fieldref 2 20) ∧ wm0_D.constantPool.nameAndType? 20 = some ("arg$2", "LWeaversgate$Thing;") ∧ wm0_L.1.findIdx? (fun q => q.name == "arg$2") = some 1 ∧ (wm0_L.1[1]?).map (fun f => (f.isStatic, f.slot)) = some (false, 1) := by decide +kernel
theorem wm0_f2 : wm0_D.constantPool[23]? = some (.fieldref 2 22) ∧ wm0_D.constantPool.nameAndType? 22 = some ("arg$3", "I") ∧ wm0_L.1.findIdx? (fun q => q.name == "arg$3") = some 2 ∧ (wm0_L.1[2]?).map (fun f => (f.isStatic, f.slot)) = some (false, 2) := by decide +kernel
theorem wm0_d0 : decode wm0_B 0 = .ok (.aload_n 0, 1) := by decide +kernel
theorem wm0_d1 : decode wm0_B 1 = .ok (.getfield 19, 3) := by decide +kernel
theorem wm0_d4 : decode wm0_B 4 = .ok (.aload_n 0, 1) := by decide +kernel
theorem wm0_d5 : decode wm0_B 5 = .ok (.getfield 21, 3) := by decide +kernel
theorem wm0_d8 : decode wm0_B 8 = .ok (.aload_n 0, 1) := by decide +kernel
theorem wm0_d9 : decode wm0_B 9 = .ok (.getfield 23, 3) := by decide +kernel
theorem wm0_d12 : decode wm0_B 12 = .ok (.iload_n 1, 1) := by decide +kernel
theorem wm0_d13 : decode wm0_B 13 = .ok (.invokevirtual 31, 3) := by decide +kernel
theorem wm0_d16 : decode wm0_B 16 = .ok (.ireturn, 1) := by decide +kernel
theorem wm0_made {vm : Vm} {d c : ClassId} {dk : Class} (hd : vm.classes[d]? = some dk) (hname : dk.name = "Weaversgate$Run") (h : Jvm.Lambda.isMade { classPath := fun _ => none } vm d wm0_sh c = true) (hO : ∀ o ok, vm.findClass "java/lang/Object" = some o → vm.classes[o]? = some ok → ok.instanceTypes.size = 0) :
    ∃ (k tk : Class) (file : ClassFile) (methk : Method) (ck : Code) (toy : ClassId) (t : MethodId), vm.classes[c]? = some k ∧ k.name = "Weaversgate$Run$$Lambda" ∧ k.cf = some file ∧ file.constantPool = wm0_D.constantPool ∧ vm.method? ⟨c, 1⟩ = some methk ∧ methk.code = some ck ∧ ck.code = wm0_B ∧ ck.maxLocals = 2 ∧ ck.exceptionTable = #[] ∧ methk.locks = false ∧ methk.accessFlags = 0x0001 ∧ methk.sig.returnType = some .int ∧
      vm.findClass "Weaversgate$Run" = some toy ∧ vm.classes[toy]? = some tk ∧ ((methodIn toy "lambda$call$0" "(LWeaversgate$Thing;II)I" tk.isInterface none).ask { classPath := fun _ => none } vm).1 = .ok t ∧ vm.methodReady c 31 t ∧ vm.classReady c 27 toy ∧ (∃ g : Field, vm.fieldReady c 19 c g ∧ g.isStatic = false ∧ g.slot = 0) ∧ (∃ g : Field, vm.fieldReady c 21 c g ∧ g.isStatic = false ∧ g.slot = 1) ∧ (∃ g : Field, vm.fieldReady c 23 c g ∧ g.isStatic = false ∧ g.slot = 2) := by
  obtain ⟨dk', k, ok, tk, file, cf, object, iface, toy, lay, methods, target, found, hd', hk, hfile, hcf, hobj, -, hok, hlay, hms, ht, htk, hg, -, hrec, -, -, -, hitf, hpool, hmeth, hfields, hty, hres, -⟩ := Jvm.Lambda.isMade_spec h
  cases hd.symm.trans hd'
  rw [hname, wm0_file] at hcf
  cases hcf
  rw [hO object ok hobj hok, wm0_laid] at hlay
  cases hlay
  obtain ⟨b, hb, hsame⟩ := hmeth 1 wm0_F (wm0_snd methods hms)
  obtain ⟨s1, s2, s3, s4, x, y, s5, s6, s7, s8, s9, s10⟩ := Jvm.Lambda.sameMethod_spec hsame
  have fc := wm0_code
  have ff := wm0_flags
  simp only [Prod.mk.injEq] at ff
  rw [s5] at fc
  simp only [Option.map_some, Option.some.injEq, Prod.mk.injEq] at fc
  obtain ⟨g0, hg0, hp0⟩ := Option.map_eq_some_iff.mp wm0_f0.2.2.2
  simp only [Prod.mk.injEq] at hp0
  obtain ⟨g1, hg1, hp1⟩ := Option.map_eq_some_iff.mp wm0_f1.2.2.2
  simp only [Prod.mk.injEq] at hp1
  obtain ⟨g2, hg2, hp2⟩ := Option.map_eq_some_iff.mp wm0_f2.2.2.2
  simp only [Prod.mk.injEq] at hp2
  refine ⟨k, tk, file, b, y, toy, target, hk, by rw [hrec.1, hname]; rfl, hfile, hpool.2.1, by simp [Vm.method?, hk, hb], s6, by rw [s9]; exact ByteArray.ext fc.1, by rw [s8]; exact fc.2, s10, ?_, by rw [s4]; exact ff.1, by rw [s3]; exact ff.2.2, ht, htk, hg,
    ⟨k, hk, hres 31 _ (Jvm.Lambda.resolvedOf_method wm0_M.1 wm0_M.2.1 ht htk wm0_M.2.2 hg)⟩, ⟨k, hk, hres 27 _ (Jvm.Lambda.resolvedOf_class wm0_C.1 wm0_C.2.2 wm0_C.2.1 ht)⟩, ⟨g0, ⟨k, 0, k, hk, hres 19 _ (Jvm.Lambda.resolvedOf_field wm0_f0.1 wm0_f0.2.1 wm0_f0.2.2.1), hk, hfields 0 _ hg0⟩, hp0.1, hp0.2⟩, ⟨g1, ⟨k, 1, k, hk, hres 21 _ (Jvm.Lambda.resolvedOf_field wm0_f1.1 wm0_f1.2.1 wm0_f1.2.2.1), hk, hfields 1 _ hg1⟩, hp1.1, hp1.2⟩, ⟨g2, ⟨k, 2, k, hk, hres 23 _ (Jvm.Lambda.resolvedOf_field wm0_f2.1 wm0_f2.2.1 wm0_f2.2.2.1), hk, hfields 2 _ hg2⟩, hp2.1, hp2.2⟩⟩
  simp [Method.locks, Method.isSynchronized, s4, ff.1, hasFlag, Acc.synchronized]
def wm1_sh : Jvm.Lambda.Shape := { iface := "Weaversgate$Act", name := "with", sam := ⟨[.int], some .int⟩, captured := [(.object "Weaversgate$Run"), (.object "Weaversgate$Thing"), (.object "Weaversgate$Type"), .int], kind := 5, implClass := "Weaversgate$Run", implName := "lambda$body$1", implDesc := ⟨[(.object "Weaversgate$Thing"), (.object "Weaversgate$Type"), .int, .int], some .int⟩, implItf := false, inst := ⟨[.int], some .int⟩ }
theorem wm1_site : ∃ x pc i, wv_site 1 = .lambdaSite x pc i wm1_sh := ⟨_, _, _, rfl⟩
def wm1_D : ClassFile := (wm1_sh.file "Weaversgate$Run").getD { minorVersion := 0, majorVersion := 0, constantPool := #[], accessFlags := 0, thisClass := 0, superClass := 0, interfaces := #[], fields := #[], methods := #[], attributes := #[] }
def wm1_F : Method := ((layoutMethods wm1_D).bind (fun x => x[1]?)).getD default
def wm1_L : Array Field × Array FieldType × Array FieldType := (layoutFields wm1_D 0).getD (#[], #[], #[])
def wm1_B : ByteArray := ⟨#[42, 180, 0, 21, 42, 180, 0, 23, 42, 180, 0, 25, 42, 180, 0, 27, 27, 182, 0, 35, 172]⟩
theorem wm1_file : wm1_sh.file "Weaversgate$Run" = some wm1_D := by
  have h : (wm1_sh.file "Weaversgate$Run").isSome = true := by decide +kernel
  obtain ⟨x, hx⟩ := Option.isSome_iff_exists.mp h
  simp [wm1_D, hx]
theorem wm1_snd : ∀ ms, layoutMethods wm1_D = some ms → ms[1]? = some wm1_F := by
  intro ms hms
  have h : ((layoutMethods wm1_D).bind (fun x => x[1]?)).isSome = true := by decide +kernel
  obtain ⟨x, hx⟩ := Option.isSome_iff_exists.mp h
  have hf : wm1_F = x := by simp [wm1_F, hx]
  rw [hms] at hx
  rw [hf]
  exact hx
theorem wm1_laid : layoutFields wm1_D 0 = some wm1_L := by
  have h : (layoutFields wm1_D 0).isSome = true := by decide +kernel
  obtain ⟨x, hx⟩ := Option.isSome_iff_exists.mp h
  simp [wm1_L, hx]
theorem wm1_code : (wm1_F.code.map fun c => (c.code.data, c.maxLocals)) = some (wm1_B.data, 2) := by decide +kernel
theorem wm1_flags : (wm1_F.accessFlags, wm1_F.name, wm1_F.sig.returnType) = (0x0001, "with", some FieldType.int) := by decide +kernel
theorem wm1_lays : (wm1_sh.file "Weaversgate$Run").bind (fun f => (layoutFields f 0).map (fun x => x.2.1)) = some wm1_sh.captured.toArray := by decide +kernel
theorem wm1_M : wm1_D.constantPool[35]? = some (.methodref 31 34) ∧ wm1_D.constantPool.className? 31 = some "Weaversgate$Run" ∧ wm1_D.constantPool.nameAndType? 34 = some ("lambda$body$1", "(LWeaversgate$Thing;LWeaversgate$Type;II)I") := by decide +kernel
theorem wm1_C : wm1_D.constantPool[31]? = some (.class_ 30) ∧ wm1_D.constantPool.string? 30 = some "Weaversgate$Run" ∧ 31 ≠ wm1_D.thisClass := by decide +kernel
theorem wm1_f0 : wm1_D.constantPool[21]? = some (.fieldref 2 20) ∧ wm1_D.constantPool.nameAndType? 20 = some ("arg$1", "LWeaversgate$Run;") ∧ wm1_L.1.findIdx? (fun q => q.name == "arg$1") = some 0 ∧ (wm1_L.1[0]?).map (fun f => (f.isStatic, f.slot)) = some (false, 0) := by decide +kernel
theorem wm1_f1 : wm1_D.constantPool[23]? = some (.fieldref 2 22) ∧ wm1_D.constantPool.nameAndType? 22 = some ("arg$2", "LWeaversgate$Thing;") ∧ wm1_L.1.findIdx? (fun q => q.name == "arg$2") = some 1 ∧ (wm1_L.1[1]?).map (fun f => (f.isStatic, f.slot)) = some (false, 1) := by decide +kernel
theorem wm1_f2 : wm1_D.constantPool[25]? = some (.fieldref 2 24) ∧ wm1_D.constantPool.nameAndType? 24 = some ("arg$3", "LWeaversgate$Type;") ∧ wm1_L.1.findIdx? (fun q => q.name == "arg$3") = some 2 ∧ (wm1_L.1[2]?).map (fun f => (f.isStatic, f.slot)) = some (false, 2) := by decide +kernel
theorem wm1_f3 : wm1_D.constantPool[27]? = some (.fieldref 2 26) ∧ wm1_D.constantPool.nameAndType? 26 = some ("arg$4", "I") ∧ wm1_L.1.findIdx? (fun q => q.name == "arg$4") = some 3 ∧ (wm1_L.1[3]?).map (fun f => (f.isStatic, f.slot)) = some (false, 3) := by decide +kernel
theorem wm1_d0 : decode wm1_B 0 = .ok (.aload_n 0, 1) := by decide +kernel
theorem wm1_d1 : decode wm1_B 1 = .ok (.getfield 21, 3) := by decide +kernel
theorem wm1_d4 : decode wm1_B 4 = .ok (.aload_n 0, 1) := by decide +kernel
theorem wm1_d5 : decode wm1_B 5 = .ok (.getfield 23, 3) := by decide +kernel
theorem wm1_d8 : decode wm1_B 8 = .ok (.aload_n 0, 1) := by decide +kernel
theorem wm1_d9 : decode wm1_B 9 = .ok (.getfield 25, 3) := by decide +kernel
theorem wm1_d12 : decode wm1_B 12 = .ok (.aload_n 0, 1) := by decide +kernel
theorem wm1_d13 : decode wm1_B 13 = .ok (.getfield 27, 3) := by decide +kernel
theorem wm1_d16 : decode wm1_B 16 = .ok (.iload_n 1, 1) := by decide +kernel
theorem wm1_d17 : decode wm1_B 17 = .ok (.invokevirtual 35, 3) := by decide +kernel
theorem wm1_d20 : decode wm1_B 20 = .ok (.ireturn, 1) := by decide +kernel
theorem wm1_made {vm : Vm} {d c : ClassId} {dk : Class} (hd : vm.classes[d]? = some dk) (hname : dk.name = "Weaversgate$Run") (h : Jvm.Lambda.isMade { classPath := fun _ => none } vm d wm1_sh c = true) (hO : ∀ o ok, vm.findClass "java/lang/Object" = some o → vm.classes[o]? = some ok → ok.instanceTypes.size = 0) :
    ∃ (k tk : Class) (file : ClassFile) (methk : Method) (ck : Code) (toy : ClassId) (t : MethodId), vm.classes[c]? = some k ∧ k.name = "Weaversgate$Run$$Lambda" ∧ k.cf = some file ∧ file.constantPool = wm1_D.constantPool ∧ vm.method? ⟨c, 1⟩ = some methk ∧ methk.code = some ck ∧ ck.code = wm1_B ∧ ck.maxLocals = 2 ∧ ck.exceptionTable = #[] ∧ methk.locks = false ∧ methk.accessFlags = 0x0001 ∧ methk.sig.returnType = some .int ∧
      vm.findClass "Weaversgate$Run" = some toy ∧ vm.classes[toy]? = some tk ∧ ((methodIn toy "lambda$body$1" "(LWeaversgate$Thing;LWeaversgate$Type;II)I" tk.isInterface none).ask { classPath := fun _ => none } vm).1 = .ok t ∧ vm.methodReady c 35 t ∧ vm.classReady c 31 toy ∧ (∃ g : Field, vm.fieldReady c 21 c g ∧ g.isStatic = false ∧ g.slot = 0) ∧ (∃ g : Field, vm.fieldReady c 23 c g ∧ g.isStatic = false ∧ g.slot = 1) ∧ (∃ g : Field, vm.fieldReady c 25 c g ∧ g.isStatic = false ∧ g.slot = 2) ∧ (∃ g : Field, vm.fieldReady c 27 c g ∧ g.isStatic = false ∧ g.slot = 3) := by
  obtain ⟨dk', k, ok, tk, file, cf, object, iface, toy, lay, methods, target, found, hd', hk, hfile, hcf, hobj, -, hok, hlay, hms, ht, htk, hg, -, hrec, -, -, -, hitf, hpool, hmeth, hfields, hty, hres, -⟩ := Jvm.Lambda.isMade_spec h
  cases hd.symm.trans hd'
  rw [hname, wm1_file] at hcf
  cases hcf
  rw [hO object ok hobj hok, wm1_laid] at hlay
  cases hlay
  obtain ⟨b, hb, hsame⟩ := hmeth 1 wm1_F (wm1_snd methods hms)
  obtain ⟨s1, s2, s3, s4, x, y, s5, s6, s7, s8, s9, s10⟩ := Jvm.Lambda.sameMethod_spec hsame
  have fc := wm1_code
  have ff := wm1_flags
  simp only [Prod.mk.injEq] at ff
  rw [s5] at fc
  simp only [Option.map_some, Option.some.injEq, Prod.mk.injEq] at fc
  obtain ⟨g0, hg0, hp0⟩ := Option.map_eq_some_iff.mp wm1_f0.2.2.2
  simp only [Prod.mk.injEq] at hp0
  obtain ⟨g1, hg1, hp1⟩ := Option.map_eq_some_iff.mp wm1_f1.2.2.2
  simp only [Prod.mk.injEq] at hp1
  obtain ⟨g2, hg2, hp2⟩ := Option.map_eq_some_iff.mp wm1_f2.2.2.2
  simp only [Prod.mk.injEq] at hp2
  obtain ⟨g3, hg3, hp3⟩ := Option.map_eq_some_iff.mp wm1_f3.2.2.2
  simp only [Prod.mk.injEq] at hp3
  refine ⟨k, tk, file, b, y, toy, target, hk, by rw [hrec.1, hname]; rfl, hfile, hpool.2.1, by simp [Vm.method?, hk, hb], s6, by rw [s9]; exact ByteArray.ext fc.1, by rw [s8]; exact fc.2, s10, ?_, by rw [s4]; exact ff.1, by rw [s3]; exact ff.2.2, ht, htk, hg,
    ⟨k, hk, hres 35 _ (Jvm.Lambda.resolvedOf_method wm1_M.1 wm1_M.2.1 ht htk wm1_M.2.2 hg)⟩, ⟨k, hk, hres 31 _ (Jvm.Lambda.resolvedOf_class wm1_C.1 wm1_C.2.2 wm1_C.2.1 ht)⟩, ⟨g0, ⟨k, 0, k, hk, hres 21 _ (Jvm.Lambda.resolvedOf_field wm1_f0.1 wm1_f0.2.1 wm1_f0.2.2.1), hk, hfields 0 _ hg0⟩, hp0.1, hp0.2⟩, ⟨g1, ⟨k, 1, k, hk, hres 23 _ (Jvm.Lambda.resolvedOf_field wm1_f1.1 wm1_f1.2.1 wm1_f1.2.2.1), hk, hfields 1 _ hg1⟩, hp1.1, hp1.2⟩, ⟨g2, ⟨k, 2, k, hk, hres 25 _ (Jvm.Lambda.resolvedOf_field wm1_f2.1 wm1_f2.2.1 wm1_f2.2.2.1), hk, hfields 2 _ hg2⟩, hp2.1, hp2.2⟩, ⟨g3, ⟨k, 3, k, hk, hres 27 _ (Jvm.Lambda.resolvedOf_field wm1_f3.1 wm1_f3.2.1 wm1_f3.2.2.1), hk, hfields 3 _ hg3⟩, hp3.1, hp3.2⟩⟩
  simp [Method.locks, Method.isSynchronized, s4, ff.1, hasFlag, Acc.synchronized]
def wm2_sh : Jvm.Lambda.Shape := { iface := "Weaversgate$Act", name := "with", sam := ⟨[.int], some .int⟩, captured := [], kind := 6, implClass := "Weaversgate$Run", implName := "lambda$done$2", implDesc := ⟨[.int], some .int⟩, implItf := false, inst := ⟨[.int], some .int⟩ }
theorem wm2_site : ∃ x pc i, wv_site 2 = .lambdaSite x pc i wm2_sh := ⟨_, _, _, rfl⟩
def wm2_D : ClassFile := (wm2_sh.file "Weaversgate$Run").getD { minorVersion := 0, majorVersion := 0, constantPool := #[], accessFlags := 0, thisClass := 0, superClass := 0, interfaces := #[], fields := #[], methods := #[], attributes := #[] }
def wm2_F : Method := ((layoutMethods wm2_D).bind (fun x => x[1]?)).getD default
def wm2_L : Array Field × Array FieldType × Array FieldType := (layoutFields wm2_D 0).getD (#[], #[], #[])
def wm2_B : ByteArray := ⟨#[27, 184, 0, 17, 172]⟩
theorem wm2_file : wm2_sh.file "Weaversgate$Run" = some wm2_D := by
  have h : (wm2_sh.file "Weaversgate$Run").isSome = true := by decide +kernel
  obtain ⟨x, hx⟩ := Option.isSome_iff_exists.mp h
  simp [wm2_D, hx]
theorem wm2_snd : ∀ ms, layoutMethods wm2_D = some ms → ms[1]? = some wm2_F := by
  intro ms hms
  have h : ((layoutMethods wm2_D).bind (fun x => x[1]?)).isSome = true := by decide +kernel
  obtain ⟨x, hx⟩ := Option.isSome_iff_exists.mp h
  have hf : wm2_F = x := by simp [wm2_F, hx]
  rw [hms] at hx
  rw [hf]
  exact hx
theorem wm2_laid : layoutFields wm2_D 0 = some wm2_L := by
  have h : (layoutFields wm2_D 0).isSome = true := by decide +kernel
  obtain ⟨x, hx⟩ := Option.isSome_iff_exists.mp h
  simp [wm2_L, hx]
theorem wm2_code : (wm2_F.code.map fun c => (c.code.data, c.maxLocals)) = some (wm2_B.data, 2) := by decide +kernel
theorem wm2_flags : (wm2_F.accessFlags, wm2_F.name, wm2_F.sig.returnType) = (0x0001, "with", some FieldType.int) := by decide +kernel
theorem wm2_lays : (wm2_sh.file "Weaversgate$Run").bind (fun f => (layoutFields f 0).map (fun x => x.2.1)) = some wm2_sh.captured.toArray := by decide +kernel
theorem wm2_M : wm2_D.constantPool[17]? = some (.methodref 14 16) ∧ wm2_D.constantPool.className? 14 = some "Weaversgate$Run" ∧ wm2_D.constantPool.nameAndType? 16 = some ("lambda$done$2", "(I)I") := by decide +kernel
theorem wm2_C : wm2_D.constantPool[14]? = some (.class_ 13) ∧ wm2_D.constantPool.string? 13 = some "Weaversgate$Run" ∧ 14 ≠ wm2_D.thisClass := by decide +kernel
theorem wm2_d0 : decode wm2_B 0 = .ok (.iload_n 1, 1) := by decide +kernel
theorem wm2_d1 : decode wm2_B 1 = .ok (.invokestatic 17, 3) := by decide +kernel
theorem wm2_d4 : decode wm2_B 4 = .ok (.ireturn, 1) := by decide +kernel
theorem wm2_made {vm : Vm} {d c : ClassId} {dk : Class} (hd : vm.classes[d]? = some dk) (hname : dk.name = "Weaversgate$Run") (h : Jvm.Lambda.isMade { classPath := fun _ => none } vm d wm2_sh c = true) (hO : ∀ o ok, vm.findClass "java/lang/Object" = some o → vm.classes[o]? = some ok → ok.instanceTypes.size = 0) :
    ∃ (k tk : Class) (file : ClassFile) (methk : Method) (ck : Code) (toy : ClassId) (t : MethodId), vm.classes[c]? = some k ∧ k.name = "Weaversgate$Run$$Lambda" ∧ k.cf = some file ∧ file.constantPool = wm2_D.constantPool ∧ vm.method? ⟨c, 1⟩ = some methk ∧ methk.code = some ck ∧ ck.code = wm2_B ∧ ck.maxLocals = 2 ∧ ck.exceptionTable = #[] ∧ methk.locks = false ∧ methk.accessFlags = 0x0001 ∧ methk.sig.returnType = some .int ∧
      vm.findClass "Weaversgate$Run" = some toy ∧ vm.classes[toy]? = some tk ∧ ((methodIn toy "lambda$done$2" "(I)I" tk.isInterface none).ask { classPath := fun _ => none } vm).1 = .ok t ∧ vm.methodReady c 17 t ∧ vm.classReady c 14 toy := by
  obtain ⟨dk', k, ok, tk, file, cf, object, iface, toy, lay, methods, target, found, hd', hk, hfile, hcf, hobj, -, hok, hlay, hms, ht, htk, hg, -, hrec, -, -, -, hitf, hpool, hmeth, hfields, hty, hres, -⟩ := Jvm.Lambda.isMade_spec h
  cases hd.symm.trans hd'
  rw [hname, wm2_file] at hcf
  cases hcf
  rw [hO object ok hobj hok, wm2_laid] at hlay
  cases hlay
  obtain ⟨b, hb, hsame⟩ := hmeth 1 wm2_F (wm2_snd methods hms)
  obtain ⟨s1, s2, s3, s4, x, y, s5, s6, s7, s8, s9, s10⟩ := Jvm.Lambda.sameMethod_spec hsame
  have fc := wm2_code
  have ff := wm2_flags
  simp only [Prod.mk.injEq] at ff
  rw [s5] at fc
  simp only [Option.map_some, Option.some.injEq, Prod.mk.injEq] at fc
  refine ⟨k, tk, file, b, y, toy, target, hk, by rw [hrec.1, hname]; rfl, hfile, hpool.2.1, by simp [Vm.method?, hk, hb], s6, by rw [s9]; exact ByteArray.ext fc.1, by rw [s8]; exact fc.2, s10, ?_, by rw [s4]; exact ff.1, by rw [s3]; exact ff.2.2, ht, htk, hg,
    ⟨k, hk, hres 17 _ (Jvm.Lambda.resolvedOf_method wm2_M.1 wm2_M.2.1 ht htk wm2_M.2.2 hg)⟩, ⟨k, hk, hres 14 _ (Jvm.Lambda.resolvedOf_class wm2_C.1 wm2_C.2.2 wm2_C.2.1 ht)⟩⟩
  simp [Method.locks, Method.isSynchronized, s4, ff.1, hasFlag, Acc.synchronized]
def wm3_sh : Jvm.Lambda.Shape := { iface := "Weaversgate$Act", name := "with", sam := ⟨[.int], some .int⟩, captured := [(.object "Weaversgate$Thing"), (.object "Weaversgate$Step")], kind := 6, implClass := "Weaversgate$Run", implName := "lambda$done$3", implDesc := ⟨[(.object "Weaversgate$Thing"), (.object "Weaversgate$Step"), .int], some .int⟩, implItf := false, inst := ⟨[.int], some .int⟩ }
theorem wm3_site : ∃ x pc i, wv_site 3 = .lambdaSite x pc i wm3_sh := ⟨_, _, _, rfl⟩
def wm3_D : ClassFile := (wm3_sh.file "Weaversgate$Run").getD { minorVersion := 0, majorVersion := 0, constantPool := #[], accessFlags := 0, thisClass := 0, superClass := 0, interfaces := #[], fields := #[], methods := #[], attributes := #[] }
def wm3_F : Method := ((layoutMethods wm3_D).bind (fun x => x[1]?)).getD default
def wm3_L : Array Field × Array FieldType × Array FieldType := (layoutFields wm3_D 0).getD (#[], #[], #[])
def wm3_B : ByteArray := ⟨#[42, 180, 0, 17, 42, 180, 0, 19, 27, 184, 0, 27, 172]⟩
theorem wm3_file : wm3_sh.file "Weaversgate$Run" = some wm3_D := by
  have h : (wm3_sh.file "Weaversgate$Run").isSome = true := by decide +kernel
  obtain ⟨x, hx⟩ := Option.isSome_iff_exists.mp h
  simp [wm3_D, hx]
theorem wm3_snd : ∀ ms, layoutMethods wm3_D = some ms → ms[1]? = some wm3_F := by
  intro ms hms
  have h : ((layoutMethods wm3_D).bind (fun x => x[1]?)).isSome = true := by decide +kernel
  obtain ⟨x, hx⟩ := Option.isSome_iff_exists.mp h
  have hf : wm3_F = x := by simp [wm3_F, hx]
  rw [hms] at hx
  rw [hf]
  exact hx
theorem wm3_laid : layoutFields wm3_D 0 = some wm3_L := by
  have h : (layoutFields wm3_D 0).isSome = true := by decide +kernel
  obtain ⟨x, hx⟩ := Option.isSome_iff_exists.mp h
  simp [wm3_L, hx]
theorem wm3_code : (wm3_F.code.map fun c => (c.code.data, c.maxLocals)) = some (wm3_B.data, 2) := by decide +kernel
theorem wm3_flags : (wm3_F.accessFlags, wm3_F.name, wm3_F.sig.returnType) = (0x0001, "with", some FieldType.int) := by decide +kernel
theorem wm3_lays : (wm3_sh.file "Weaversgate$Run").bind (fun f => (layoutFields f 0).map (fun x => x.2.1)) = some wm3_sh.captured.toArray := by decide +kernel
theorem wm3_M : wm3_D.constantPool[27]? = some (.methodref 23 26) ∧ wm3_D.constantPool.className? 23 = some "Weaversgate$Run" ∧ wm3_D.constantPool.nameAndType? 26 = some ("lambda$done$3", "(LWeaversgate$Thing;LWeaversgate$Step;I)I") := by decide +kernel
theorem wm3_C : wm3_D.constantPool[23]? = some (.class_ 22) ∧ wm3_D.constantPool.string? 22 = some "Weaversgate$Run" ∧ 23 ≠ wm3_D.thisClass := by decide +kernel
theorem wm3_f0 : wm3_D.constantPool[17]? = some (.fieldref 2 16) ∧ wm3_D.constantPool.nameAndType? 16 = some ("arg$1", "LWeaversgate$Thing;") ∧ wm3_L.1.findIdx? (fun q => q.name == "arg$1") = some 0 ∧ (wm3_L.1[0]?).map (fun f => (f.isStatic, f.slot)) = some (false, 0) := by decide +kernel
theorem wm3_f1 : wm3_D.constantPool[19]? = some (.fieldref 2 18) ∧ wm3_D.constantPool.nameAndType? 18 = some ("arg$2", "LWeaversgate$Step;") ∧ wm3_L.1.findIdx? (fun q => q.name == "arg$2") = some 1 ∧ (wm3_L.1[1]?).map (fun f => (f.isStatic, f.slot)) = some (false, 1) := by decide +kernel
theorem wm3_d0 : decode wm3_B 0 = .ok (.aload_n 0, 1) := by decide +kernel
theorem wm3_d1 : decode wm3_B 1 = .ok (.getfield 17, 3) := by decide +kernel
theorem wm3_d4 : decode wm3_B 4 = .ok (.aload_n 0, 1) := by decide +kernel
theorem wm3_d5 : decode wm3_B 5 = .ok (.getfield 19, 3) := by decide +kernel
theorem wm3_d8 : decode wm3_B 8 = .ok (.iload_n 1, 1) := by decide +kernel
theorem wm3_d9 : decode wm3_B 9 = .ok (.invokestatic 27, 3) := by decide +kernel
theorem wm3_d12 : decode wm3_B 12 = .ok (.ireturn, 1) := by decide +kernel
theorem wm3_made {vm : Vm} {d c : ClassId} {dk : Class} (hd : vm.classes[d]? = some dk) (hname : dk.name = "Weaversgate$Run") (h : Jvm.Lambda.isMade { classPath := fun _ => none } vm d wm3_sh c = true) (hO : ∀ o ok, vm.findClass "java/lang/Object" = some o → vm.classes[o]? = some ok → ok.instanceTypes.size = 0) :
    ∃ (k tk : Class) (file : ClassFile) (methk : Method) (ck : Code) (toy : ClassId) (t : MethodId), vm.classes[c]? = some k ∧ k.name = "Weaversgate$Run$$Lambda" ∧ k.cf = some file ∧ file.constantPool = wm3_D.constantPool ∧ vm.method? ⟨c, 1⟩ = some methk ∧ methk.code = some ck ∧ ck.code = wm3_B ∧ ck.maxLocals = 2 ∧ ck.exceptionTable = #[] ∧ methk.locks = false ∧ methk.accessFlags = 0x0001 ∧ methk.sig.returnType = some .int ∧
      vm.findClass "Weaversgate$Run" = some toy ∧ vm.classes[toy]? = some tk ∧ ((methodIn toy "lambda$done$3" "(LWeaversgate$Thing;LWeaversgate$Step;I)I" tk.isInterface none).ask { classPath := fun _ => none } vm).1 = .ok t ∧ vm.methodReady c 27 t ∧ vm.classReady c 23 toy ∧ (∃ g : Field, vm.fieldReady c 17 c g ∧ g.isStatic = false ∧ g.slot = 0) ∧ (∃ g : Field, vm.fieldReady c 19 c g ∧ g.isStatic = false ∧ g.slot = 1) := by
  obtain ⟨dk', k, ok, tk, file, cf, object, iface, toy, lay, methods, target, found, hd', hk, hfile, hcf, hobj, -, hok, hlay, hms, ht, htk, hg, -, hrec, -, -, -, hitf, hpool, hmeth, hfields, hty, hres, -⟩ := Jvm.Lambda.isMade_spec h
  cases hd.symm.trans hd'
  rw [hname, wm3_file] at hcf
  cases hcf
  rw [hO object ok hobj hok, wm3_laid] at hlay
  cases hlay
  obtain ⟨b, hb, hsame⟩ := hmeth 1 wm3_F (wm3_snd methods hms)
  obtain ⟨s1, s2, s3, s4, x, y, s5, s6, s7, s8, s9, s10⟩ := Jvm.Lambda.sameMethod_spec hsame
  have fc := wm3_code
  have ff := wm3_flags
  simp only [Prod.mk.injEq] at ff
  rw [s5] at fc
  simp only [Option.map_some, Option.some.injEq, Prod.mk.injEq] at fc
  obtain ⟨g0, hg0, hp0⟩ := Option.map_eq_some_iff.mp wm3_f0.2.2.2
  simp only [Prod.mk.injEq] at hp0
  obtain ⟨g1, hg1, hp1⟩ := Option.map_eq_some_iff.mp wm3_f1.2.2.2
  simp only [Prod.mk.injEq] at hp1
  refine ⟨k, tk, file, b, y, toy, target, hk, by rw [hrec.1, hname]; rfl, hfile, hpool.2.1, by simp [Vm.method?, hk, hb], s6, by rw [s9]; exact ByteArray.ext fc.1, by rw [s8]; exact fc.2, s10, ?_, by rw [s4]; exact ff.1, by rw [s3]; exact ff.2.2, ht, htk, hg,
    ⟨k, hk, hres 27 _ (Jvm.Lambda.resolvedOf_method wm3_M.1 wm3_M.2.1 ht htk wm3_M.2.2 hg)⟩, ⟨k, hk, hres 23 _ (Jvm.Lambda.resolvedOf_class wm3_C.1 wm3_C.2.2 wm3_C.2.1 ht)⟩, ⟨g0, ⟨k, 0, k, hk, hres 17 _ (Jvm.Lambda.resolvedOf_field wm3_f0.1 wm3_f0.2.1 wm3_f0.2.2.1), hk, hfields 0 _ hg0⟩, hp0.1, hp0.2⟩, ⟨g1, ⟨k, 1, k, hk, hres 19 _ (Jvm.Lambda.resolvedOf_field wm3_f1.1 wm3_f1.2.1 wm3_f1.2.2.1), hk, hfields 1 _ hg1⟩, hp1.1, hp1.2⟩⟩
  simp [Method.locks, Method.isSynchronized, s4, ff.1, hasFlag, Acc.synchronized]
def wm4_sh : Jvm.Lambda.Shape := { iface := "Weaversgate$Act", name := "with", sam := ⟨[.int], some .int⟩, captured := [(.object "Weaversgate$Run"), (.object "Weaversgate$Thing"), (.object "Weaversgate$Step")], kind := 5, implClass := "Weaversgate$Run", implName := "lambda$done$4", implDesc := ⟨[(.object "Weaversgate$Thing"), (.object "Weaversgate$Step"), .int], some .int⟩, implItf := false, inst := ⟨[.int], some .int⟩ }
theorem wm4_site : ∃ x pc i, wv_site 4 = .lambdaSite x pc i wm4_sh := ⟨_, _, _, rfl⟩
def wm4_D : ClassFile := (wm4_sh.file "Weaversgate$Run").getD { minorVersion := 0, majorVersion := 0, constantPool := #[], accessFlags := 0, thisClass := 0, superClass := 0, interfaces := #[], fields := #[], methods := #[], attributes := #[] }
def wm4_F : Method := ((layoutMethods wm4_D).bind (fun x => x[1]?)).getD default
def wm4_L : Array Field × Array FieldType × Array FieldType := (layoutFields wm4_D 0).getD (#[], #[], #[])
def wm4_B : ByteArray := ⟨#[42, 180, 0, 19, 42, 180, 0, 21, 42, 180, 0, 23, 27, 182, 0, 31, 172]⟩
theorem wm4_file : wm4_sh.file "Weaversgate$Run" = some wm4_D := by
  have h : (wm4_sh.file "Weaversgate$Run").isSome = true := by decide +kernel
  obtain ⟨x, hx⟩ := Option.isSome_iff_exists.mp h
  simp [wm4_D, hx]
theorem wm4_snd : ∀ ms, layoutMethods wm4_D = some ms → ms[1]? = some wm4_F := by
  intro ms hms
  have h : ((layoutMethods wm4_D).bind (fun x => x[1]?)).isSome = true := by decide +kernel
  obtain ⟨x, hx⟩ := Option.isSome_iff_exists.mp h
  have hf : wm4_F = x := by simp [wm4_F, hx]
  rw [hms] at hx
  rw [hf]
  exact hx
theorem wm4_laid : layoutFields wm4_D 0 = some wm4_L := by
  have h : (layoutFields wm4_D 0).isSome = true := by decide +kernel
  obtain ⟨x, hx⟩ := Option.isSome_iff_exists.mp h
  simp [wm4_L, hx]
theorem wm4_code : (wm4_F.code.map fun c => (c.code.data, c.maxLocals)) = some (wm4_B.data, 2) := by decide +kernel
theorem wm4_flags : (wm4_F.accessFlags, wm4_F.name, wm4_F.sig.returnType) = (0x0001, "with", some FieldType.int) := by decide +kernel
theorem wm4_lays : (wm4_sh.file "Weaversgate$Run").bind (fun f => (layoutFields f 0).map (fun x => x.2.1)) = some wm4_sh.captured.toArray := by decide +kernel
theorem wm4_M : wm4_D.constantPool[31]? = some (.methodref 27 30) ∧ wm4_D.constantPool.className? 27 = some "Weaversgate$Run" ∧ wm4_D.constantPool.nameAndType? 30 = some ("lambda$done$4", "(LWeaversgate$Thing;LWeaversgate$Step;I)I") := by decide +kernel
theorem wm4_C : wm4_D.constantPool[27]? = some (.class_ 26) ∧ wm4_D.constantPool.string? 26 = some "Weaversgate$Run" ∧ 27 ≠ wm4_D.thisClass := by decide +kernel
theorem wm4_f0 : wm4_D.constantPool[19]? = some (.fieldref 2 18) ∧ wm4_D.constantPool.nameAndType? 18 = some ("arg$1", "LWeaversgate$Run;") ∧ wm4_L.1.findIdx? (fun q => q.name == "arg$1") = some 0 ∧ (wm4_L.1[0]?).map (fun f => (f.isStatic, f.slot)) = some (false, 0) := by decide +kernel
theorem wm4_f1 : wm4_D.constantPool[21]? = some (.fieldref 2 20) ∧ wm4_D.constantPool.nameAndType? 20 = some ("arg$2", "LWeaversgate$Thing;") ∧ wm4_L.1.findIdx? (fun q => q.name == "arg$2") = some 1 ∧ (wm4_L.1[1]?).map (fun f => (f.isStatic, f.slot)) = some (false, 1) := by decide +kernel
theorem wm4_f2 : wm4_D.constantPool[23]? = some (.fieldref 2 22) ∧ wm4_D.constantPool.nameAndType? 22 = some ("arg$3", "LWeaversgate$Step;") ∧ wm4_L.1.findIdx? (fun q => q.name == "arg$3") = some 2 ∧ (wm4_L.1[2]?).map (fun f => (f.isStatic, f.slot)) = some (false, 2) := by decide +kernel
theorem wm4_d0 : decode wm4_B 0 = .ok (.aload_n 0, 1) := by decide +kernel
theorem wm4_d1 : decode wm4_B 1 = .ok (.getfield 19, 3) := by decide +kernel
theorem wm4_d4 : decode wm4_B 4 = .ok (.aload_n 0, 1) := by decide +kernel
theorem wm4_d5 : decode wm4_B 5 = .ok (.getfield 21, 3) := by decide +kernel
theorem wm4_d8 : decode wm4_B 8 = .ok (.aload_n 0, 1) := by decide +kernel
theorem wm4_d9 : decode wm4_B 9 = .ok (.getfield 23, 3) := by decide +kernel
theorem wm4_d12 : decode wm4_B 12 = .ok (.iload_n 1, 1) := by decide +kernel
theorem wm4_d13 : decode wm4_B 13 = .ok (.invokevirtual 31, 3) := by decide +kernel
theorem wm4_d16 : decode wm4_B 16 = .ok (.ireturn, 1) := by decide +kernel
theorem wm4_made {vm : Vm} {d c : ClassId} {dk : Class} (hd : vm.classes[d]? = some dk) (hname : dk.name = "Weaversgate$Run") (h : Jvm.Lambda.isMade { classPath := fun _ => none } vm d wm4_sh c = true) (hO : ∀ o ok, vm.findClass "java/lang/Object" = some o → vm.classes[o]? = some ok → ok.instanceTypes.size = 0) :
    ∃ (k tk : Class) (file : ClassFile) (methk : Method) (ck : Code) (toy : ClassId) (t : MethodId), vm.classes[c]? = some k ∧ k.name = "Weaversgate$Run$$Lambda" ∧ k.cf = some file ∧ file.constantPool = wm4_D.constantPool ∧ vm.method? ⟨c, 1⟩ = some methk ∧ methk.code = some ck ∧ ck.code = wm4_B ∧ ck.maxLocals = 2 ∧ ck.exceptionTable = #[] ∧ methk.locks = false ∧ methk.accessFlags = 0x0001 ∧ methk.sig.returnType = some .int ∧
      vm.findClass "Weaversgate$Run" = some toy ∧ vm.classes[toy]? = some tk ∧ ((methodIn toy "lambda$done$4" "(LWeaversgate$Thing;LWeaversgate$Step;I)I" tk.isInterface none).ask { classPath := fun _ => none } vm).1 = .ok t ∧ vm.methodReady c 31 t ∧ vm.classReady c 27 toy ∧ (∃ g : Field, vm.fieldReady c 19 c g ∧ g.isStatic = false ∧ g.slot = 0) ∧ (∃ g : Field, vm.fieldReady c 21 c g ∧ g.isStatic = false ∧ g.slot = 1) ∧ (∃ g : Field, vm.fieldReady c 23 c g ∧ g.isStatic = false ∧ g.slot = 2) := by
  obtain ⟨dk', k, ok, tk, file, cf, object, iface, toy, lay, methods, target, found, hd', hk, hfile, hcf, hobj, -, hok, hlay, hms, ht, htk, hg, -, hrec, -, -, -, hitf, hpool, hmeth, hfields, hty, hres, -⟩ := Jvm.Lambda.isMade_spec h
  cases hd.symm.trans hd'
  rw [hname, wm4_file] at hcf
  cases hcf
  rw [hO object ok hobj hok, wm4_laid] at hlay
  cases hlay
  obtain ⟨b, hb, hsame⟩ := hmeth 1 wm4_F (wm4_snd methods hms)
  obtain ⟨s1, s2, s3, s4, x, y, s5, s6, s7, s8, s9, s10⟩ := Jvm.Lambda.sameMethod_spec hsame
  have fc := wm4_code
  have ff := wm4_flags
  simp only [Prod.mk.injEq] at ff
  rw [s5] at fc
  simp only [Option.map_some, Option.some.injEq, Prod.mk.injEq] at fc
  obtain ⟨g0, hg0, hp0⟩ := Option.map_eq_some_iff.mp wm4_f0.2.2.2
  simp only [Prod.mk.injEq] at hp0
  obtain ⟨g1, hg1, hp1⟩ := Option.map_eq_some_iff.mp wm4_f1.2.2.2
  simp only [Prod.mk.injEq] at hp1
  obtain ⟨g2, hg2, hp2⟩ := Option.map_eq_some_iff.mp wm4_f2.2.2.2
  simp only [Prod.mk.injEq] at hp2
  refine ⟨k, tk, file, b, y, toy, target, hk, by rw [hrec.1, hname]; rfl, hfile, hpool.2.1, by simp [Vm.method?, hk, hb], s6, by rw [s9]; exact ByteArray.ext fc.1, by rw [s8]; exact fc.2, s10, ?_, by rw [s4]; exact ff.1, by rw [s3]; exact ff.2.2, ht, htk, hg,
    ⟨k, hk, hres 31 _ (Jvm.Lambda.resolvedOf_method wm4_M.1 wm4_M.2.1 ht htk wm4_M.2.2 hg)⟩, ⟨k, hk, hres 27 _ (Jvm.Lambda.resolvedOf_class wm4_C.1 wm4_C.2.2 wm4_C.2.1 ht)⟩, ⟨g0, ⟨k, 0, k, hk, hres 19 _ (Jvm.Lambda.resolvedOf_field wm4_f0.1 wm4_f0.2.1 wm4_f0.2.2.1), hk, hfields 0 _ hg0⟩, hp0.1, hp0.2⟩, ⟨g1, ⟨k, 1, k, hk, hres 21 _ (Jvm.Lambda.resolvedOf_field wm4_f1.1 wm4_f1.2.1 wm4_f1.2.2.1), hk, hfields 1 _ hg1⟩, hp1.1, hp1.2⟩, ⟨g2, ⟨k, 2, k, hk, hres 23 _ (Jvm.Lambda.resolvedOf_field wm4_f2.1 wm4_f2.2.1 wm4_f2.2.2.1), hk, hfields 2 _ hg2⟩, hp2.1, hp2.2⟩⟩
  simp [Method.locks, Method.isSynchronized, s4, ff.1, hasFlag, Acc.synchronized]
def wm5_sh : Jvm.Lambda.Shape := { iface := "Weaversgate$Act", name := "with", sam := ⟨[.int], some .int⟩, captured := [], kind := 6, implClass := "Weaversgate$Run", implName := "lambda$handled$5", implDesc := ⟨[.int], some .int⟩, implItf := false, inst := ⟨[.int], some .int⟩ }
theorem wm5_site : ∃ x pc i, wv_site 5 = .lambdaSite x pc i wm5_sh := ⟨_, _, _, rfl⟩
def wm5_D : ClassFile := (wm5_sh.file "Weaversgate$Run").getD { minorVersion := 0, majorVersion := 0, constantPool := #[], accessFlags := 0, thisClass := 0, superClass := 0, interfaces := #[], fields := #[], methods := #[], attributes := #[] }
def wm5_F : Method := ((layoutMethods wm5_D).bind (fun x => x[1]?)).getD default
def wm5_L : Array Field × Array FieldType × Array FieldType := (layoutFields wm5_D 0).getD (#[], #[], #[])
def wm5_B : ByteArray := ⟨#[27, 184, 0, 17, 172]⟩
theorem wm5_file : wm5_sh.file "Weaversgate$Run" = some wm5_D := by
  have h : (wm5_sh.file "Weaversgate$Run").isSome = true := by decide +kernel
  obtain ⟨x, hx⟩ := Option.isSome_iff_exists.mp h
  simp [wm5_D, hx]
theorem wm5_snd : ∀ ms, layoutMethods wm5_D = some ms → ms[1]? = some wm5_F := by
  intro ms hms
  have h : ((layoutMethods wm5_D).bind (fun x => x[1]?)).isSome = true := by decide +kernel
  obtain ⟨x, hx⟩ := Option.isSome_iff_exists.mp h
  have hf : wm5_F = x := by simp [wm5_F, hx]
  rw [hms] at hx
  rw [hf]
  exact hx
theorem wm5_laid : layoutFields wm5_D 0 = some wm5_L := by
  have h : (layoutFields wm5_D 0).isSome = true := by decide +kernel
  obtain ⟨x, hx⟩ := Option.isSome_iff_exists.mp h
  simp [wm5_L, hx]
theorem wm5_code : (wm5_F.code.map fun c => (c.code.data, c.maxLocals)) = some (wm5_B.data, 2) := by decide +kernel
theorem wm5_flags : (wm5_F.accessFlags, wm5_F.name, wm5_F.sig.returnType) = (0x0001, "with", some FieldType.int) := by decide +kernel
theorem wm5_lays : (wm5_sh.file "Weaversgate$Run").bind (fun f => (layoutFields f 0).map (fun x => x.2.1)) = some wm5_sh.captured.toArray := by decide +kernel
theorem wm5_M : wm5_D.constantPool[17]? = some (.methodref 14 16) ∧ wm5_D.constantPool.className? 14 = some "Weaversgate$Run" ∧ wm5_D.constantPool.nameAndType? 16 = some ("lambda$handled$5", "(I)I") := by decide +kernel
theorem wm5_C : wm5_D.constantPool[14]? = some (.class_ 13) ∧ wm5_D.constantPool.string? 13 = some "Weaversgate$Run" ∧ 14 ≠ wm5_D.thisClass := by decide +kernel
theorem wm5_d0 : decode wm5_B 0 = .ok (.iload_n 1, 1) := by decide +kernel
theorem wm5_d1 : decode wm5_B 1 = .ok (.invokestatic 17, 3) := by decide +kernel
theorem wm5_d4 : decode wm5_B 4 = .ok (.ireturn, 1) := by decide +kernel
theorem wm5_made {vm : Vm} {d c : ClassId} {dk : Class} (hd : vm.classes[d]? = some dk) (hname : dk.name = "Weaversgate$Run") (h : Jvm.Lambda.isMade { classPath := fun _ => none } vm d wm5_sh c = true) (hO : ∀ o ok, vm.findClass "java/lang/Object" = some o → vm.classes[o]? = some ok → ok.instanceTypes.size = 0) :
    ∃ (k tk : Class) (file : ClassFile) (methk : Method) (ck : Code) (toy : ClassId) (t : MethodId), vm.classes[c]? = some k ∧ k.name = "Weaversgate$Run$$Lambda" ∧ k.cf = some file ∧ file.constantPool = wm5_D.constantPool ∧ vm.method? ⟨c, 1⟩ = some methk ∧ methk.code = some ck ∧ ck.code = wm5_B ∧ ck.maxLocals = 2 ∧ ck.exceptionTable = #[] ∧ methk.locks = false ∧ methk.accessFlags = 0x0001 ∧ methk.sig.returnType = some .int ∧
      vm.findClass "Weaversgate$Run" = some toy ∧ vm.classes[toy]? = some tk ∧ ((methodIn toy "lambda$handled$5" "(I)I" tk.isInterface none).ask { classPath := fun _ => none } vm).1 = .ok t ∧ vm.methodReady c 17 t ∧ vm.classReady c 14 toy := by
  obtain ⟨dk', k, ok, tk, file, cf, object, iface, toy, lay, methods, target, found, hd', hk, hfile, hcf, hobj, -, hok, hlay, hms, ht, htk, hg, -, hrec, -, -, -, hitf, hpool, hmeth, hfields, hty, hres, -⟩ := Jvm.Lambda.isMade_spec h
  cases hd.symm.trans hd'
  rw [hname, wm5_file] at hcf
  cases hcf
  rw [hO object ok hobj hok, wm5_laid] at hlay
  cases hlay
  obtain ⟨b, hb, hsame⟩ := hmeth 1 wm5_F (wm5_snd methods hms)
  obtain ⟨s1, s2, s3, s4, x, y, s5, s6, s7, s8, s9, s10⟩ := Jvm.Lambda.sameMethod_spec hsame
  have fc := wm5_code
  have ff := wm5_flags
  simp only [Prod.mk.injEq] at ff
  rw [s5] at fc
  simp only [Option.map_some, Option.some.injEq, Prod.mk.injEq] at fc
  refine ⟨k, tk, file, b, y, toy, target, hk, by rw [hrec.1, hname]; rfl, hfile, hpool.2.1, by simp [Vm.method?, hk, hb], s6, by rw [s9]; exact ByteArray.ext fc.1, by rw [s8]; exact fc.2, s10, ?_, by rw [s4]; exact ff.1, by rw [s3]; exact ff.2.2, ht, htk, hg,
    ⟨k, hk, hres 17 _ (Jvm.Lambda.resolvedOf_method wm5_M.1 wm5_M.2.1 ht htk wm5_M.2.2 hg)⟩, ⟨k, hk, hres 14 _ (Jvm.Lambda.resolvedOf_class wm5_C.1 wm5_C.2.2 wm5_C.2.1 ht)⟩⟩
  simp [Method.locks, Method.isSynchronized, s4, ff.1, hasFlag, Acc.synchronized]
end WV17
