/-! ROWS 14: calls of Act.with on the objects that stand for lambdas -/
section WV18
def wyA : MethodName := ⟨"Weaversgate$Act", "with", "(I)I"⟩
theorem wv_Rep.lam {G : wv_G} {h : wv_H} {H : Heap} (hR : wv_Rep G h H) {a j : Nat} {t : wv_T} {vs : List Value} (ha : h a = some (t, wo_M j vs)) : H[a]? = some { cls := wv_lcls G j, slots := vs.toArray, vm := .none } := by
  obtain ⟨-, -, own, h1, -⟩ := hR
  exact (h1 a t _ ha).2
variable {G : wv_G} {p : Program} {e : Env} {R : Room} {s : State} {m : MethodId} {args : Array Value} {below : List Frame} {meth : Method} {c : Code} {fr : Nat} {own : String} {cc : ByteArray} {nL : Nat} {ret : Option FieldType} {nm : String} {tb : List (Nat × Nat × Nat × Nat)}
variable {w : wv_W} {H : Heap} {Q : State → Prop} {pc : Nat} {ls : Array Slot} {rest : List Value}
theorem wv_callLam {T : State} {locs : List Loc} {cells slots : Nat} (X : Stand p G.1 e R s m args below meth c T locs cells slots) (hexec : p.tables.exec = Jvm.exec) {own : String} {index count : Nat} (hown : s.vm.findClass own = some m.cls) (hlink : (Cond.methodLink own index wyA).before args s = true) (hdecl : (Cond.declares wyA).before args s = true) (hface : (Cond.interfaceMethod wyA.cls wyA.cls wyA.name wyA.desc).before args s = true)
    {d : ClassId} {sh : Jvm.Lambda.Shape} {a : Nat} {cell : Cell} (hcell : T.heap[a]? = some cell) (hobj : cell.vm = .none) (hmade : Jvm.Lambda.isMade { classPath := fun _ => none } s.vm d sh cell.cls = true) (hcan : s.lambdaCallable sh cell.cls = true) (hi : sh.iface = "Weaversgate$Act") (hn' : sh.name = "with") (hs' : sh.sam.toString = "(I)I")
    {methK : Method} (hmK : s.vm.method? ⟨cell.cls, 1⟩ = some methK) (hfl : methK.accessFlags = 0x0001)
    {g : JFrame} (hg : g.method = m) {n : Int32} {rest : List Value} (hstack : g.stack = .int n :: .ref a :: rest) (hdg : decode c.code g.pc = .ok (.invokeinterface index count, 5)) :
    ∃ vm₁, Stand p G.1 e R s m args below meth c (T.setVm vm₁) locs cells slots ∧ ∀ target, (∀ acts, Steps p.tables e below (doInvoke e ((T.setVm vm₁).setTop { g with stack := rest }) acts ⟨cell.cls, 1⟩ #[.ref a, .int n]).1 target) → Steps p.tables e below (T.setTop g) target := by
  obtain ⟨r0, r, hn, hrm, hstR, hsigR⟩ := Cond.declares_spec hdecl
  obtain ⟨cL, kL, r1, hcL, hkL, hiL, hfoundL, hn1⟩ := Cond.interfaceMethod_spec hface
  cases hn.symm.trans hn1
  have hr0cls : r0.cls = cL := Option.some.inj ((findClass_of_methodNamed hn).symm.trans hcL)
  obtain ⟨hnameR, hdescR⟩ := name_of_methodNamed hn hrm
  obtain ⟨dk', k, ok, tk, file, cf, object, iface', t, lay, methods, tgt, found, -, hk, -, -, -, hi', -, -, -, -, -, -, hfound', -, -, -, -, -, -, -, -, -, -, hsel⟩ := Jvm.Lambda.isMade_spec hmade
  rw [hi] at hi'
  have hcL' : s.vm.findClass "Weaversgate$Act" = some cL := hcL
  cases hcL'.symm.trans hi'
  rw [hn', hs'] at hfound'
  have hfr : found = r0 := by
    have h1 : s.methodFound? "Weaversgate$Act" "with" "(I)I" = some r0 := hfoundL
    simp only [State.methodFound?, hcL', hkL, hiL, Option.bind_eq_bind, Option.bind_some] at h1
    rw [hfound'] at h1
    exact Option.some.inj h1
  subst hfr
  obtain ⟨i2, hi2, hasg, hway⟩ := State.lambdaCallable_spec hcan
  rw [hi] at hi2
  cases hcL'.symm.trans hi2
  rw [hn', hs'] at hway
  have hselP : selectMethod e.platform s.vm cell.cls found = .method ⟨cell.cls, 1⟩ := by rw [Launch.admits_selectMethod X.admits]; exact hsel
  have hway' : ((cell.cls :: s.vm.superclasses cell.cls).any fun k => (declaredIn s.vm r.name r.desc k).any fun (_, z) => z.isPrivate || z.isStatic) = false := by
    rw [hnameR, hdescR]; exact hway
  have hlen : [Value.int n].length = r.sig.parameters.length := by
    have h1 : parseMethodDescriptor "(I)I" = some r.sig := hsigR
    have h2 : (parseMethodDescriptor "(I)I").map (fun d => d.parameters.length) = some 1 := by decide +kernel
    rw [h1] at h2
    exact (Option.some.inj h2).symm
  obtain ⟨vm₁, X₁, hstep₁⟩ := X.invokeinterface hexec hown hlink hn hrm hstR (by rw [hr0cls]; exact hkL) hiL ⟨by decide, by decide⟩ (a := a) (cell := cell) (kcell := k) hcell
    (fun z h => by rw [hobj] at h; cases h) hk (by rw [hr0cls]; exact hasg) hselP hmK hway' (by rw [hfl]; decide) (by simp [Method.isAbstract, hfl, hasFlag, Acc.abstract]) (g := g) hg (argsL := [.int n]) (rest := rest) hlen hstack hdg
  exact ⟨vm₁, X₁, fun target h => hstep₁ target h⟩
theorem wv_obj0 {A : Array Value} {U : State} (h : (Cond.instantiable "java/lang/Object" 0).before A U = true) : ∀ o ok, U.vm.findClass "java/lang/Object" = some o → U.vm.classes[o]? = some ok → ok.instanceTypes.size = 0 := by
  intro o ok ho hok
  obtain ⟨cO, kO, o1, o2, -, -, -, o3⟩ := Cond.instantiable_spec h
  cases ho.symm.trans o1
  cases hok.symm.trans o2
  exact o3
set_option maxHeartbeats 4000000 in
theorem wr_with0 {locs : List Loc} {cells slots : Nat} (X : wv_ok G p R s m args meth c fr own cc nL ret nm tb) (S : wv_S G R s w H locs cells slots) {a : Nat} {t : wv_T} {n : Int32} {index count fr' kc ks : Nat} {u0 : Nat} {u1 : Nat} {i2 : Int32} {P' : wv_R → wv_H → Prop} (ha : w.1 a = some (t, wo_M 0 [.ref u0, .ref u1, .int i2])) (hr0 : wv_is G w.1 u0 "Weaversgate$Run") (hC : wv_C G yX2_lambda_call_0 [.ref u0, .ref u1, .int i2, .int n] w.1 fr' kc ks P') (hint : ∀ v h', P' (.inl v) h' → ∃ x : Int32, v = some (.int x)) (hfr : fr' + 2 ≤ fr) (hkc : kc ≤ w.2.1) (hks : ks ≤ w.2.2) (hl : Cond.methodLink own index wyA ∈ lw_all) (hW : (rest.map fun v => v.category).sum ≤ 8) (hls : ls.size = nL) (hdg : decode cc pc = .ok (.invokeinterface index count, 5))
    (kk : ∀ (x : Int32) (h' : wv_H) (H1 : Heap) (locs1 : List Loc) (cells1 slots1 : Nat), P' (.inl (some (.int x))) h' → wv_S G R s (h', w.2.1 - kc, w.2.2 - ks) H1 locs1 cells1 slots1 → W p G.1 e R s m args below meth c H1 locs1 cells1 slots1 Q (F0 m (pc + 5) ls (.int x :: rest)))
    (kx : ∀ (E : String) (q : Nat) (h' : wv_H) (H1 : Heap) (locs1 : List Loc) (cells1 slots1 : Nat), P' (.inr (E, q)) h' → wv_S G R s (h', w.2.1 - kc, w.2.2 - ks) H1 locs1 cells1 slots1 → wv_th s H1 E q → vx_W p G.1 e R s m args below meth c H1 locs1 cells1 slots1 Q (F0 m pc ls rest) q) : W p G.1 e R s m args below meth c H locs cells slots Q (F0 m pc ls (.int n :: .ref a :: rest)) := by
  intro T hT Z
  have g1 := S.2.2.1
  have g2 := S.2.2.2.1
  have hlo := X.hlo
  have hff := X.hfr
  obtain ⟨m', kS, cf, i0, p0, lk, k1, k2, k3, k4, k5, k6, k7, k8⟩ := X.site (j := 0) (sh := wm0_sh) (x := ⟨"Weaversgate$Run", "call", "(LWeaversgate$Thing;IIILWeaversgate$Place;)I"⟩) (pc0 := 16) (i := 160) (by decide) rfl
  obtain ⟨kS', hkS', hnameS⟩ := className_of_methodNamed k1
  cases k2.symm.trans hkS'
  have hnameS : kS.name = "Weaversgate$Run" := hnameS
  have hcell : H[a]? = some { cls := wv_lcls G 0, slots := ([.ref u0, .ref u1, .int i2] : List Value).toArray, vm := .none } := S.1.lam ha
  obtain ⟨cellA, hcA, hclA, hvmA, hslA⟩ : ∃ cellA : Cell, H[a]? = some cellA ∧ cellA.cls = wv_lcls G 0 ∧ cellA.vm = .none ∧ cellA.slots = ([.ref u0, .ref u1, .int i2] : List Value).toArray := ⟨_, hcell, rfl, rfl, rfl⟩
  have hcT : T.heap[a]? = some cellA := by rw [hT]; exact hcA
  obtain ⟨k0, tk0, file0, methk0, ck0, toy0, tB0, e1, e2, e3, e4, e5, e6, e7, e8, e9, e10, e11, e12, e13, e14, e15, e16, e17, -⟩ := wm0_made k2 hnameS k6 (wv_obj0 (X.hts _ q2657))
  obtain ⟨b0, hb0⟩ := X.hG.2.2.1
  have hFw : va_Nw (.declares wyA) s := va_Nw.warmD X.hW (va_Nw.of rfl (hb0 _ q1178))
  obtain ⟨vm₁, X₁, st1⟩ := wv_callLam Z X.hx X.hown (X.hts _ hl) (va_Nw.use rfl hFw) (X.ifaceW (x := wyA) q1177 q1178 ⟨by decide, by decide⟩) hcT hvmA (by rw [hclA]; exact k6) (by rw [hclA]; exact k7) rfl rfl (by decide +kernel) (by rw [hclA]; exact e5) e11 (g := F0 m pc ls (.int n :: .ref a :: rest)) rfl (n := n) (rest := rest) rfl (by rw [X.hb]; exact hdg)
  rw [hclA] at st1
  have hW1 : s.WarmedH vm₁ := X₁.warmed
  have hal := hW1.alike
  obtain ⟨kS1, hkS1, heS1⟩ := hal.2.2 _ _ k2
  have hO1 : ∀ o ok, vm₁.findClass "java/lang/Object" = some o → vm₁.classes[o]? = some ok → ok.instanceTypes.size = 0 := wv_obj0 (A := args) (U := T.setVm vm₁) (word_at (U := T.setVm vm₁) hW1 (lw_self _ q2657).2 (X.hts _ q2657))
  obtain ⟨k, tk, file, methk, ck, toy, tB, f1, f2, f3, f4, f5, f6, f7, f8, f9, f10, f11, f12, f13, f14, f15, f16, f17, ⟨g0, hg0, hs0, hl0⟩, ⟨g1, hg1, hs1, hl1⟩, ⟨g2, hg2, hs2, hl2⟩⟩ := wm0_made (vm := vm₁) hkS1 (by rw [heS1]; exact hnameS) (Jvm.Lambda.isMade_warmer hW1 k6) hO1
  have hpk : (T.setVm vm₁).plainMethod ⟨wv_lcls G 0, 1⟩ := State.plainMethod.of_name (fun k' hk' => by cases f1.symm.trans hk'; rw [f2]; decide)
  obtain ⟨Y₀, hin⟩ := X₁.into (g := F0 m pc ls rest) rfl (by rw [X.hml]; exact hls) (by rw [X.hb]; exact hdg) #[.ref a, .int n] (R' := { frames := fr - 1, locals := 64 * (fr - 1), cells := kc, slots := ks }) f5 f6 f10 hpk (by show fr - 1 + 1 ≤ R.frames; omega) (by rw [f8]; show 2 * 0 + (rest.map fun v => v.category).sum + (2 + 11) + 64 * (fr - 1) ≤ R.locals; omega) (by show cells + kc ≤ R.cells; omega) (by show slots + ks ≤ R.slots; omega)
  rw [f8] at Y₀ hin
  have hent : entryFrame ⟨wv_lcls G 0, 1⟩ #[.ref a, .int n] 2 = { method := ⟨wv_lcls G 0, 1⟩, pc := 0, locals := #[.val (.ref a), .val (.int n)], stack := [], locked := none } := rfl
  rw [hent] at Y₀ hin
  generalize hU0 : ((T.setVm vm₁).setTop (F0 m pc ls rest)).pushFrame (.java { method := ⟨wv_lcls G 0, 1⟩, pc := 0, locals := #[.val (.ref a), .val (.int n)], stack := [], locked := none }) = U₀ at Y₀ hin
  have hvm : U₀.vm = vm₁ := by rw [← hU0]; rfl
  have hheap : U₀.heap = H := by rw [← hU0]; exact hT
  obtain ⟨mB, methB, hnB, hmB0, hstB, habB⟩ := Cond.instanceMethod_spec (X.hts _ q972)
  have hnB : s.methodNamed? yX2_lambda_call_0 = some mB := hnB
  obtain ⟨methB', cB, hmB', -, -, -, -, -, -, hsigB⟩ := Cond.code_spec hnB (X.hts _ q973)
  cases hmB0.symm.trans hmB'
  have hmB : vm₁.method? mB = some methB := by rw [hal.method?]; exact hmB0
  have hfT : s.vm.findClass "Weaversgate$Run" = some mB.cls := findClass_of_methodNamed hnB
  have htoy : toy = mB.cls := by
    have h1 := f13
    rw [hal.findClass, hfT] at h1
    exact (Option.some.inj h1).symm
  subst htoy
  have hinitB : tk.init = .initialized := Cond.initialized_spec (s := T.setVm vm₁) f13 f14 (word_at (a' := args) (U := T.setVm vm₁) hW1 (lw_self _ q64).2 (X.hts _ q64))
  obtain ⟨kB, hkB, hnameB⟩ := className_of_methodNamed hnB
  obtain ⟨kB1, hkB1, heB1⟩ := hal.2.2 _ _ hkB
  cases f14.symm.trans hkB1
  have hsp : ∀ y : Method, signaturePolymorphic tk y = false := fun y => by
    have h1 : tk.name = "Weaversgate$Run" := by rw [heB1]; exact hnameB
    simp [signaturePolymorphic, h1]
  have hnB1 : (T.setVm vm₁).methodNamed? yX2_lambda_call_0 = some mB := by
    have h1 := State.methodNamed?_setVm (s := s) hal yX2_lambda_call_0
    rw [hnB] at h1
    exact h1
  have htB : tB = mB := by
    have h1 : (T.setVm vm₁).methodFound? "Weaversgate$Run" "lambda$call$0" "(LWeaversgate$Thing;II)I" = some mB := State.methodFound?_of_named hnB1 (by decide)
    have f13' : (T.setVm vm₁).vm.findClass "Weaversgate$Run" = some mB.cls := f13
    have f14' : (T.setVm vm₁).vm.classes[mB.cls]? = some tk := f14
    simp only [State.methodFound?, f13', f14', Option.bind_eq_bind, Option.bind_some] at h1
    have f15' : ((methodIn mB.cls "lambda$call$0" "(LWeaversgate$Thing;II)I" tk.isInterface none).ask { classPath := fun _ => none } (T.setVm vm₁).vm).1 = .ok tB := f15
    rw [f15'] at h1
    exact Option.some.inj h1
  subst htB
  have hlenB : ([.ref u1, .int i2, .int n] : List Value).length = methB.sig.parameters.length := by
    have h1 : parseMethodDescriptor "(LWeaversgate$Thing;II)I" = some methB.sig := hsigB
    have h2 : (parseMethodDescriptor "(LWeaversgate$Thing;II)I").map (fun d => d.parameters.length) = some 3 := by decide +kernel
    rw [h1] at h2
    exact (Option.some.inj h2).symm
  obtain ⟨cellR, hcR, hoR, hclR⟩ := hr0.cell X S.1
  have hobR : ∀ c, cellR.vm ≠ .statics c := fun c h => by rw [h] at hoR; cases hoR
  obtain ⟨c2, r2, m2, p1, p2, p3, p4, kP, hkP, hkPi⟩ := Cond.selects_spec (X.hts _ qs14)
  cases hfT.symm.trans p1
  have hr2 : r2 = tB := by
    have h1 : s.methodFound? "Weaversgate$Run" "lambda$call$0" "(LWeaversgate$Thing;II)I" = some tB := State.methodFound?_of_named hnB (by decide)
    exact Option.some.inj (p2.symm.trans h1)
  subst hr2
  cases hnB.symm.trans p3
  cases hkB.symm.trans hkP
  have hitf : tk.isInterface = false := by rw [heB1]; exact hkPi
  have hselB : selectMethod e.platform U₀.vm cellR.cls r2 = .method r2 := by
    rw [Launch.admits_selectMethod Z.admits, hvm, hal.selectMethod, ← Option.some.inj (hfT.symm.trans hclR)]
    exact p4
  obtain ⟨hK, -⟩ := hC.back (e := e) (p := p) (R := { frames := fr - 1, locals := 64 * (fr - 1), cells := kc, slots := ks }) (below := .java (F0 m pc ls rest) :: below) (s := (T.setVm vm₁).calling (F0 m pc ls rest) ⟨wv_lcls G 0, 1⟩ #[.ref a, .int n]) (sargs := #[.ref a, .int n]) (len := 3) (by show fr' + 1 ≤ fr - 1; omega) rfl (fun z hz => word_at (U := (T.setVm vm₁).calling (F0 m pc ls rest) ⟨wv_lcls G 0, 1⟩ #[.ref a, .int n]) hW1 (lw_self z hz).2 (X.hts z hz)) (word_at (U := (T.setVm vm₁).calling (F0 m pc ls rest) ⟨wv_lcls G 0, 1⟩ #[.ref a, .int n]) hW1 (lw_self _ q64).2 (X.hts _ q64))
  have hs : U₀.topJava?.isSome := Y₀.here.top
  have hstart : ∀ t9 : State, Steps p.tables e (.java (F0 m pc ls rest) :: below) (doInvoke e (U₀.setTop { method := ⟨wv_lcls G 0, 1⟩, pc := 13, locals := #[.val (.ref a), .val (.int n)], stack := [], locked := none }) [] r2 ([.ref u0, .ref u1, .int i2, .int n] : List Value).toArray).1 t9 → Steps p.tables e (.java (F0 m pc ls rest) :: below) (U₀.setTop { method := ⟨wv_lcls G 0, 1⟩, pc := 0, locals := #[.val (.ref a), .val (.int n)], stack := [], locked := none }) t9 := by
    intro t9 h9
    jvm_step Y₀.here [X.hx, f7, wm0_d0, Value.isRef]
    jvm_step Y₀.here [X.hx, f7, wm0_d1, getfield.wp_ready (e := e) (s := U₀) (c := wv_lcls G 0) (field := g0) (a := a) (rest := []) (cell := cellA) (v := .ref u0)
        (f := { method := ⟨wv_lcls G 0, 1⟩, pc := 1, locals := #[.val (.ref a), .val (.int n)], stack := [.ref a], locked := none }) hs (by rw [hvm]; exact hg0) hs0 rfl (by rw [hheap]; exact hcA) (by rw [hvmA]; intro h; cases h) (by rw [hl0, hslA]; rfl)]
    jvm_step Y₀.here [X.hx, f7, wm0_d4, Value.isRef]
    jvm_step Y₀.here [X.hx, f7, wm0_d5, getfield.wp_ready (e := e) (s := U₀) (c := wv_lcls G 0) (field := g1) (a := a) (rest := [.ref u0]) (cell := cellA) (v := .ref u1)
        (f := { method := ⟨wv_lcls G 0, 1⟩, pc := 5, locals := #[.val (.ref a), .val (.int n)], stack := [.ref a, .ref u0], locked := none }) hs (by rw [hvm]; exact hg1) hs1 rfl (by rw [hheap]; exact hcA) (by rw [hvmA]; intro h; cases h) (by rw [hl1, hslA]; rfl)]
    jvm_step Y₀.here [X.hx, f7, wm0_d8, Value.isRef]
    jvm_step Y₀.here [X.hx, f7, wm0_d9, getfield.wp_ready (e := e) (s := U₀) (c := wv_lcls G 0) (field := g2) (a := a) (rest := [.ref u1, .ref u0]) (cell := cellA) (v := .int i2)
        (f := { method := ⟨wv_lcls G 0, 1⟩, pc := 9, locals := #[.val (.ref a), .val (.int n)], stack := [.ref a, .ref u1, .ref u0], locked := none }) hs (by rw [hvm]; exact hg2) hs2 rfl (by rw [hheap]; exact hcA) (by rw [hvmA]; intro h; cases h) (by rw [hl2, hslA]; rfl)]
    jvm_step Y₀.here [X.hx, f7, wm0_d12]
    jvm_step Y₀.here [X.hx, f7, wm0_d13, invokevirtual.wp_ready (e := e) (s := U₀) (r := r2) (m := r2) (k := tk) (mk := tk) (rmeth := methB) (meth := methB) (a := u0) (args := [.ref u1, .int i2, .int n]) (rest := []) (cell := cellR)
        (f := { method := ⟨wv_lcls G 0, 1⟩, pc := 13, locals := #[.val (.ref a), .val (.int n)], stack := [.int n, .int i2, .ref u1, .ref u0], locked := none }) hs ⟨k, file, 27, 30, r2.cls, tk, by rw [hvm]; exact f1, f3, by rw [f4]; exact wm0_M.1, by rw [hvm]; exact f17, by rw [hvm]; exact f14, hitf⟩ (by rw [hvm]; exact f16) (by rw [hvm]; exact f14) (by rw [hvm]; exact hmB) (hsp _) hstB hlenB rfl (by rw [hheap]; exact hcR) hobR hselB (by rw [hvm]; exact hmB) habB (by rw [hvm]; exact f14) hitf]
    intro acts
    rw [doInvoke_state]
    exact h9
  have hnU : U₀.methodNamed? yX2_lambda_call_0 = some r2 := by
    have q : ((T.setVm vm₁).setVm U₀.vm).methodNamed? yX2_lambda_call_0 = some r2 := by rw [hvm]; exact hnB1
    exact q
  have hpre : wv_Pre G { frames := fr - 1, locals := 64 * (fr - 1), cells := kc, slots := ks } kc ks [.ref u0, .ref u1, .int i2, .int n] w.1 ⟨U₀, [], 0, 0⟩ ([.ref u0, .ref u1, .int i2, .int n] : List Value).toArray := ⟨by show 0 + kc ≤ kc; omega, by show 0 + ks ≤ ks; omega, rfl, by show wv_Rep G w.1 U₀.heap; rw [hheap]; exact S.1, by show G.2.1.WarmedH U₀.vm; rw [hvm]; exact State.WarmedH.trans X.hW hW1⟩
  rcases hK ⟨wv_lcls G 0, 1⟩ methk ck ⟨U₀, [], 0, 0⟩ { method := ⟨wv_lcls G 0, 1⟩, pc := 13, locals := #[.val (.ref a), .val (.int n)], stack := [], locked := none } (.invokevirtual 31) r2 ([.ref u0, .ref u1, .int i2, .int n] : List Value).toArray Y₀ rfl (by rw [f8]; rfl) (by rw [f7]; exact wm0_d13) (by show 2 * 0 + 0 ≤ 8; omega) hnU hpre with ⟨v, ⟨U', l2, c2, s2⟩, Y₁, ⟨h', hP', hRep', L, e1', hL, e2', e3'⟩, hsteps⟩ | ⟨q, ⟨U', l2, c2, s2⟩, Y₁, ⟨h', E, ce, hP', hRep', hce, hcv, hcl, L, e1', hL, e2', e3'⟩, hsteps⟩
  · dsimp only [Pt.U, Pt.locs, Pt.cells, Pt.slots] at Y₁ e1' e2' e3' hsteps hRep'
    subst e1'; subst e2'; subst e3'
    obtain ⟨x, rfl⟩ := hint v h' hP'
    obtain ⟨fs, hleave, -, hended, hWe, hsame⟩ := Y₁.leave (v := some (.int x)) (fun h => by rw [f12] at h; cases h) f10
    obtain ⟨T', X', hW', -, ht⟩ := X₁.outOf (g := F0 m pc ls rest) rfl (by rw [X.hb]; exact hdg) hended hWe hsame
    have hhT' : T'.heap = U'.heap := (congrArg State.heap ht).symm
    obtain ⟨t9, a1, b1⟩ := kk x h' U'.heap (locs ++ l2) (cells + (0 + kc)) (slots + (0 + ks)) hP' ⟨hRep', wv_locs S.2.1 hL, by show cells + (0 + kc) + (w.2.1 - kc) = _; omega, by show slots + (0 + ks) + (w.2.2 - ks) = _; omega, by rw [← hhT']; exact X'.same.2.1⟩ T' hhT' X'
    have a2 : Steps p.tables e below (U'.setFrames fs) t9 := by rw [ht]; exact a1
    refine ⟨t9, st1 t9 (fun acts => ?_), b1⟩
    show Steps p.tables e below (doInvoke e ((T.setVm vm₁).setTop (F0 m pc ls rest)) acts ⟨wv_lcls G 0, 1⟩ #[.ref a, .int n]).1 t9
    rw [hin acts]
    refine Steps.trans (Steps.weaken (mid := [.java (F0 m pc ls rest)]) (hstart _ (hsteps.trans ?_))) a2
    show Steps p.tables e (.java (F0 m pc ls rest) :: below) (U'.setTop { method := ⟨wv_lcls G 0, 1⟩, pc := 16, locals := #[.val (.ref a), .val (.int n)], stack := [.int x], locked := none }) _
    jvm_step Y₁.here [Y₁.here.top, X.hx, f7, wm0_d16, Y₁.method', f12, narrow]
    intro acts'
    rw [hleave _ acts' rfl rfl rfl]
    exact Steps.refl _
  · dsimp only [Pt.U, Pt.locs, Pt.cells, Pt.slots] at Y₁ e1' e2' e3' hsteps hRep' hce hcl
    subst e1'; subst e2'; subst e3'
    obtain ⟨vm', hW', Y2, st⟩ := Y₁.outThrough f10 q (g := { method := ⟨wv_lcls G 0, 1⟩, pc := 13, locals := #[.val (.ref a), .val (.int n)], stack := [], locked := none }) rfl rfl rfl (cell := ce) hce (by rw [hcv]; rfl)
      (by rw [hvm] at hcl; obtain ⟨k9, h9, -⟩ := Vm.findClass_spec hcl; exact ⟨k9, h9⟩) (fun z hz => by rw [f9] at hz; simp at hz)
    obtain ⟨g₀, hfr0⟩ := Y2.frames_eq
    have hend : Ended ((U'.setVm vm').setFrames (.throwing q :: .java (F0 m pc ls rest) :: below)) (.java (F0 m pc ls rest) :: below) (.threw q) := State.frames_setFrames _ (State.cur_lt_of_frames hfr0)
    obtain ⟨T', X', -, -, ht⟩ := X₁.outOfThrown (g := F0 m pc ls rest) rfl hend (Y2.ends _).1 (Y2.ends _).2
    have hhT' : T'.heap = U'.heap := (congrArg State.heap ht).symm
    obtain ⟨t9, a1, b1⟩ := kx E q h' U'.heap (locs ++ l2) (cells + (0 + kc)) (slots + (0 + ks)) hP' ⟨hRep', wv_locs S.2.1 hL, by show cells + (0 + kc) + (w.2.1 - kc) = _; omega, by show slots + (0 + ks) + (w.2.2 - ks) = _; omega, by rw [← hhT']; exact X'.same.2.1⟩ ⟨ce, hce, hcv, by rw [← hal.findClass, ← hvm]; exact hcl⟩ T' hhT' X'
    have a2 : Steps p.tables e below ((U'.setVm vm').setFrames (.throwing q :: .java (F0 m pc ls rest) :: below)) t9 := by rw [ht]; exact a1
    refine ⟨t9, st1 t9 (fun acts => ?_), b1⟩
    show Steps p.tables e below (doInvoke e ((T.setVm vm₁).setTop (F0 m pc ls rest)) acts ⟨wv_lcls G 0, 1⟩ #[.ref a, .int n]).1 t9
    rw [hin acts]
    refine Steps.trans (Steps.weaken (mid := [.java (F0 m pc ls rest)]) (hstart _ (hsteps.trans ?_))) a2
    rw [Y₁.pushThrowing_eq]
    exact st
set_option maxHeartbeats 4000000 in
theorem wr_with1 {locs : List Loc} {cells slots : Nat} (X : wv_ok G p R s m args meth c fr own cc nL ret nm tb) (S : wv_S G R s w H locs cells slots) {a : Nat} {t : wv_T} {n : Int32} {index count fr' kc ks : Nat} {u0 : Nat} {u1 : Nat} {u2 : Nat} {i3 : Int32} {P' : wv_R → wv_H → Prop} (ha : w.1 a = some (t, wo_M 1 [.ref u0, .ref u1, .ref u2, .int i3])) (hr0 : wv_is G w.1 u0 "Weaversgate$Run") (hC : wv_C G yX2_lambda_body_1 [.ref u0, .ref u1, .ref u2, .int i3, .int n] w.1 fr' kc ks P') (hint : ∀ v h', P' (.inl v) h' → ∃ x : Int32, v = some (.int x)) (hfr : fr' + 2 ≤ fr) (hkc : kc ≤ w.2.1) (hks : ks ≤ w.2.2) (hl : Cond.methodLink own index wyA ∈ lw_all) (hW : (rest.map fun v => v.category).sum ≤ 8) (hls : ls.size = nL) (hdg : decode cc pc = .ok (.invokeinterface index count, 5))
    (kk : ∀ (x : Int32) (h' : wv_H) (H1 : Heap) (locs1 : List Loc) (cells1 slots1 : Nat), P' (.inl (some (.int x))) h' → wv_S G R s (h', w.2.1 - kc, w.2.2 - ks) H1 locs1 cells1 slots1 → W p G.1 e R s m args below meth c H1 locs1 cells1 slots1 Q (F0 m (pc + 5) ls (.int x :: rest)))
    (kx : ∀ (E : String) (q : Nat) (h' : wv_H) (H1 : Heap) (locs1 : List Loc) (cells1 slots1 : Nat), P' (.inr (E, q)) h' → wv_S G R s (h', w.2.1 - kc, w.2.2 - ks) H1 locs1 cells1 slots1 → wv_th s H1 E q → vx_W p G.1 e R s m args below meth c H1 locs1 cells1 slots1 Q (F0 m pc ls rest) q) : W p G.1 e R s m args below meth c H locs cells slots Q (F0 m pc ls (.int n :: .ref a :: rest)) := by
  intro T hT Z
  have g1 := S.2.2.1
  have g2 := S.2.2.2.1
  have hlo := X.hlo
  have hff := X.hfr
  obtain ⟨m', kS, cf, i0, p0, lk, k1, k2, k3, k4, k5, k6, k7, k8⟩ := X.site (j := 1) (sh := wm1_sh) (x := ⟨"Weaversgate$Run", "body", "(LWeaversgate$Thing;II)I"⟩) (pc0 := 69) (i := 181) (by decide) rfl
  obtain ⟨kS', hkS', hnameS⟩ := className_of_methodNamed k1
  cases k2.symm.trans hkS'
  have hnameS : kS.name = "Weaversgate$Run" := hnameS
  have hcell : H[a]? = some { cls := wv_lcls G 1, slots := ([.ref u0, .ref u1, .ref u2, .int i3] : List Value).toArray, vm := .none } := S.1.lam ha
  obtain ⟨cellA, hcA, hclA, hvmA, hslA⟩ : ∃ cellA : Cell, H[a]? = some cellA ∧ cellA.cls = wv_lcls G 1 ∧ cellA.vm = .none ∧ cellA.slots = ([.ref u0, .ref u1, .ref u2, .int i3] : List Value).toArray := ⟨_, hcell, rfl, rfl, rfl⟩
  have hcT : T.heap[a]? = some cellA := by rw [hT]; exact hcA
  obtain ⟨k0, tk0, file0, methk0, ck0, toy0, tB0, e1, e2, e3, e4, e5, e6, e7, e8, e9, e10, e11, e12, e13, e14, e15, e16, e17, -⟩ := wm1_made k2 hnameS k6 (wv_obj0 (X.hts _ q2657))
  obtain ⟨b0, hb0⟩ := X.hG.2.2.1
  have hFw : va_Nw (.declares wyA) s := va_Nw.warmD X.hW (va_Nw.of rfl (hb0 _ q1178))
  obtain ⟨vm₁, X₁, st1⟩ := wv_callLam Z X.hx X.hown (X.hts _ hl) (va_Nw.use rfl hFw) (X.ifaceW (x := wyA) q1177 q1178 ⟨by decide, by decide⟩) hcT hvmA (by rw [hclA]; exact k6) (by rw [hclA]; exact k7) rfl rfl (by decide +kernel) (by rw [hclA]; exact e5) e11 (g := F0 m pc ls (.int n :: .ref a :: rest)) rfl (n := n) (rest := rest) rfl (by rw [X.hb]; exact hdg)
  rw [hclA] at st1
  have hW1 : s.WarmedH vm₁ := X₁.warmed
  have hal := hW1.alike
  obtain ⟨kS1, hkS1, heS1⟩ := hal.2.2 _ _ k2
  have hO1 : ∀ o ok, vm₁.findClass "java/lang/Object" = some o → vm₁.classes[o]? = some ok → ok.instanceTypes.size = 0 := wv_obj0 (A := args) (U := T.setVm vm₁) (word_at (U := T.setVm vm₁) hW1 (lw_self _ q2657).2 (X.hts _ q2657))
  obtain ⟨k, tk, file, methk, ck, toy, tB, f1, f2, f3, f4, f5, f6, f7, f8, f9, f10, f11, f12, f13, f14, f15, f16, f17, ⟨g0, hg0, hs0, hl0⟩, ⟨g1, hg1, hs1, hl1⟩, ⟨g2, hg2, hs2, hl2⟩, ⟨g3, hg3, hs3, hl3⟩⟩ := wm1_made (vm := vm₁) hkS1 (by rw [heS1]; exact hnameS) (Jvm.Lambda.isMade_warmer hW1 k6) hO1
  have hpk : (T.setVm vm₁).plainMethod ⟨wv_lcls G 1, 1⟩ := State.plainMethod.of_name (fun k' hk' => by cases f1.symm.trans hk'; rw [f2]; decide)
  obtain ⟨Y₀, hin⟩ := X₁.into (g := F0 m pc ls rest) rfl (by rw [X.hml]; exact hls) (by rw [X.hb]; exact hdg) #[.ref a, .int n] (R' := { frames := fr - 1, locals := 64 * (fr - 1), cells := kc, slots := ks }) f5 f6 f10 hpk (by show fr - 1 + 1 ≤ R.frames; omega) (by rw [f8]; show 2 * 0 + (rest.map fun v => v.category).sum + (2 + 11) + 64 * (fr - 1) ≤ R.locals; omega) (by show cells + kc ≤ R.cells; omega) (by show slots + ks ≤ R.slots; omega)
  rw [f8] at Y₀ hin
  have hent : entryFrame ⟨wv_lcls G 1, 1⟩ #[.ref a, .int n] 2 = { method := ⟨wv_lcls G 1, 1⟩, pc := 0, locals := #[.val (.ref a), .val (.int n)], stack := [], locked := none } := rfl
  rw [hent] at Y₀ hin
  generalize hU0 : ((T.setVm vm₁).setTop (F0 m pc ls rest)).pushFrame (.java { method := ⟨wv_lcls G 1, 1⟩, pc := 0, locals := #[.val (.ref a), .val (.int n)], stack := [], locked := none }) = U₀ at Y₀ hin
  have hvm : U₀.vm = vm₁ := by rw [← hU0]; rfl
  have hheap : U₀.heap = H := by rw [← hU0]; exact hT
  obtain ⟨mB, methB, hnB, hmB0, hstB, habB⟩ := Cond.instanceMethod_spec (X.hts _ q1002)
  have hnB : s.methodNamed? yX2_lambda_body_1 = some mB := hnB
  obtain ⟨methB', cB, hmB', -, -, -, -, -, -, hsigB⟩ := Cond.code_spec hnB (X.hts _ q1003)
  cases hmB0.symm.trans hmB'
  have hmB : vm₁.method? mB = some methB := by rw [hal.method?]; exact hmB0
  have hfT : s.vm.findClass "Weaversgate$Run" = some mB.cls := findClass_of_methodNamed hnB
  have htoy : toy = mB.cls := by
    have h1 := f13
    rw [hal.findClass, hfT] at h1
    exact (Option.some.inj h1).symm
  subst htoy
  have hinitB : tk.init = .initialized := Cond.initialized_spec (s := T.setVm vm₁) f13 f14 (word_at (a' := args) (U := T.setVm vm₁) hW1 (lw_self _ q64).2 (X.hts _ q64))
  obtain ⟨kB, hkB, hnameB⟩ := className_of_methodNamed hnB
  obtain ⟨kB1, hkB1, heB1⟩ := hal.2.2 _ _ hkB
  cases f14.symm.trans hkB1
  have hsp : ∀ y : Method, signaturePolymorphic tk y = false := fun y => by
    have h1 : tk.name = "Weaversgate$Run" := by rw [heB1]; exact hnameB
    simp [signaturePolymorphic, h1]
  have hnB1 : (T.setVm vm₁).methodNamed? yX2_lambda_body_1 = some mB := by
    have h1 := State.methodNamed?_setVm (s := s) hal yX2_lambda_body_1
    rw [hnB] at h1
    exact h1
  have htB : tB = mB := by
    have h1 : (T.setVm vm₁).methodFound? "Weaversgate$Run" "lambda$body$1" "(LWeaversgate$Thing;LWeaversgate$Type;II)I" = some mB := State.methodFound?_of_named hnB1 (by decide)
    have f13' : (T.setVm vm₁).vm.findClass "Weaversgate$Run" = some mB.cls := f13
    have f14' : (T.setVm vm₁).vm.classes[mB.cls]? = some tk := f14
    simp only [State.methodFound?, f13', f14', Option.bind_eq_bind, Option.bind_some] at h1
    have f15' : ((methodIn mB.cls "lambda$body$1" "(LWeaversgate$Thing;LWeaversgate$Type;II)I" tk.isInterface none).ask { classPath := fun _ => none } (T.setVm vm₁).vm).1 = .ok tB := f15
    rw [f15'] at h1
    exact Option.some.inj h1
  subst htB
  have hlenB : ([.ref u1, .ref u2, .int i3, .int n] : List Value).length = methB.sig.parameters.length := by
    have h1 : parseMethodDescriptor "(LWeaversgate$Thing;LWeaversgate$Type;II)I" = some methB.sig := hsigB
    have h2 : (parseMethodDescriptor "(LWeaversgate$Thing;LWeaversgate$Type;II)I").map (fun d => d.parameters.length) = some 4 := by decide +kernel
    rw [h1] at h2
    exact (Option.some.inj h2).symm
  obtain ⟨cellR, hcR, hoR, hclR⟩ := hr0.cell X S.1
  have hobR : ∀ c, cellR.vm ≠ .statics c := fun c h => by rw [h] at hoR; cases hoR
  obtain ⟨c2, r2, m2, p1, p2, p3, p4, kP, hkP, hkPi⟩ := Cond.selects_spec (X.hts _ qs16)
  cases hfT.symm.trans p1
  have hr2 : r2 = tB := by
    have h1 : s.methodFound? "Weaversgate$Run" "lambda$body$1" "(LWeaversgate$Thing;LWeaversgate$Type;II)I" = some tB := State.methodFound?_of_named hnB (by decide)
    exact Option.some.inj (p2.symm.trans h1)
  subst hr2
  cases hnB.symm.trans p3
  cases hkB.symm.trans hkP
  have hitf : tk.isInterface = false := by rw [heB1]; exact hkPi
  have hselB : selectMethod e.platform U₀.vm cellR.cls r2 = .method r2 := by
    rw [Launch.admits_selectMethod Z.admits, hvm, hal.selectMethod, ← Option.some.inj (hfT.symm.trans hclR)]
    exact p4
  obtain ⟨hK, -⟩ := hC.back (e := e) (p := p) (R := { frames := fr - 1, locals := 64 * (fr - 1), cells := kc, slots := ks }) (below := .java (F0 m pc ls rest) :: below) (s := (T.setVm vm₁).calling (F0 m pc ls rest) ⟨wv_lcls G 1, 1⟩ #[.ref a, .int n]) (sargs := #[.ref a, .int n]) (len := 3) (by show fr' + 1 ≤ fr - 1; omega) rfl (fun z hz => word_at (U := (T.setVm vm₁).calling (F0 m pc ls rest) ⟨wv_lcls G 1, 1⟩ #[.ref a, .int n]) hW1 (lw_self z hz).2 (X.hts z hz)) (word_at (U := (T.setVm vm₁).calling (F0 m pc ls rest) ⟨wv_lcls G 1, 1⟩ #[.ref a, .int n]) hW1 (lw_self _ q64).2 (X.hts _ q64))
  have hs : U₀.topJava?.isSome := Y₀.here.top
  have hstart : ∀ t9 : State, Steps p.tables e (.java (F0 m pc ls rest) :: below) (doInvoke e (U₀.setTop { method := ⟨wv_lcls G 1, 1⟩, pc := 17, locals := #[.val (.ref a), .val (.int n)], stack := [], locked := none }) [] r2 ([.ref u0, .ref u1, .ref u2, .int i3, .int n] : List Value).toArray).1 t9 → Steps p.tables e (.java (F0 m pc ls rest) :: below) (U₀.setTop { method := ⟨wv_lcls G 1, 1⟩, pc := 0, locals := #[.val (.ref a), .val (.int n)], stack := [], locked := none }) t9 := by
    intro t9 h9
    jvm_step Y₀.here [X.hx, f7, wm1_d0, Value.isRef]
    jvm_step Y₀.here [X.hx, f7, wm1_d1, getfield.wp_ready (e := e) (s := U₀) (c := wv_lcls G 1) (field := g0) (a := a) (rest := []) (cell := cellA) (v := .ref u0)
        (f := { method := ⟨wv_lcls G 1, 1⟩, pc := 1, locals := #[.val (.ref a), .val (.int n)], stack := [.ref a], locked := none }) hs (by rw [hvm]; exact hg0) hs0 rfl (by rw [hheap]; exact hcA) (by rw [hvmA]; intro h; cases h) (by rw [hl0, hslA]; rfl)]
    jvm_step Y₀.here [X.hx, f7, wm1_d4, Value.isRef]
    jvm_step Y₀.here [X.hx, f7, wm1_d5, getfield.wp_ready (e := e) (s := U₀) (c := wv_lcls G 1) (field := g1) (a := a) (rest := [.ref u0]) (cell := cellA) (v := .ref u1)
        (f := { method := ⟨wv_lcls G 1, 1⟩, pc := 5, locals := #[.val (.ref a), .val (.int n)], stack := [.ref a, .ref u0], locked := none }) hs (by rw [hvm]; exact hg1) hs1 rfl (by rw [hheap]; exact hcA) (by rw [hvmA]; intro h; cases h) (by rw [hl1, hslA]; rfl)]
    jvm_step Y₀.here [X.hx, f7, wm1_d8, Value.isRef]
    jvm_step Y₀.here [X.hx, f7, wm1_d9, getfield.wp_ready (e := e) (s := U₀) (c := wv_lcls G 1) (field := g2) (a := a) (rest := [.ref u1, .ref u0]) (cell := cellA) (v := .ref u2)
        (f := { method := ⟨wv_lcls G 1, 1⟩, pc := 9, locals := #[.val (.ref a), .val (.int n)], stack := [.ref a, .ref u1, .ref u0], locked := none }) hs (by rw [hvm]; exact hg2) hs2 rfl (by rw [hheap]; exact hcA) (by rw [hvmA]; intro h; cases h) (by rw [hl2, hslA]; rfl)]
    jvm_step Y₀.here [X.hx, f7, wm1_d12, Value.isRef]
    jvm_step Y₀.here [X.hx, f7, wm1_d13, getfield.wp_ready (e := e) (s := U₀) (c := wv_lcls G 1) (field := g3) (a := a) (rest := [.ref u2, .ref u1, .ref u0]) (cell := cellA) (v := .int i3)
        (f := { method := ⟨wv_lcls G 1, 1⟩, pc := 13, locals := #[.val (.ref a), .val (.int n)], stack := [.ref a, .ref u2, .ref u1, .ref u0], locked := none }) hs (by rw [hvm]; exact hg3) hs3 rfl (by rw [hheap]; exact hcA) (by rw [hvmA]; intro h; cases h) (by rw [hl3, hslA]; rfl)]
    jvm_step Y₀.here [X.hx, f7, wm1_d16]
    jvm_step Y₀.here [X.hx, f7, wm1_d17, invokevirtual.wp_ready (e := e) (s := U₀) (r := r2) (m := r2) (k := tk) (mk := tk) (rmeth := methB) (meth := methB) (a := u0) (args := [.ref u1, .ref u2, .int i3, .int n]) (rest := []) (cell := cellR)
        (f := { method := ⟨wv_lcls G 1, 1⟩, pc := 17, locals := #[.val (.ref a), .val (.int n)], stack := [.int n, .int i3, .ref u2, .ref u1, .ref u0], locked := none }) hs ⟨k, file, 31, 34, r2.cls, tk, by rw [hvm]; exact f1, f3, by rw [f4]; exact wm1_M.1, by rw [hvm]; exact f17, by rw [hvm]; exact f14, hitf⟩ (by rw [hvm]; exact f16) (by rw [hvm]; exact f14) (by rw [hvm]; exact hmB) (hsp _) hstB hlenB rfl (by rw [hheap]; exact hcR) hobR hselB (by rw [hvm]; exact hmB) habB (by rw [hvm]; exact f14) hitf]
    intro acts
    rw [doInvoke_state]
    exact h9
  have hnU : U₀.methodNamed? yX2_lambda_body_1 = some r2 := by
    have q : ((T.setVm vm₁).setVm U₀.vm).methodNamed? yX2_lambda_body_1 = some r2 := by rw [hvm]; exact hnB1
    exact q
  have hpre : wv_Pre G { frames := fr - 1, locals := 64 * (fr - 1), cells := kc, slots := ks } kc ks [.ref u0, .ref u1, .ref u2, .int i3, .int n] w.1 ⟨U₀, [], 0, 0⟩ ([.ref u0, .ref u1, .ref u2, .int i3, .int n] : List Value).toArray := ⟨by show 0 + kc ≤ kc; omega, by show 0 + ks ≤ ks; omega, rfl, by show wv_Rep G w.1 U₀.heap; rw [hheap]; exact S.1, by show G.2.1.WarmedH U₀.vm; rw [hvm]; exact State.WarmedH.trans X.hW hW1⟩
  rcases hK ⟨wv_lcls G 1, 1⟩ methk ck ⟨U₀, [], 0, 0⟩ { method := ⟨wv_lcls G 1, 1⟩, pc := 17, locals := #[.val (.ref a), .val (.int n)], stack := [], locked := none } (.invokevirtual 35) r2 ([.ref u0, .ref u1, .ref u2, .int i3, .int n] : List Value).toArray Y₀ rfl (by rw [f8]; rfl) (by rw [f7]; exact wm1_d17) (by show 2 * 0 + 0 ≤ 8; omega) hnU hpre with ⟨v, ⟨U', l2, c2, s2⟩, Y₁, ⟨h', hP', hRep', L, e1', hL, e2', e3'⟩, hsteps⟩ | ⟨q, ⟨U', l2, c2, s2⟩, Y₁, ⟨h', E, ce, hP', hRep', hce, hcv, hcl, L, e1', hL, e2', e3'⟩, hsteps⟩
  · dsimp only [Pt.U, Pt.locs, Pt.cells, Pt.slots] at Y₁ e1' e2' e3' hsteps hRep'
    subst e1'; subst e2'; subst e3'
    obtain ⟨x, rfl⟩ := hint v h' hP'
    obtain ⟨fs, hleave, -, hended, hWe, hsame⟩ := Y₁.leave (v := some (.int x)) (fun h => by rw [f12] at h; cases h) f10
    obtain ⟨T', X', hW', -, ht⟩ := X₁.outOf (g := F0 m pc ls rest) rfl (by rw [X.hb]; exact hdg) hended hWe hsame
    have hhT' : T'.heap = U'.heap := (congrArg State.heap ht).symm
    obtain ⟨t9, a1, b1⟩ := kk x h' U'.heap (locs ++ l2) (cells + (0 + kc)) (slots + (0 + ks)) hP' ⟨hRep', wv_locs S.2.1 hL, by show cells + (0 + kc) + (w.2.1 - kc) = _; omega, by show slots + (0 + ks) + (w.2.2 - ks) = _; omega, by rw [← hhT']; exact X'.same.2.1⟩ T' hhT' X'
    have a2 : Steps p.tables e below (U'.setFrames fs) t9 := by rw [ht]; exact a1
    refine ⟨t9, st1 t9 (fun acts => ?_), b1⟩
    show Steps p.tables e below (doInvoke e ((T.setVm vm₁).setTop (F0 m pc ls rest)) acts ⟨wv_lcls G 1, 1⟩ #[.ref a, .int n]).1 t9
    rw [hin acts]
    refine Steps.trans (Steps.weaken (mid := [.java (F0 m pc ls rest)]) (hstart _ (hsteps.trans ?_))) a2
    show Steps p.tables e (.java (F0 m pc ls rest) :: below) (U'.setTop { method := ⟨wv_lcls G 1, 1⟩, pc := 20, locals := #[.val (.ref a), .val (.int n)], stack := [.int x], locked := none }) _
    jvm_step Y₁.here [Y₁.here.top, X.hx, f7, wm1_d20, Y₁.method', f12, narrow]
    intro acts'
    rw [hleave _ acts' rfl rfl rfl]
    exact Steps.refl _
  · dsimp only [Pt.U, Pt.locs, Pt.cells, Pt.slots] at Y₁ e1' e2' e3' hsteps hRep' hce hcl
    subst e1'; subst e2'; subst e3'
    obtain ⟨vm', hW', Y2, st⟩ := Y₁.outThrough f10 q (g := { method := ⟨wv_lcls G 1, 1⟩, pc := 17, locals := #[.val (.ref a), .val (.int n)], stack := [], locked := none }) rfl rfl rfl (cell := ce) hce (by rw [hcv]; rfl)
      (by rw [hvm] at hcl; obtain ⟨k9, h9, -⟩ := Vm.findClass_spec hcl; exact ⟨k9, h9⟩) (fun z hz => by rw [f9] at hz; simp at hz)
    obtain ⟨g₀, hfr0⟩ := Y2.frames_eq
    have hend : Ended ((U'.setVm vm').setFrames (.throwing q :: .java (F0 m pc ls rest) :: below)) (.java (F0 m pc ls rest) :: below) (.threw q) := State.frames_setFrames _ (State.cur_lt_of_frames hfr0)
    obtain ⟨T', X', -, -, ht⟩ := X₁.outOfThrown (g := F0 m pc ls rest) rfl hend (Y2.ends _).1 (Y2.ends _).2
    have hhT' : T'.heap = U'.heap := (congrArg State.heap ht).symm
    obtain ⟨t9, a1, b1⟩ := kx E q h' U'.heap (locs ++ l2) (cells + (0 + kc)) (slots + (0 + ks)) hP' ⟨hRep', wv_locs S.2.1 hL, by show cells + (0 + kc) + (w.2.1 - kc) = _; omega, by show slots + (0 + ks) + (w.2.2 - ks) = _; omega, by rw [← hhT']; exact X'.same.2.1⟩ ⟨ce, hce, hcv, by rw [← hal.findClass, ← hvm]; exact hcl⟩ T' hhT' X'
    have a2 : Steps p.tables e below ((U'.setVm vm').setFrames (.throwing q :: .java (F0 m pc ls rest) :: below)) t9 := by rw [ht]; exact a1
    refine ⟨t9, st1 t9 (fun acts => ?_), b1⟩
    show Steps p.tables e below (doInvoke e ((T.setVm vm₁).setTop (F0 m pc ls rest)) acts ⟨wv_lcls G 1, 1⟩ #[.ref a, .int n]).1 t9
    rw [hin acts]
    refine Steps.trans (Steps.weaken (mid := [.java (F0 m pc ls rest)]) (hstart _ (hsteps.trans ?_))) a2
    rw [Y₁.pushThrowing_eq]
    exact st
set_option maxHeartbeats 4000000 in
theorem wr_with2 {locs : List Loc} {cells slots : Nat} (X : wv_ok G p R s m args meth c fr own cc nL ret nm tb) (S : wv_S G R s w H locs cells slots) {a : Nat} {t : wv_T} {n : Int32} {index count fr' kc ks : Nat} {P' : wv_R → wv_H → Prop} (ha : a = wv_lone G 2) (hC : wv_C G yX2_lambda_done_2 [.int n] w.1 fr' kc ks P') (hint : ∀ v h', P' (.inl v) h' → ∃ x : Int32, v = some (.int x)) (hfr : fr' + 2 ≤ fr) (hkc : kc ≤ w.2.1) (hks : ks ≤ w.2.2) (hl : Cond.methodLink own index wyA ∈ lw_all) (hW : (rest.map fun v => v.category).sum ≤ 8) (hls : ls.size = nL) (hdg : decode cc pc = .ok (.invokeinterface index count, 5))
    (kk : ∀ (x : Int32) (h' : wv_H) (H1 : Heap) (locs1 : List Loc) (cells1 slots1 : Nat), P' (.inl (some (.int x))) h' → wv_S G R s (h', w.2.1 - kc, w.2.2 - ks) H1 locs1 cells1 slots1 → W p G.1 e R s m args below meth c H1 locs1 cells1 slots1 Q (F0 m (pc + 5) ls (.int x :: rest)))
    (kx : ∀ (E : String) (q : Nat) (h' : wv_H) (H1 : Heap) (locs1 : List Loc) (cells1 slots1 : Nat), P' (.inr (E, q)) h' → wv_S G R s (h', w.2.1 - kc, w.2.2 - ks) H1 locs1 cells1 slots1 → wv_th s H1 E q → vx_W p G.1 e R s m args below meth c H1 locs1 cells1 slots1 Q (F0 m pc ls rest) q) : W p G.1 e R s m args below meth c H locs cells slots Q (F0 m pc ls (.int n :: .ref a :: rest)) := by
  intro T hT Z
  have g1 := S.2.2.1
  have g2 := S.2.2.2.1
  have hlo := X.hlo
  have hff := X.hfr
  obtain ⟨m', kS, cf, i0, p0, lk, k1, k2, k3, k4, k5, k6, k7, k8⟩ := X.site (j := 2) (sh := wm2_sh) (x := ⟨"Weaversgate$Run", "done", "(LWeaversgate$Thing;LWeaversgate$Type;ILWeaversgate$Step;II)I"⟩) (pc0 := 316) (i := 228) (by decide) rfl
  obtain ⟨kS', hkS', hnameS⟩ := className_of_methodNamed k1
  cases k2.symm.trans hkS'
  have hnameS : kS.name = "Weaversgate$Run" := hnameS
  obtain ⟨cellA, hcA, hclA, hvmA⟩ : ∃ cellA : Cell, H[a]? = some cellA ∧ cellA.cls = wv_lcls G 2 ∧ cellA.vm = .none := by
    rcases k8 with ⟨cell, -, -, h1, h2, h3, h4, -⟩ | ⟨-, h9⟩
    · refine ⟨cell, ?_, h3, h4⟩
      rw [ha, S.1.2.1 _ h2, ← X.hold _ h2]
      exact h1
    · exact absurd rfl h9
  have hcT : T.heap[a]? = some cellA := by rw [hT]; exact hcA
  obtain ⟨k0, tk0, file0, methk0, ck0, toy0, tB0, e1, e2, e3, e4, e5, e6, e7, e8, e9, e10, e11, e12, e13, e14, e15, e16, e17, -⟩ := wm2_made k2 hnameS k6 (wv_obj0 (X.hts _ q2657))
  obtain ⟨b0, hb0⟩ := X.hG.2.2.1
  have hFw : va_Nw (.declares wyA) s := va_Nw.warmD X.hW (va_Nw.of rfl (hb0 _ q1178))
  obtain ⟨vm₁, X₁, st1⟩ := wv_callLam Z X.hx X.hown (X.hts _ hl) (va_Nw.use rfl hFw) (X.ifaceW (x := wyA) q1177 q1178 ⟨by decide, by decide⟩) hcT hvmA (by rw [hclA]; exact k6) (by rw [hclA]; exact k7) rfl rfl (by decide +kernel) (by rw [hclA]; exact e5) e11 (g := F0 m pc ls (.int n :: .ref a :: rest)) rfl (n := n) (rest := rest) rfl (by rw [X.hb]; exact hdg)
  rw [hclA] at st1
  have hW1 : s.WarmedH vm₁ := X₁.warmed
  have hal := hW1.alike
  obtain ⟨kS1, hkS1, heS1⟩ := hal.2.2 _ _ k2
  have hO1 : ∀ o ok, vm₁.findClass "java/lang/Object" = some o → vm₁.classes[o]? = some ok → ok.instanceTypes.size = 0 := wv_obj0 (A := args) (U := T.setVm vm₁) (word_at (U := T.setVm vm₁) hW1 (lw_self _ q2657).2 (X.hts _ q2657))
  obtain ⟨k, tk, file, methk, ck, toy, tB, f1, f2, f3, f4, f5, f6, f7, f8, f9, f10, f11, f12, f13, f14, f15, f16, f17⟩ := wm2_made (vm := vm₁) hkS1 (by rw [heS1]; exact hnameS) (Jvm.Lambda.isMade_warmer hW1 k6) hO1
  have hpk : (T.setVm vm₁).plainMethod ⟨wv_lcls G 2, 1⟩ := State.plainMethod.of_name (fun k' hk' => by cases f1.symm.trans hk'; rw [f2]; decide)
  obtain ⟨Y₀, hin⟩ := X₁.into (g := F0 m pc ls rest) rfl (by rw [X.hml]; exact hls) (by rw [X.hb]; exact hdg) #[.ref a, .int n] (R' := { frames := fr - 1, locals := 64 * (fr - 1), cells := kc, slots := ks }) f5 f6 f10 hpk (by show fr - 1 + 1 ≤ R.frames; omega) (by rw [f8]; show 2 * 0 + (rest.map fun v => v.category).sum + (2 + 11) + 64 * (fr - 1) ≤ R.locals; omega) (by show cells + kc ≤ R.cells; omega) (by show slots + ks ≤ R.slots; omega)
  rw [f8] at Y₀ hin
  have hent : entryFrame ⟨wv_lcls G 2, 1⟩ #[.ref a, .int n] 2 = { method := ⟨wv_lcls G 2, 1⟩, pc := 0, locals := #[.val (.ref a), .val (.int n)], stack := [], locked := none } := rfl
  rw [hent] at Y₀ hin
  generalize hU0 : ((T.setVm vm₁).setTop (F0 m pc ls rest)).pushFrame (.java { method := ⟨wv_lcls G 2, 1⟩, pc := 0, locals := #[.val (.ref a), .val (.int n)], stack := [], locked := none }) = U₀ at Y₀ hin
  have hvm : U₀.vm = vm₁ := by rw [← hU0]; rfl
  have hheap : U₀.heap = H := by rw [← hU0]; exact hT
  obtain ⟨mB, hnB⟩ : ∃ mB, s.methodNamed? yX2_lambda_done_2 = some mB := by
    have h1 := X.hts _ q1026
    cases hq : s.methodNamed? (⟨"Weaversgate$Run", "lambda$done$2", "(I)I"⟩ : MethodName) with
    | none => simp [Cond.before, Cond.holds, Cond.value, hq] at h1
    | some mB => exact ⟨mB, hq⟩
  obtain ⟨methB, cB0, hmB0, -⟩ := Cond.code_spec hnB (X.hts _ q1026)
  have hstB : methB.isStatic = true := Cond.static_spec hnB hmB0 (X.hts _ q1025)
  obtain ⟨methB', cB, hmB', -, -, -, -, -, -, hsigB⟩ := Cond.code_spec hnB (X.hts _ q1026)
  cases hmB0.symm.trans hmB'
  have hmB : vm₁.method? mB = some methB := by rw [hal.method?]; exact hmB0
  have hfT : s.vm.findClass "Weaversgate$Run" = some mB.cls := findClass_of_methodNamed hnB
  have htoy : toy = mB.cls := by
    have h1 := f13
    rw [hal.findClass, hfT] at h1
    exact (Option.some.inj h1).symm
  subst htoy
  have hinitB : tk.init = .initialized := Cond.initialized_spec (s := T.setVm vm₁) f13 f14 (word_at (a' := args) (U := T.setVm vm₁) hW1 (lw_self _ q64).2 (X.hts _ q64))
  obtain ⟨kB, hkB, hnameB⟩ := className_of_methodNamed hnB
  obtain ⟨kB1, hkB1, heB1⟩ := hal.2.2 _ _ hkB
  cases f14.symm.trans hkB1
  have hsp : ∀ y : Method, signaturePolymorphic tk y = false := fun y => by
    have h1 : tk.name = "Weaversgate$Run" := by rw [heB1]; exact hnameB
    simp [signaturePolymorphic, h1]
  have hnB1 : (T.setVm vm₁).methodNamed? yX2_lambda_done_2 = some mB := by
    have h1 := State.methodNamed?_setVm (s := s) hal yX2_lambda_done_2
    rw [hnB] at h1
    exact h1
  have htB : tB = mB := by
    have h1 : (T.setVm vm₁).methodFound? "Weaversgate$Run" "lambda$done$2" "(I)I" = some mB := State.methodFound?_of_named hnB1 (by decide)
    have f13' : (T.setVm vm₁).vm.findClass "Weaversgate$Run" = some mB.cls := f13
    have f14' : (T.setVm vm₁).vm.classes[mB.cls]? = some tk := f14
    simp only [State.methodFound?, f13', f14', Option.bind_eq_bind, Option.bind_some] at h1
    have f15' : ((methodIn mB.cls "lambda$done$2" "(I)I" tk.isInterface none).ask { classPath := fun _ => none } (T.setVm vm₁).vm).1 = .ok tB := f15
    rw [f15'] at h1
    exact Option.some.inj h1
  subst htB
  have hlenB : ([.int n] : List Value).length = methB.sig.parameters.length := by
    have h1 : parseMethodDescriptor "(I)I" = some methB.sig := hsigB
    have h2 : (parseMethodDescriptor "(I)I").map (fun d => d.parameters.length) = some 1 := by decide +kernel
    rw [h1] at h2
    exact (Option.some.inj h2).symm
  obtain ⟨bB, hmem⟩ := memberRef_ask' (e := e) (vm := vm₁) (d := wv_lcls G 2) (index := 17) f1 f3 (Or.inl (by rw [f4]; exact wm2_M.1)) (by rw [f4]; exact wm2_M.2.2)
  obtain ⟨hK, -⟩ := hC.back (e := e) (p := p) (R := { frames := fr - 1, locals := 64 * (fr - 1), cells := kc, slots := ks }) (below := .java (F0 m pc ls rest) :: below) (s := (T.setVm vm₁).calling (F0 m pc ls rest) ⟨wv_lcls G 2, 1⟩ #[.ref a, .int n]) (sargs := #[.ref a, .int n]) (len := 3) (by show fr' + 1 ≤ fr - 1; omega) rfl (fun z hz => word_at (U := (T.setVm vm₁).calling (F0 m pc ls rest) ⟨wv_lcls G 2, 1⟩ #[.ref a, .int n]) hW1 (lw_self z hz).2 (X.hts z hz)) (word_at (U := (T.setVm vm₁).calling (F0 m pc ls rest) ⟨wv_lcls G 2, 1⟩ #[.ref a, .int n]) hW1 (lw_self _ q64).2 (X.hts _ q64))
  have hs : U₀.topJava?.isSome := Y₀.here.top
  have hstart : ∀ t9 : State, Steps p.tables e (.java (F0 m pc ls rest) :: below) (doInvoke e (U₀.setTop { method := ⟨wv_lcls G 2, 1⟩, pc := 1, locals := #[.val (.ref a), .val (.int n)], stack := [], locked := none }) [] tB ([.int n] : List Value).toArray).1 t9 → Steps p.tables e (.java (F0 m pc ls rest) :: below) (U₀.setTop { method := ⟨wv_lcls G 2, 1⟩, pc := 0, locals := #[.val (.ref a), .val (.int n)], stack := [], locked := none }) t9 := by
    intro t9 h9
    jvm_step Y₀.here [X.hx, f7, wm2_d0]
    jvm_step Y₀.here [X.hx, f7, wm2_d1, invokestatic.wp_ready (e := e) (s := U₀) (m := tB) (k := tk) (meth := methB) (args := [.int n]) (rest := [])
        (f := { method := ⟨wv_lcls G 2, 1⟩, pc := 1, locals := #[.val (.ref a), .val (.int n)], stack := [.int n], locked := none }) hs ⟨14, _, _, bB, tB.cls, tk, by rw [hvm]; exact hmem, by rw [hvm]; exact f17, by rw [hvm]; exact f14, by simp [hsp]⟩ (by rw [hvm]; exact f16) (by rw [hvm]; exact f14) (by rw [hvm]; exact hmB) (hsp _) hstB hinitB hlenB rfl]
    intro acts
    rw [doInvoke_state]
    exact h9
  have hnU : U₀.methodNamed? yX2_lambda_done_2 = some tB := by
    have q : ((T.setVm vm₁).setVm U₀.vm).methodNamed? yX2_lambda_done_2 = some tB := by rw [hvm]; exact hnB1
    exact q
  have hpre : wv_Pre G { frames := fr - 1, locals := 64 * (fr - 1), cells := kc, slots := ks } kc ks [.int n] w.1 ⟨U₀, [], 0, 0⟩ ([.int n] : List Value).toArray := ⟨by show 0 + kc ≤ kc; omega, by show 0 + ks ≤ ks; omega, rfl, by show wv_Rep G w.1 U₀.heap; rw [hheap]; exact S.1, by show G.2.1.WarmedH U₀.vm; rw [hvm]; exact State.WarmedH.trans X.hW hW1⟩
  rcases hK ⟨wv_lcls G 2, 1⟩ methk ck ⟨U₀, [], 0, 0⟩ { method := ⟨wv_lcls G 2, 1⟩, pc := 1, locals := #[.val (.ref a), .val (.int n)], stack := [], locked := none } (.invokestatic 17) tB ([.int n] : List Value).toArray Y₀ rfl (by rw [f8]; rfl) (by rw [f7]; exact wm2_d1) (by show 2 * 0 + 0 ≤ 8; omega) hnU hpre with ⟨v, ⟨U', l2, c2, s2⟩, Y₁, ⟨h', hP', hRep', L, e1', hL, e2', e3'⟩, hsteps⟩ | ⟨q, ⟨U', l2, c2, s2⟩, Y₁, ⟨h', E, ce, hP', hRep', hce, hcv, hcl, L, e1', hL, e2', e3'⟩, hsteps⟩
  · dsimp only [Pt.U, Pt.locs, Pt.cells, Pt.slots] at Y₁ e1' e2' e3' hsteps hRep'
    subst e1'; subst e2'; subst e3'
    obtain ⟨x, rfl⟩ := hint v h' hP'
    obtain ⟨fs, hleave, -, hended, hWe, hsame⟩ := Y₁.leave (v := some (.int x)) (fun h => by rw [f12] at h; cases h) f10
    obtain ⟨T', X', hW', -, ht⟩ := X₁.outOf (g := F0 m pc ls rest) rfl (by rw [X.hb]; exact hdg) hended hWe hsame
    have hhT' : T'.heap = U'.heap := (congrArg State.heap ht).symm
    obtain ⟨t9, a1, b1⟩ := kk x h' U'.heap (locs ++ l2) (cells + (0 + kc)) (slots + (0 + ks)) hP' ⟨hRep', wv_locs S.2.1 hL, by show cells + (0 + kc) + (w.2.1 - kc) = _; omega, by show slots + (0 + ks) + (w.2.2 - ks) = _; omega, by rw [← hhT']; exact X'.same.2.1⟩ T' hhT' X'
    have a2 : Steps p.tables e below (U'.setFrames fs) t9 := by rw [ht]; exact a1
    refine ⟨t9, st1 t9 (fun acts => ?_), b1⟩
    show Steps p.tables e below (doInvoke e ((T.setVm vm₁).setTop (F0 m pc ls rest)) acts ⟨wv_lcls G 2, 1⟩ #[.ref a, .int n]).1 t9
    rw [hin acts]
    refine Steps.trans (Steps.weaken (mid := [.java (F0 m pc ls rest)]) (hstart _ (hsteps.trans ?_))) a2
    show Steps p.tables e (.java (F0 m pc ls rest) :: below) (U'.setTop { method := ⟨wv_lcls G 2, 1⟩, pc := 4, locals := #[.val (.ref a), .val (.int n)], stack := [.int x], locked := none }) _
    jvm_step Y₁.here [Y₁.here.top, X.hx, f7, wm2_d4, Y₁.method', f12, narrow]
    intro acts'
    rw [hleave _ acts' rfl rfl rfl]
    exact Steps.refl _
  · dsimp only [Pt.U, Pt.locs, Pt.cells, Pt.slots] at Y₁ e1' e2' e3' hsteps hRep' hce hcl
    subst e1'; subst e2'; subst e3'
    obtain ⟨vm', hW', Y2, st⟩ := Y₁.outThrough f10 q (g := { method := ⟨wv_lcls G 2, 1⟩, pc := 1, locals := #[.val (.ref a), .val (.int n)], stack := [], locked := none }) rfl rfl rfl (cell := ce) hce (by rw [hcv]; rfl)
      (by rw [hvm] at hcl; obtain ⟨k9, h9, -⟩ := Vm.findClass_spec hcl; exact ⟨k9, h9⟩) (fun z hz => by rw [f9] at hz; simp at hz)
    obtain ⟨g₀, hfr0⟩ := Y2.frames_eq
    have hend : Ended ((U'.setVm vm').setFrames (.throwing q :: .java (F0 m pc ls rest) :: below)) (.java (F0 m pc ls rest) :: below) (.threw q) := State.frames_setFrames _ (State.cur_lt_of_frames hfr0)
    obtain ⟨T', X', -, -, ht⟩ := X₁.outOfThrown (g := F0 m pc ls rest) rfl hend (Y2.ends _).1 (Y2.ends _).2
    have hhT' : T'.heap = U'.heap := (congrArg State.heap ht).symm
    obtain ⟨t9, a1, b1⟩ := kx E q h' U'.heap (locs ++ l2) (cells + (0 + kc)) (slots + (0 + ks)) hP' ⟨hRep', wv_locs S.2.1 hL, by show cells + (0 + kc) + (w.2.1 - kc) = _; omega, by show slots + (0 + ks) + (w.2.2 - ks) = _; omega, by rw [← hhT']; exact X'.same.2.1⟩ ⟨ce, hce, hcv, by rw [← hal.findClass, ← hvm]; exact hcl⟩ T' hhT' X'
    have a2 : Steps p.tables e below ((U'.setVm vm').setFrames (.throwing q :: .java (F0 m pc ls rest) :: below)) t9 := by rw [ht]; exact a1
    refine ⟨t9, st1 t9 (fun acts => ?_), b1⟩
    show Steps p.tables e below (doInvoke e ((T.setVm vm₁).setTop (F0 m pc ls rest)) acts ⟨wv_lcls G 2, 1⟩ #[.ref a, .int n]).1 t9
    rw [hin acts]
    refine Steps.trans (Steps.weaken (mid := [.java (F0 m pc ls rest)]) (hstart _ (hsteps.trans ?_))) a2
    rw [Y₁.pushThrowing_eq]
    exact st
set_option maxHeartbeats 4000000 in
theorem wr_with3 {locs : List Loc} {cells slots : Nat} (X : wv_ok G p R s m args meth c fr own cc nL ret nm tb) (S : wv_S G R s w H locs cells slots) {a : Nat} {t : wv_T} {n : Int32} {index count fr' kc ks : Nat} {u0 : Nat} {u1 : Nat} {P' : wv_R → wv_H → Prop} (ha : w.1 a = some (t, wo_M 3 [.ref u0, .ref u1])) (hC : wv_C G yX2_lambda_done_3 [.ref u0, .ref u1, .int n] w.1 fr' kc ks P') (hint : ∀ v h', P' (.inl v) h' → ∃ x : Int32, v = some (.int x)) (hfr : fr' + 2 ≤ fr) (hkc : kc ≤ w.2.1) (hks : ks ≤ w.2.2) (hl : Cond.methodLink own index wyA ∈ lw_all) (hW : (rest.map fun v => v.category).sum ≤ 8) (hls : ls.size = nL) (hdg : decode cc pc = .ok (.invokeinterface index count, 5))
    (kk : ∀ (x : Int32) (h' : wv_H) (H1 : Heap) (locs1 : List Loc) (cells1 slots1 : Nat), P' (.inl (some (.int x))) h' → wv_S G R s (h', w.2.1 - kc, w.2.2 - ks) H1 locs1 cells1 slots1 → W p G.1 e R s m args below meth c H1 locs1 cells1 slots1 Q (F0 m (pc + 5) ls (.int x :: rest)))
    (kx : ∀ (E : String) (q : Nat) (h' : wv_H) (H1 : Heap) (locs1 : List Loc) (cells1 slots1 : Nat), P' (.inr (E, q)) h' → wv_S G R s (h', w.2.1 - kc, w.2.2 - ks) H1 locs1 cells1 slots1 → wv_th s H1 E q → vx_W p G.1 e R s m args below meth c H1 locs1 cells1 slots1 Q (F0 m pc ls rest) q) : W p G.1 e R s m args below meth c H locs cells slots Q (F0 m pc ls (.int n :: .ref a :: rest)) := by
  intro T hT Z
  have g1 := S.2.2.1
  have g2 := S.2.2.2.1
  have hlo := X.hlo
  have hff := X.hfr
  obtain ⟨m', kS, cf, i0, p0, lk, k1, k2, k3, k4, k5, k6, k7, k8⟩ := X.site (j := 3) (sh := wm3_sh) (x := ⟨"Weaversgate$Run", "done", "(LWeaversgate$Thing;LWeaversgate$Type;ILWeaversgate$Step;II)I"⟩) (pc0 := 387) (i := 234) (by decide) rfl
  obtain ⟨kS', hkS', hnameS⟩ := className_of_methodNamed k1
  cases k2.symm.trans hkS'
  have hnameS : kS.name = "Weaversgate$Run" := hnameS
  have hcell : H[a]? = some { cls := wv_lcls G 3, slots := ([.ref u0, .ref u1] : List Value).toArray, vm := .none } := S.1.lam ha
  obtain ⟨cellA, hcA, hclA, hvmA, hslA⟩ : ∃ cellA : Cell, H[a]? = some cellA ∧ cellA.cls = wv_lcls G 3 ∧ cellA.vm = .none ∧ cellA.slots = ([.ref u0, .ref u1] : List Value).toArray := ⟨_, hcell, rfl, rfl, rfl⟩
  have hcT : T.heap[a]? = some cellA := by rw [hT]; exact hcA
  obtain ⟨k0, tk0, file0, methk0, ck0, toy0, tB0, e1, e2, e3, e4, e5, e6, e7, e8, e9, e10, e11, e12, e13, e14, e15, e16, e17, -⟩ := wm3_made k2 hnameS k6 (wv_obj0 (X.hts _ q2657))
  obtain ⟨b0, hb0⟩ := X.hG.2.2.1
  have hFw : va_Nw (.declares wyA) s := va_Nw.warmD X.hW (va_Nw.of rfl (hb0 _ q1178))
  obtain ⟨vm₁, X₁, st1⟩ := wv_callLam Z X.hx X.hown (X.hts _ hl) (va_Nw.use rfl hFw) (X.ifaceW (x := wyA) q1177 q1178 ⟨by decide, by decide⟩) hcT hvmA (by rw [hclA]; exact k6) (by rw [hclA]; exact k7) rfl rfl (by decide +kernel) (by rw [hclA]; exact e5) e11 (g := F0 m pc ls (.int n :: .ref a :: rest)) rfl (n := n) (rest := rest) rfl (by rw [X.hb]; exact hdg)
  rw [hclA] at st1
  have hW1 : s.WarmedH vm₁ := X₁.warmed
  have hal := hW1.alike
  obtain ⟨kS1, hkS1, heS1⟩ := hal.2.2 _ _ k2
  have hO1 : ∀ o ok, vm₁.findClass "java/lang/Object" = some o → vm₁.classes[o]? = some ok → ok.instanceTypes.size = 0 := wv_obj0 (A := args) (U := T.setVm vm₁) (word_at (U := T.setVm vm₁) hW1 (lw_self _ q2657).2 (X.hts _ q2657))
  obtain ⟨k, tk, file, methk, ck, toy, tB, f1, f2, f3, f4, f5, f6, f7, f8, f9, f10, f11, f12, f13, f14, f15, f16, f17, ⟨g0, hg0, hs0, hl0⟩, ⟨g1, hg1, hs1, hl1⟩⟩ := wm3_made (vm := vm₁) hkS1 (by rw [heS1]; exact hnameS) (Jvm.Lambda.isMade_warmer hW1 k6) hO1
  have hpk : (T.setVm vm₁).plainMethod ⟨wv_lcls G 3, 1⟩ := State.plainMethod.of_name (fun k' hk' => by cases f1.symm.trans hk'; rw [f2]; decide)
  obtain ⟨Y₀, hin⟩ := X₁.into (g := F0 m pc ls rest) rfl (by rw [X.hml]; exact hls) (by rw [X.hb]; exact hdg) #[.ref a, .int n] (R' := { frames := fr - 1, locals := 64 * (fr - 1), cells := kc, slots := ks }) f5 f6 f10 hpk (by show fr - 1 + 1 ≤ R.frames; omega) (by rw [f8]; show 2 * 0 + (rest.map fun v => v.category).sum + (2 + 11) + 64 * (fr - 1) ≤ R.locals; omega) (by show cells + kc ≤ R.cells; omega) (by show slots + ks ≤ R.slots; omega)
  rw [f8] at Y₀ hin
  have hent : entryFrame ⟨wv_lcls G 3, 1⟩ #[.ref a, .int n] 2 = { method := ⟨wv_lcls G 3, 1⟩, pc := 0, locals := #[.val (.ref a), .val (.int n)], stack := [], locked := none } := rfl
  rw [hent] at Y₀ hin
  generalize hU0 : ((T.setVm vm₁).setTop (F0 m pc ls rest)).pushFrame (.java { method := ⟨wv_lcls G 3, 1⟩, pc := 0, locals := #[.val (.ref a), .val (.int n)], stack := [], locked := none }) = U₀ at Y₀ hin
  have hvm : U₀.vm = vm₁ := by rw [← hU0]; rfl
  have hheap : U₀.heap = H := by rw [← hU0]; exact hT
  obtain ⟨mB, hnB⟩ : ∃ mB, s.methodNamed? yX2_lambda_done_3 = some mB := by
    have h1 := X.hts _ q1194
    cases hq : s.methodNamed? (⟨"Weaversgate$Run", "lambda$done$3", "(LWeaversgate$Thing;LWeaversgate$Step;I)I"⟩ : MethodName) with
    | none => simp [Cond.before, Cond.holds, Cond.value, hq] at h1
    | some mB => exact ⟨mB, hq⟩
  obtain ⟨methB, cB0, hmB0, -⟩ := Cond.code_spec hnB (X.hts _ q1194)
  have hstB : methB.isStatic = true := Cond.static_spec hnB hmB0 (X.hts _ q1193)
  obtain ⟨methB', cB, hmB', -, -, -, -, -, -, hsigB⟩ := Cond.code_spec hnB (X.hts _ q1194)
  cases hmB0.symm.trans hmB'
  have hmB : vm₁.method? mB = some methB := by rw [hal.method?]; exact hmB0
  have hfT : s.vm.findClass "Weaversgate$Run" = some mB.cls := findClass_of_methodNamed hnB
  have htoy : toy = mB.cls := by
    have h1 := f13
    rw [hal.findClass, hfT] at h1
    exact (Option.some.inj h1).symm
  subst htoy
  have hinitB : tk.init = .initialized := Cond.initialized_spec (s := T.setVm vm₁) f13 f14 (word_at (a' := args) (U := T.setVm vm₁) hW1 (lw_self _ q64).2 (X.hts _ q64))
  obtain ⟨kB, hkB, hnameB⟩ := className_of_methodNamed hnB
  obtain ⟨kB1, hkB1, heB1⟩ := hal.2.2 _ _ hkB
  cases f14.symm.trans hkB1
  have hsp : ∀ y : Method, signaturePolymorphic tk y = false := fun y => by
    have h1 : tk.name = "Weaversgate$Run" := by rw [heB1]; exact hnameB
    simp [signaturePolymorphic, h1]
  have hnB1 : (T.setVm vm₁).methodNamed? yX2_lambda_done_3 = some mB := by
    have h1 := State.methodNamed?_setVm (s := s) hal yX2_lambda_done_3
    rw [hnB] at h1
    exact h1
  have htB : tB = mB := by
    have h1 : (T.setVm vm₁).methodFound? "Weaversgate$Run" "lambda$done$3" "(LWeaversgate$Thing;LWeaversgate$Step;I)I" = some mB := State.methodFound?_of_named hnB1 (by decide)
    have f13' : (T.setVm vm₁).vm.findClass "Weaversgate$Run" = some mB.cls := f13
    have f14' : (T.setVm vm₁).vm.classes[mB.cls]? = some tk := f14
    simp only [State.methodFound?, f13', f14', Option.bind_eq_bind, Option.bind_some] at h1
    have f15' : ((methodIn mB.cls "lambda$done$3" "(LWeaversgate$Thing;LWeaversgate$Step;I)I" tk.isInterface none).ask { classPath := fun _ => none } (T.setVm vm₁).vm).1 = .ok tB := f15
    rw [f15'] at h1
    exact Option.some.inj h1
  subst htB
  have hlenB : ([.ref u0, .ref u1, .int n] : List Value).length = methB.sig.parameters.length := by
    have h1 : parseMethodDescriptor "(LWeaversgate$Thing;LWeaversgate$Step;I)I" = some methB.sig := hsigB
    have h2 : (parseMethodDescriptor "(LWeaversgate$Thing;LWeaversgate$Step;I)I").map (fun d => d.parameters.length) = some 3 := by decide +kernel
    rw [h1] at h2
    exact (Option.some.inj h2).symm
  obtain ⟨bB, hmem⟩ := memberRef_ask' (e := e) (vm := vm₁) (d := wv_lcls G 3) (index := 27) f1 f3 (Or.inl (by rw [f4]; exact wm3_M.1)) (by rw [f4]; exact wm3_M.2.2)
  obtain ⟨hK, -⟩ := hC.back (e := e) (p := p) (R := { frames := fr - 1, locals := 64 * (fr - 1), cells := kc, slots := ks }) (below := .java (F0 m pc ls rest) :: below) (s := (T.setVm vm₁).calling (F0 m pc ls rest) ⟨wv_lcls G 3, 1⟩ #[.ref a, .int n]) (sargs := #[.ref a, .int n]) (len := 3) (by show fr' + 1 ≤ fr - 1; omega) rfl (fun z hz => word_at (U := (T.setVm vm₁).calling (F0 m pc ls rest) ⟨wv_lcls G 3, 1⟩ #[.ref a, .int n]) hW1 (lw_self z hz).2 (X.hts z hz)) (word_at (U := (T.setVm vm₁).calling (F0 m pc ls rest) ⟨wv_lcls G 3, 1⟩ #[.ref a, .int n]) hW1 (lw_self _ q64).2 (X.hts _ q64))
  have hs : U₀.topJava?.isSome := Y₀.here.top
  have hstart : ∀ t9 : State, Steps p.tables e (.java (F0 m pc ls rest) :: below) (doInvoke e (U₀.setTop { method := ⟨wv_lcls G 3, 1⟩, pc := 9, locals := #[.val (.ref a), .val (.int n)], stack := [], locked := none }) [] tB ([.ref u0, .ref u1, .int n] : List Value).toArray).1 t9 → Steps p.tables e (.java (F0 m pc ls rest) :: below) (U₀.setTop { method := ⟨wv_lcls G 3, 1⟩, pc := 0, locals := #[.val (.ref a), .val (.int n)], stack := [], locked := none }) t9 := by
    intro t9 h9
    jvm_step Y₀.here [X.hx, f7, wm3_d0, Value.isRef]
    jvm_step Y₀.here [X.hx, f7, wm3_d1, getfield.wp_ready (e := e) (s := U₀) (c := wv_lcls G 3) (field := g0) (a := a) (rest := []) (cell := cellA) (v := .ref u0)
        (f := { method := ⟨wv_lcls G 3, 1⟩, pc := 1, locals := #[.val (.ref a), .val (.int n)], stack := [.ref a], locked := none }) hs (by rw [hvm]; exact hg0) hs0 rfl (by rw [hheap]; exact hcA) (by rw [hvmA]; intro h; cases h) (by rw [hl0, hslA]; rfl)]
    jvm_step Y₀.here [X.hx, f7, wm3_d4, Value.isRef]
    jvm_step Y₀.here [X.hx, f7, wm3_d5, getfield.wp_ready (e := e) (s := U₀) (c := wv_lcls G 3) (field := g1) (a := a) (rest := [.ref u0]) (cell := cellA) (v := .ref u1)
        (f := { method := ⟨wv_lcls G 3, 1⟩, pc := 5, locals := #[.val (.ref a), .val (.int n)], stack := [.ref a, .ref u0], locked := none }) hs (by rw [hvm]; exact hg1) hs1 rfl (by rw [hheap]; exact hcA) (by rw [hvmA]; intro h; cases h) (by rw [hl1, hslA]; rfl)]
    jvm_step Y₀.here [X.hx, f7, wm3_d8]
    jvm_step Y₀.here [X.hx, f7, wm3_d9, invokestatic.wp_ready (e := e) (s := U₀) (m := tB) (k := tk) (meth := methB) (args := [.ref u0, .ref u1, .int n]) (rest := [])
        (f := { method := ⟨wv_lcls G 3, 1⟩, pc := 9, locals := #[.val (.ref a), .val (.int n)], stack := [.int n, .ref u1, .ref u0], locked := none }) hs ⟨23, _, _, bB, tB.cls, tk, by rw [hvm]; exact hmem, by rw [hvm]; exact f17, by rw [hvm]; exact f14, by simp [hsp]⟩ (by rw [hvm]; exact f16) (by rw [hvm]; exact f14) (by rw [hvm]; exact hmB) (hsp _) hstB hinitB hlenB rfl]
    intro acts
    rw [doInvoke_state]
    exact h9
  have hnU : U₀.methodNamed? yX2_lambda_done_3 = some tB := by
    have q : ((T.setVm vm₁).setVm U₀.vm).methodNamed? yX2_lambda_done_3 = some tB := by rw [hvm]; exact hnB1
    exact q
  have hpre : wv_Pre G { frames := fr - 1, locals := 64 * (fr - 1), cells := kc, slots := ks } kc ks [.ref u0, .ref u1, .int n] w.1 ⟨U₀, [], 0, 0⟩ ([.ref u0, .ref u1, .int n] : List Value).toArray := ⟨by show 0 + kc ≤ kc; omega, by show 0 + ks ≤ ks; omega, rfl, by show wv_Rep G w.1 U₀.heap; rw [hheap]; exact S.1, by show G.2.1.WarmedH U₀.vm; rw [hvm]; exact State.WarmedH.trans X.hW hW1⟩
  rcases hK ⟨wv_lcls G 3, 1⟩ methk ck ⟨U₀, [], 0, 0⟩ { method := ⟨wv_lcls G 3, 1⟩, pc := 9, locals := #[.val (.ref a), .val (.int n)], stack := [], locked := none } (.invokestatic 27) tB ([.ref u0, .ref u1, .int n] : List Value).toArray Y₀ rfl (by rw [f8]; rfl) (by rw [f7]; exact wm3_d9) (by show 2 * 0 + 0 ≤ 8; omega) hnU hpre with ⟨v, ⟨U', l2, c2, s2⟩, Y₁, ⟨h', hP', hRep', L, e1', hL, e2', e3'⟩, hsteps⟩ | ⟨q, ⟨U', l2, c2, s2⟩, Y₁, ⟨h', E, ce, hP', hRep', hce, hcv, hcl, L, e1', hL, e2', e3'⟩, hsteps⟩
  · dsimp only [Pt.U, Pt.locs, Pt.cells, Pt.slots] at Y₁ e1' e2' e3' hsteps hRep'
    subst e1'; subst e2'; subst e3'
    obtain ⟨x, rfl⟩ := hint v h' hP'
    obtain ⟨fs, hleave, -, hended, hWe, hsame⟩ := Y₁.leave (v := some (.int x)) (fun h => by rw [f12] at h; cases h) f10
    obtain ⟨T', X', hW', -, ht⟩ := X₁.outOf (g := F0 m pc ls rest) rfl (by rw [X.hb]; exact hdg) hended hWe hsame
    have hhT' : T'.heap = U'.heap := (congrArg State.heap ht).symm
    obtain ⟨t9, a1, b1⟩ := kk x h' U'.heap (locs ++ l2) (cells + (0 + kc)) (slots + (0 + ks)) hP' ⟨hRep', wv_locs S.2.1 hL, by show cells + (0 + kc) + (w.2.1 - kc) = _; omega, by show slots + (0 + ks) + (w.2.2 - ks) = _; omega, by rw [← hhT']; exact X'.same.2.1⟩ T' hhT' X'
    have a2 : Steps p.tables e below (U'.setFrames fs) t9 := by rw [ht]; exact a1
    refine ⟨t9, st1 t9 (fun acts => ?_), b1⟩
    show Steps p.tables e below (doInvoke e ((T.setVm vm₁).setTop (F0 m pc ls rest)) acts ⟨wv_lcls G 3, 1⟩ #[.ref a, .int n]).1 t9
    rw [hin acts]
    refine Steps.trans (Steps.weaken (mid := [.java (F0 m pc ls rest)]) (hstart _ (hsteps.trans ?_))) a2
    show Steps p.tables e (.java (F0 m pc ls rest) :: below) (U'.setTop { method := ⟨wv_lcls G 3, 1⟩, pc := 12, locals := #[.val (.ref a), .val (.int n)], stack := [.int x], locked := none }) _
    jvm_step Y₁.here [Y₁.here.top, X.hx, f7, wm3_d12, Y₁.method', f12, narrow]
    intro acts'
    rw [hleave _ acts' rfl rfl rfl]
    exact Steps.refl _
  · dsimp only [Pt.U, Pt.locs, Pt.cells, Pt.slots] at Y₁ e1' e2' e3' hsteps hRep' hce hcl
    subst e1'; subst e2'; subst e3'
    obtain ⟨vm', hW', Y2, st⟩ := Y₁.outThrough f10 q (g := { method := ⟨wv_lcls G 3, 1⟩, pc := 9, locals := #[.val (.ref a), .val (.int n)], stack := [], locked := none }) rfl rfl rfl (cell := ce) hce (by rw [hcv]; rfl)
      (by rw [hvm] at hcl; obtain ⟨k9, h9, -⟩ := Vm.findClass_spec hcl; exact ⟨k9, h9⟩) (fun z hz => by rw [f9] at hz; simp at hz)
    obtain ⟨g₀, hfr0⟩ := Y2.frames_eq
    have hend : Ended ((U'.setVm vm').setFrames (.throwing q :: .java (F0 m pc ls rest) :: below)) (.java (F0 m pc ls rest) :: below) (.threw q) := State.frames_setFrames _ (State.cur_lt_of_frames hfr0)
    obtain ⟨T', X', -, -, ht⟩ := X₁.outOfThrown (g := F0 m pc ls rest) rfl hend (Y2.ends _).1 (Y2.ends _).2
    have hhT' : T'.heap = U'.heap := (congrArg State.heap ht).symm
    obtain ⟨t9, a1, b1⟩ := kx E q h' U'.heap (locs ++ l2) (cells + (0 + kc)) (slots + (0 + ks)) hP' ⟨hRep', wv_locs S.2.1 hL, by show cells + (0 + kc) + (w.2.1 - kc) = _; omega, by show slots + (0 + ks) + (w.2.2 - ks) = _; omega, by rw [← hhT']; exact X'.same.2.1⟩ ⟨ce, hce, hcv, by rw [← hal.findClass, ← hvm]; exact hcl⟩ T' hhT' X'
    have a2 : Steps p.tables e below ((U'.setVm vm').setFrames (.throwing q :: .java (F0 m pc ls rest) :: below)) t9 := by rw [ht]; exact a1
    refine ⟨t9, st1 t9 (fun acts => ?_), b1⟩
    show Steps p.tables e below (doInvoke e ((T.setVm vm₁).setTop (F0 m pc ls rest)) acts ⟨wv_lcls G 3, 1⟩ #[.ref a, .int n]).1 t9
    rw [hin acts]
    refine Steps.trans (Steps.weaken (mid := [.java (F0 m pc ls rest)]) (hstart _ (hsteps.trans ?_))) a2
    rw [Y₁.pushThrowing_eq]
    exact st
set_option maxHeartbeats 4000000 in
theorem wr_with4 {locs : List Loc} {cells slots : Nat} (X : wv_ok G p R s m args meth c fr own cc nL ret nm tb) (S : wv_S G R s w H locs cells slots) {a : Nat} {t : wv_T} {n : Int32} {index count fr' kc ks : Nat} {u0 : Nat} {u1 : Nat} {u2 : Nat} {P' : wv_R → wv_H → Prop} (ha : w.1 a = some (t, wo_M 4 [.ref u0, .ref u1, .ref u2])) (hr0 : wv_is G w.1 u0 "Weaversgate$Run") (hC : wv_C G yX2_lambda_done_4 [.ref u0, .ref u1, .ref u2, .int n] w.1 fr' kc ks P') (hint : ∀ v h', P' (.inl v) h' → ∃ x : Int32, v = some (.int x)) (hfr : fr' + 2 ≤ fr) (hkc : kc ≤ w.2.1) (hks : ks ≤ w.2.2) (hl : Cond.methodLink own index wyA ∈ lw_all) (hW : (rest.map fun v => v.category).sum ≤ 8) (hls : ls.size = nL) (hdg : decode cc pc = .ok (.invokeinterface index count, 5))
    (kk : ∀ (x : Int32) (h' : wv_H) (H1 : Heap) (locs1 : List Loc) (cells1 slots1 : Nat), P' (.inl (some (.int x))) h' → wv_S G R s (h', w.2.1 - kc, w.2.2 - ks) H1 locs1 cells1 slots1 → W p G.1 e R s m args below meth c H1 locs1 cells1 slots1 Q (F0 m (pc + 5) ls (.int x :: rest)))
    (kx : ∀ (E : String) (q : Nat) (h' : wv_H) (H1 : Heap) (locs1 : List Loc) (cells1 slots1 : Nat), P' (.inr (E, q)) h' → wv_S G R s (h', w.2.1 - kc, w.2.2 - ks) H1 locs1 cells1 slots1 → wv_th s H1 E q → vx_W p G.1 e R s m args below meth c H1 locs1 cells1 slots1 Q (F0 m pc ls rest) q) : W p G.1 e R s m args below meth c H locs cells slots Q (F0 m pc ls (.int n :: .ref a :: rest)) := by
  intro T hT Z
  have g1 := S.2.2.1
  have g2 := S.2.2.2.1
  have hlo := X.hlo
  have hff := X.hfr
  obtain ⟨m', kS, cf, i0, p0, lk, k1, k2, k3, k4, k5, k6, k7, k8⟩ := X.site (j := 4) (sh := wm4_sh) (x := ⟨"Weaversgate$Run", "done", "(LWeaversgate$Thing;LWeaversgate$Type;ILWeaversgate$Step;II)I"⟩) (pc0 := 418) (i := 237) (by decide) rfl
  obtain ⟨kS', hkS', hnameS⟩ := className_of_methodNamed k1
  cases k2.symm.trans hkS'
  have hnameS : kS.name = "Weaversgate$Run" := hnameS
  have hcell : H[a]? = some { cls := wv_lcls G 4, slots := ([.ref u0, .ref u1, .ref u2] : List Value).toArray, vm := .none } := S.1.lam ha
  obtain ⟨cellA, hcA, hclA, hvmA, hslA⟩ : ∃ cellA : Cell, H[a]? = some cellA ∧ cellA.cls = wv_lcls G 4 ∧ cellA.vm = .none ∧ cellA.slots = ([.ref u0, .ref u1, .ref u2] : List Value).toArray := ⟨_, hcell, rfl, rfl, rfl⟩
  have hcT : T.heap[a]? = some cellA := by rw [hT]; exact hcA
  obtain ⟨k0, tk0, file0, methk0, ck0, toy0, tB0, e1, e2, e3, e4, e5, e6, e7, e8, e9, e10, e11, e12, e13, e14, e15, e16, e17, -⟩ := wm4_made k2 hnameS k6 (wv_obj0 (X.hts _ q2657))
  obtain ⟨b0, hb0⟩ := X.hG.2.2.1
  have hFw : va_Nw (.declares wyA) s := va_Nw.warmD X.hW (va_Nw.of rfl (hb0 _ q1178))
  obtain ⟨vm₁, X₁, st1⟩ := wv_callLam Z X.hx X.hown (X.hts _ hl) (va_Nw.use rfl hFw) (X.ifaceW (x := wyA) q1177 q1178 ⟨by decide, by decide⟩) hcT hvmA (by rw [hclA]; exact k6) (by rw [hclA]; exact k7) rfl rfl (by decide +kernel) (by rw [hclA]; exact e5) e11 (g := F0 m pc ls (.int n :: .ref a :: rest)) rfl (n := n) (rest := rest) rfl (by rw [X.hb]; exact hdg)
  rw [hclA] at st1
  have hW1 : s.WarmedH vm₁ := X₁.warmed
  have hal := hW1.alike
  obtain ⟨kS1, hkS1, heS1⟩ := hal.2.2 _ _ k2
  have hO1 : ∀ o ok, vm₁.findClass "java/lang/Object" = some o → vm₁.classes[o]? = some ok → ok.instanceTypes.size = 0 := wv_obj0 (A := args) (U := T.setVm vm₁) (word_at (U := T.setVm vm₁) hW1 (lw_self _ q2657).2 (X.hts _ q2657))
  obtain ⟨k, tk, file, methk, ck, toy, tB, f1, f2, f3, f4, f5, f6, f7, f8, f9, f10, f11, f12, f13, f14, f15, f16, f17, ⟨g0, hg0, hs0, hl0⟩, ⟨g1, hg1, hs1, hl1⟩, ⟨g2, hg2, hs2, hl2⟩⟩ := wm4_made (vm := vm₁) hkS1 (by rw [heS1]; exact hnameS) (Jvm.Lambda.isMade_warmer hW1 k6) hO1
  have hpk : (T.setVm vm₁).plainMethod ⟨wv_lcls G 4, 1⟩ := State.plainMethod.of_name (fun k' hk' => by cases f1.symm.trans hk'; rw [f2]; decide)
  obtain ⟨Y₀, hin⟩ := X₁.into (g := F0 m pc ls rest) rfl (by rw [X.hml]; exact hls) (by rw [X.hb]; exact hdg) #[.ref a, .int n] (R' := { frames := fr - 1, locals := 64 * (fr - 1), cells := kc, slots := ks }) f5 f6 f10 hpk (by show fr - 1 + 1 ≤ R.frames; omega) (by rw [f8]; show 2 * 0 + (rest.map fun v => v.category).sum + (2 + 11) + 64 * (fr - 1) ≤ R.locals; omega) (by show cells + kc ≤ R.cells; omega) (by show slots + ks ≤ R.slots; omega)
  rw [f8] at Y₀ hin
  have hent : entryFrame ⟨wv_lcls G 4, 1⟩ #[.ref a, .int n] 2 = { method := ⟨wv_lcls G 4, 1⟩, pc := 0, locals := #[.val (.ref a), .val (.int n)], stack := [], locked := none } := rfl
  rw [hent] at Y₀ hin
  generalize hU0 : ((T.setVm vm₁).setTop (F0 m pc ls rest)).pushFrame (.java { method := ⟨wv_lcls G 4, 1⟩, pc := 0, locals := #[.val (.ref a), .val (.int n)], stack := [], locked := none }) = U₀ at Y₀ hin
  have hvm : U₀.vm = vm₁ := by rw [← hU0]; rfl
  have hheap : U₀.heap = H := by rw [← hU0]; exact hT
  obtain ⟨mB, methB, hnB, hmB0, hstB, habB⟩ := Cond.instanceMethod_spec (X.hts _ q1196)
  have hnB : s.methodNamed? yX2_lambda_done_4 = some mB := hnB
  obtain ⟨methB', cB, hmB', -, -, -, -, -, -, hsigB⟩ := Cond.code_spec hnB (X.hts _ q1197)
  cases hmB0.symm.trans hmB'
  have hmB : vm₁.method? mB = some methB := by rw [hal.method?]; exact hmB0
  have hfT : s.vm.findClass "Weaversgate$Run" = some mB.cls := findClass_of_methodNamed hnB
  have htoy : toy = mB.cls := by
    have h1 := f13
    rw [hal.findClass, hfT] at h1
    exact (Option.some.inj h1).symm
  subst htoy
  have hinitB : tk.init = .initialized := Cond.initialized_spec (s := T.setVm vm₁) f13 f14 (word_at (a' := args) (U := T.setVm vm₁) hW1 (lw_self _ q64).2 (X.hts _ q64))
  obtain ⟨kB, hkB, hnameB⟩ := className_of_methodNamed hnB
  obtain ⟨kB1, hkB1, heB1⟩ := hal.2.2 _ _ hkB
  cases f14.symm.trans hkB1
  have hsp : ∀ y : Method, signaturePolymorphic tk y = false := fun y => by
    have h1 : tk.name = "Weaversgate$Run" := by rw [heB1]; exact hnameB
    simp [signaturePolymorphic, h1]
  have hnB1 : (T.setVm vm₁).methodNamed? yX2_lambda_done_4 = some mB := by
    have h1 := State.methodNamed?_setVm (s := s) hal yX2_lambda_done_4
    rw [hnB] at h1
    exact h1
  have htB : tB = mB := by
    have h1 : (T.setVm vm₁).methodFound? "Weaversgate$Run" "lambda$done$4" "(LWeaversgate$Thing;LWeaversgate$Step;I)I" = some mB := State.methodFound?_of_named hnB1 (by decide)
    have f13' : (T.setVm vm₁).vm.findClass "Weaversgate$Run" = some mB.cls := f13
    have f14' : (T.setVm vm₁).vm.classes[mB.cls]? = some tk := f14
    simp only [State.methodFound?, f13', f14', Option.bind_eq_bind, Option.bind_some] at h1
    have f15' : ((methodIn mB.cls "lambda$done$4" "(LWeaversgate$Thing;LWeaversgate$Step;I)I" tk.isInterface none).ask { classPath := fun _ => none } (T.setVm vm₁).vm).1 = .ok tB := f15
    rw [f15'] at h1
    exact Option.some.inj h1
  subst htB
  have hlenB : ([.ref u1, .ref u2, .int n] : List Value).length = methB.sig.parameters.length := by
    have h1 : parseMethodDescriptor "(LWeaversgate$Thing;LWeaversgate$Step;I)I" = some methB.sig := hsigB
    have h2 : (parseMethodDescriptor "(LWeaversgate$Thing;LWeaversgate$Step;I)I").map (fun d => d.parameters.length) = some 3 := by decide +kernel
    rw [h1] at h2
    exact (Option.some.inj h2).symm
  obtain ⟨cellR, hcR, hoR, hclR⟩ := hr0.cell X S.1
  have hobR : ∀ c, cellR.vm ≠ .statics c := fun c h => by rw [h] at hoR; cases hoR
  obtain ⟨c2, r2, m2, p1, p2, p3, p4, kP, hkP, hkPi⟩ := Cond.selects_spec (X.hts _ qs24)
  cases hfT.symm.trans p1
  have hr2 : r2 = tB := by
    have h1 : s.methodFound? "Weaversgate$Run" "lambda$done$4" "(LWeaversgate$Thing;LWeaversgate$Step;I)I" = some tB := State.methodFound?_of_named hnB (by decide)
    exact Option.some.inj (p2.symm.trans h1)
  subst hr2
  cases hnB.symm.trans p3
  cases hkB.symm.trans hkP
  have hitf : tk.isInterface = false := by rw [heB1]; exact hkPi
  have hselB : selectMethod e.platform U₀.vm cellR.cls r2 = .method r2 := by
    rw [Launch.admits_selectMethod Z.admits, hvm, hal.selectMethod, ← Option.some.inj (hfT.symm.trans hclR)]
    exact p4
  obtain ⟨hK, -⟩ := hC.back (e := e) (p := p) (R := { frames := fr - 1, locals := 64 * (fr - 1), cells := kc, slots := ks }) (below := .java (F0 m pc ls rest) :: below) (s := (T.setVm vm₁).calling (F0 m pc ls rest) ⟨wv_lcls G 4, 1⟩ #[.ref a, .int n]) (sargs := #[.ref a, .int n]) (len := 3) (by show fr' + 1 ≤ fr - 1; omega) rfl (fun z hz => word_at (U := (T.setVm vm₁).calling (F0 m pc ls rest) ⟨wv_lcls G 4, 1⟩ #[.ref a, .int n]) hW1 (lw_self z hz).2 (X.hts z hz)) (word_at (U := (T.setVm vm₁).calling (F0 m pc ls rest) ⟨wv_lcls G 4, 1⟩ #[.ref a, .int n]) hW1 (lw_self _ q64).2 (X.hts _ q64))
  have hs : U₀.topJava?.isSome := Y₀.here.top
  have hstart : ∀ t9 : State, Steps p.tables e (.java (F0 m pc ls rest) :: below) (doInvoke e (U₀.setTop { method := ⟨wv_lcls G 4, 1⟩, pc := 13, locals := #[.val (.ref a), .val (.int n)], stack := [], locked := none }) [] r2 ([.ref u0, .ref u1, .ref u2, .int n] : List Value).toArray).1 t9 → Steps p.tables e (.java (F0 m pc ls rest) :: below) (U₀.setTop { method := ⟨wv_lcls G 4, 1⟩, pc := 0, locals := #[.val (.ref a), .val (.int n)], stack := [], locked := none }) t9 := by
    intro t9 h9
    jvm_step Y₀.here [X.hx, f7, wm4_d0, Value.isRef]
    jvm_step Y₀.here [X.hx, f7, wm4_d1, getfield.wp_ready (e := e) (s := U₀) (c := wv_lcls G 4) (field := g0) (a := a) (rest := []) (cell := cellA) (v := .ref u0)
        (f := { method := ⟨wv_lcls G 4, 1⟩, pc := 1, locals := #[.val (.ref a), .val (.int n)], stack := [.ref a], locked := none }) hs (by rw [hvm]; exact hg0) hs0 rfl (by rw [hheap]; exact hcA) (by rw [hvmA]; intro h; cases h) (by rw [hl0, hslA]; rfl)]
    jvm_step Y₀.here [X.hx, f7, wm4_d4, Value.isRef]
    jvm_step Y₀.here [X.hx, f7, wm4_d5, getfield.wp_ready (e := e) (s := U₀) (c := wv_lcls G 4) (field := g1) (a := a) (rest := [.ref u0]) (cell := cellA) (v := .ref u1)
        (f := { method := ⟨wv_lcls G 4, 1⟩, pc := 5, locals := #[.val (.ref a), .val (.int n)], stack := [.ref a, .ref u0], locked := none }) hs (by rw [hvm]; exact hg1) hs1 rfl (by rw [hheap]; exact hcA) (by rw [hvmA]; intro h; cases h) (by rw [hl1, hslA]; rfl)]
    jvm_step Y₀.here [X.hx, f7, wm4_d8, Value.isRef]
    jvm_step Y₀.here [X.hx, f7, wm4_d9, getfield.wp_ready (e := e) (s := U₀) (c := wv_lcls G 4) (field := g2) (a := a) (rest := [.ref u1, .ref u0]) (cell := cellA) (v := .ref u2)
        (f := { method := ⟨wv_lcls G 4, 1⟩, pc := 9, locals := #[.val (.ref a), .val (.int n)], stack := [.ref a, .ref u1, .ref u0], locked := none }) hs (by rw [hvm]; exact hg2) hs2 rfl (by rw [hheap]; exact hcA) (by rw [hvmA]; intro h; cases h) (by rw [hl2, hslA]; rfl)]
    jvm_step Y₀.here [X.hx, f7, wm4_d12]
    jvm_step Y₀.here [X.hx, f7, wm4_d13, invokevirtual.wp_ready (e := e) (s := U₀) (r := r2) (m := r2) (k := tk) (mk := tk) (rmeth := methB) (meth := methB) (a := u0) (args := [.ref u1, .ref u2, .int n]) (rest := []) (cell := cellR)
        (f := { method := ⟨wv_lcls G 4, 1⟩, pc := 13, locals := #[.val (.ref a), .val (.int n)], stack := [.int n, .ref u2, .ref u1, .ref u0], locked := none }) hs ⟨k, file, 27, 30, r2.cls, tk, by rw [hvm]; exact f1, f3, by rw [f4]; exact wm4_M.1, by rw [hvm]; exact f17, by rw [hvm]; exact f14, hitf⟩ (by rw [hvm]; exact f16) (by rw [hvm]; exact f14) (by rw [hvm]; exact hmB) (hsp _) hstB hlenB rfl (by rw [hheap]; exact hcR) hobR hselB (by rw [hvm]; exact hmB) habB (by rw [hvm]; exact f14) hitf]
    intro acts
    rw [doInvoke_state]
    exact h9
  have hnU : U₀.methodNamed? yX2_lambda_done_4 = some r2 := by
    have q : ((T.setVm vm₁).setVm U₀.vm).methodNamed? yX2_lambda_done_4 = some r2 := by rw [hvm]; exact hnB1
    exact q
  have hpre : wv_Pre G { frames := fr - 1, locals := 64 * (fr - 1), cells := kc, slots := ks } kc ks [.ref u0, .ref u1, .ref u2, .int n] w.1 ⟨U₀, [], 0, 0⟩ ([.ref u0, .ref u1, .ref u2, .int n] : List Value).toArray := ⟨by show 0 + kc ≤ kc; omega, by show 0 + ks ≤ ks; omega, rfl, by show wv_Rep G w.1 U₀.heap; rw [hheap]; exact S.1, by show G.2.1.WarmedH U₀.vm; rw [hvm]; exact State.WarmedH.trans X.hW hW1⟩
  rcases hK ⟨wv_lcls G 4, 1⟩ methk ck ⟨U₀, [], 0, 0⟩ { method := ⟨wv_lcls G 4, 1⟩, pc := 13, locals := #[.val (.ref a), .val (.int n)], stack := [], locked := none } (.invokevirtual 31) r2 ([.ref u0, .ref u1, .ref u2, .int n] : List Value).toArray Y₀ rfl (by rw [f8]; rfl) (by rw [f7]; exact wm4_d13) (by show 2 * 0 + 0 ≤ 8; omega) hnU hpre with ⟨v, ⟨U', l2, c2, s2⟩, Y₁, ⟨h', hP', hRep', L, e1', hL, e2', e3'⟩, hsteps⟩ | ⟨q, ⟨U', l2, c2, s2⟩, Y₁, ⟨h', E, ce, hP', hRep', hce, hcv, hcl, L, e1', hL, e2', e3'⟩, hsteps⟩
  · dsimp only [Pt.U, Pt.locs, Pt.cells, Pt.slots] at Y₁ e1' e2' e3' hsteps hRep'
    subst e1'; subst e2'; subst e3'
    obtain ⟨x, rfl⟩ := hint v h' hP'
    obtain ⟨fs, hleave, -, hended, hWe, hsame⟩ := Y₁.leave (v := some (.int x)) (fun h => by rw [f12] at h; cases h) f10
    obtain ⟨T', X', hW', -, ht⟩ := X₁.outOf (g := F0 m pc ls rest) rfl (by rw [X.hb]; exact hdg) hended hWe hsame
    have hhT' : T'.heap = U'.heap := (congrArg State.heap ht).symm
    obtain ⟨t9, a1, b1⟩ := kk x h' U'.heap (locs ++ l2) (cells + (0 + kc)) (slots + (0 + ks)) hP' ⟨hRep', wv_locs S.2.1 hL, by show cells + (0 + kc) + (w.2.1 - kc) = _; omega, by show slots + (0 + ks) + (w.2.2 - ks) = _; omega, by rw [← hhT']; exact X'.same.2.1⟩ T' hhT' X'
    have a2 : Steps p.tables e below (U'.setFrames fs) t9 := by rw [ht]; exact a1
    refine ⟨t9, st1 t9 (fun acts => ?_), b1⟩
    show Steps p.tables e below (doInvoke e ((T.setVm vm₁).setTop (F0 m pc ls rest)) acts ⟨wv_lcls G 4, 1⟩ #[.ref a, .int n]).1 t9
    rw [hin acts]
    refine Steps.trans (Steps.weaken (mid := [.java (F0 m pc ls rest)]) (hstart _ (hsteps.trans ?_))) a2
    show Steps p.tables e (.java (F0 m pc ls rest) :: below) (U'.setTop { method := ⟨wv_lcls G 4, 1⟩, pc := 16, locals := #[.val (.ref a), .val (.int n)], stack := [.int x], locked := none }) _
    jvm_step Y₁.here [Y₁.here.top, X.hx, f7, wm4_d16, Y₁.method', f12, narrow]
    intro acts'
    rw [hleave _ acts' rfl rfl rfl]
    exact Steps.refl _
  · dsimp only [Pt.U, Pt.locs, Pt.cells, Pt.slots] at Y₁ e1' e2' e3' hsteps hRep' hce hcl
    subst e1'; subst e2'; subst e3'
    obtain ⟨vm', hW', Y2, st⟩ := Y₁.outThrough f10 q (g := { method := ⟨wv_lcls G 4, 1⟩, pc := 13, locals := #[.val (.ref a), .val (.int n)], stack := [], locked := none }) rfl rfl rfl (cell := ce) hce (by rw [hcv]; rfl)
      (by rw [hvm] at hcl; obtain ⟨k9, h9, -⟩ := Vm.findClass_spec hcl; exact ⟨k9, h9⟩) (fun z hz => by rw [f9] at hz; simp at hz)
    obtain ⟨g₀, hfr0⟩ := Y2.frames_eq
    have hend : Ended ((U'.setVm vm').setFrames (.throwing q :: .java (F0 m pc ls rest) :: below)) (.java (F0 m pc ls rest) :: below) (.threw q) := State.frames_setFrames _ (State.cur_lt_of_frames hfr0)
    obtain ⟨T', X', -, -, ht⟩ := X₁.outOfThrown (g := F0 m pc ls rest) rfl hend (Y2.ends _).1 (Y2.ends _).2
    have hhT' : T'.heap = U'.heap := (congrArg State.heap ht).symm
    obtain ⟨t9, a1, b1⟩ := kx E q h' U'.heap (locs ++ l2) (cells + (0 + kc)) (slots + (0 + ks)) hP' ⟨hRep', wv_locs S.2.1 hL, by show cells + (0 + kc) + (w.2.1 - kc) = _; omega, by show slots + (0 + ks) + (w.2.2 - ks) = _; omega, by rw [← hhT']; exact X'.same.2.1⟩ ⟨ce, hce, hcv, by rw [← hal.findClass, ← hvm]; exact hcl⟩ T' hhT' X'
    have a2 : Steps p.tables e below ((U'.setVm vm').setFrames (.throwing q :: .java (F0 m pc ls rest) :: below)) t9 := by rw [ht]; exact a1
    refine ⟨t9, st1 t9 (fun acts => ?_), b1⟩
    show Steps p.tables e below (doInvoke e ((T.setVm vm₁).setTop (F0 m pc ls rest)) acts ⟨wv_lcls G 4, 1⟩ #[.ref a, .int n]).1 t9
    rw [hin acts]
    refine Steps.trans (Steps.weaken (mid := [.java (F0 m pc ls rest)]) (hstart _ (hsteps.trans ?_))) a2
    rw [Y₁.pushThrowing_eq]
    exact st
set_option maxHeartbeats 4000000 in
theorem wr_with5 {locs : List Loc} {cells slots : Nat} (X : wv_ok G p R s m args meth c fr own cc nL ret nm tb) (S : wv_S G R s w H locs cells slots) {a : Nat} {t : wv_T} {n : Int32} {index count fr' kc ks : Nat} {P' : wv_R → wv_H → Prop} (ha : a = wv_lone G 5) (hC : wv_C G yX2_lambda_handled_5 [.int n] w.1 fr' kc ks P') (hint : ∀ v h', P' (.inl v) h' → ∃ x : Int32, v = some (.int x)) (hfr : fr' + 2 ≤ fr) (hkc : kc ≤ w.2.1) (hks : ks ≤ w.2.2) (hl : Cond.methodLink own index wyA ∈ lw_all) (hW : (rest.map fun v => v.category).sum ≤ 8) (hls : ls.size = nL) (hdg : decode cc pc = .ok (.invokeinterface index count, 5))
    (kk : ∀ (x : Int32) (h' : wv_H) (H1 : Heap) (locs1 : List Loc) (cells1 slots1 : Nat), P' (.inl (some (.int x))) h' → wv_S G R s (h', w.2.1 - kc, w.2.2 - ks) H1 locs1 cells1 slots1 → W p G.1 e R s m args below meth c H1 locs1 cells1 slots1 Q (F0 m (pc + 5) ls (.int x :: rest)))
    (kx : ∀ (E : String) (q : Nat) (h' : wv_H) (H1 : Heap) (locs1 : List Loc) (cells1 slots1 : Nat), P' (.inr (E, q)) h' → wv_S G R s (h', w.2.1 - kc, w.2.2 - ks) H1 locs1 cells1 slots1 → wv_th s H1 E q → vx_W p G.1 e R s m args below meth c H1 locs1 cells1 slots1 Q (F0 m pc ls rest) q) : W p G.1 e R s m args below meth c H locs cells slots Q (F0 m pc ls (.int n :: .ref a :: rest)) := by
  intro T hT Z
  have g1 := S.2.2.1
  have g2 := S.2.2.2.1
  have hlo := X.hlo
  have hff := X.hfr
  obtain ⟨m', kS, cf, i0, p0, lk, k1, k2, k3, k4, k5, k6, k7, k8⟩ := X.site (j := 5) (sh := wm5_sh) (x := ⟨"Weaversgate$Run", "handled", "(LWeaversgate$Thing;LWeaversgate$Type;IILWeaversgate$Thrown;)I"⟩) (pc0 := 157) (i := 245) (by decide) rfl
  obtain ⟨kS', hkS', hnameS⟩ := className_of_methodNamed k1
  cases k2.symm.trans hkS'
  have hnameS : kS.name = "Weaversgate$Run" := hnameS
  obtain ⟨cellA, hcA, hclA, hvmA⟩ : ∃ cellA : Cell, H[a]? = some cellA ∧ cellA.cls = wv_lcls G 5 ∧ cellA.vm = .none := by
    rcases k8 with ⟨cell, -, -, h1, h2, h3, h4, -⟩ | ⟨-, h9⟩
    · refine ⟨cell, ?_, h3, h4⟩
      rw [ha, S.1.2.1 _ h2, ← X.hold _ h2]
      exact h1
    · exact absurd rfl h9
  have hcT : T.heap[a]? = some cellA := by rw [hT]; exact hcA
  obtain ⟨k0, tk0, file0, methk0, ck0, toy0, tB0, e1, e2, e3, e4, e5, e6, e7, e8, e9, e10, e11, e12, e13, e14, e15, e16, e17, -⟩ := wm5_made k2 hnameS k6 (wv_obj0 (X.hts _ q2657))
  obtain ⟨b0, hb0⟩ := X.hG.2.2.1
  have hFw : va_Nw (.declares wyA) s := va_Nw.warmD X.hW (va_Nw.of rfl (hb0 _ q1178))
  obtain ⟨vm₁, X₁, st1⟩ := wv_callLam Z X.hx X.hown (X.hts _ hl) (va_Nw.use rfl hFw) (X.ifaceW (x := wyA) q1177 q1178 ⟨by decide, by decide⟩) hcT hvmA (by rw [hclA]; exact k6) (by rw [hclA]; exact k7) rfl rfl (by decide +kernel) (by rw [hclA]; exact e5) e11 (g := F0 m pc ls (.int n :: .ref a :: rest)) rfl (n := n) (rest := rest) rfl (by rw [X.hb]; exact hdg)
  rw [hclA] at st1
  have hW1 : s.WarmedH vm₁ := X₁.warmed
  have hal := hW1.alike
  obtain ⟨kS1, hkS1, heS1⟩ := hal.2.2 _ _ k2
  have hO1 : ∀ o ok, vm₁.findClass "java/lang/Object" = some o → vm₁.classes[o]? = some ok → ok.instanceTypes.size = 0 := wv_obj0 (A := args) (U := T.setVm vm₁) (word_at (U := T.setVm vm₁) hW1 (lw_self _ q2657).2 (X.hts _ q2657))
  obtain ⟨k, tk, file, methk, ck, toy, tB, f1, f2, f3, f4, f5, f6, f7, f8, f9, f10, f11, f12, f13, f14, f15, f16, f17⟩ := wm5_made (vm := vm₁) hkS1 (by rw [heS1]; exact hnameS) (Jvm.Lambda.isMade_warmer hW1 k6) hO1
  have hpk : (T.setVm vm₁).plainMethod ⟨wv_lcls G 5, 1⟩ := State.plainMethod.of_name (fun k' hk' => by cases f1.symm.trans hk'; rw [f2]; decide)
  obtain ⟨Y₀, hin⟩ := X₁.into (g := F0 m pc ls rest) rfl (by rw [X.hml]; exact hls) (by rw [X.hb]; exact hdg) #[.ref a, .int n] (R' := { frames := fr - 1, locals := 64 * (fr - 1), cells := kc, slots := ks }) f5 f6 f10 hpk (by show fr - 1 + 1 ≤ R.frames; omega) (by rw [f8]; show 2 * 0 + (rest.map fun v => v.category).sum + (2 + 11) + 64 * (fr - 1) ≤ R.locals; omega) (by show cells + kc ≤ R.cells; omega) (by show slots + ks ≤ R.slots; omega)
  rw [f8] at Y₀ hin
  have hent : entryFrame ⟨wv_lcls G 5, 1⟩ #[.ref a, .int n] 2 = { method := ⟨wv_lcls G 5, 1⟩, pc := 0, locals := #[.val (.ref a), .val (.int n)], stack := [], locked := none } := rfl
  rw [hent] at Y₀ hin
  generalize hU0 : ((T.setVm vm₁).setTop (F0 m pc ls rest)).pushFrame (.java { method := ⟨wv_lcls G 5, 1⟩, pc := 0, locals := #[.val (.ref a), .val (.int n)], stack := [], locked := none }) = U₀ at Y₀ hin
  have hvm : U₀.vm = vm₁ := by rw [← hU0]; rfl
  have hheap : U₀.heap = H := by rw [← hU0]; exact hT
  obtain ⟨mB, hnB⟩ : ∃ mB, s.methodNamed? yX2_lambda_handled_5 = some mB := by
    have h1 := X.hts _ q1207
    cases hq : s.methodNamed? (⟨"Weaversgate$Run", "lambda$handled$5", "(I)I"⟩ : MethodName) with
    | none => simp [Cond.before, Cond.holds, Cond.value, hq] at h1
    | some mB => exact ⟨mB, hq⟩
  obtain ⟨methB, cB0, hmB0, -⟩ := Cond.code_spec hnB (X.hts _ q1207)
  have hstB : methB.isStatic = true := Cond.static_spec hnB hmB0 (X.hts _ q1206)
  obtain ⟨methB', cB, hmB', -, -, -, -, -, -, hsigB⟩ := Cond.code_spec hnB (X.hts _ q1207)
  cases hmB0.symm.trans hmB'
  have hmB : vm₁.method? mB = some methB := by rw [hal.method?]; exact hmB0
  have hfT : s.vm.findClass "Weaversgate$Run" = some mB.cls := findClass_of_methodNamed hnB
  have htoy : toy = mB.cls := by
    have h1 := f13
    rw [hal.findClass, hfT] at h1
    exact (Option.some.inj h1).symm
  subst htoy
  have hinitB : tk.init = .initialized := Cond.initialized_spec (s := T.setVm vm₁) f13 f14 (word_at (a' := args) (U := T.setVm vm₁) hW1 (lw_self _ q64).2 (X.hts _ q64))
  obtain ⟨kB, hkB, hnameB⟩ := className_of_methodNamed hnB
  obtain ⟨kB1, hkB1, heB1⟩ := hal.2.2 _ _ hkB
  cases f14.symm.trans hkB1
  have hsp : ∀ y : Method, signaturePolymorphic tk y = false := fun y => by
    have h1 : tk.name = "Weaversgate$Run" := by rw [heB1]; exact hnameB
    simp [signaturePolymorphic, h1]
  have hnB1 : (T.setVm vm₁).methodNamed? yX2_lambda_handled_5 = some mB := by
    have h1 := State.methodNamed?_setVm (s := s) hal yX2_lambda_handled_5
    rw [hnB] at h1
    exact h1
  have htB : tB = mB := by
    have h1 : (T.setVm vm₁).methodFound? "Weaversgate$Run" "lambda$handled$5" "(I)I" = some mB := State.methodFound?_of_named hnB1 (by decide)
    have f13' : (T.setVm vm₁).vm.findClass "Weaversgate$Run" = some mB.cls := f13
    have f14' : (T.setVm vm₁).vm.classes[mB.cls]? = some tk := f14
    simp only [State.methodFound?, f13', f14', Option.bind_eq_bind, Option.bind_some] at h1
    have f15' : ((methodIn mB.cls "lambda$handled$5" "(I)I" tk.isInterface none).ask { classPath := fun _ => none } (T.setVm vm₁).vm).1 = .ok tB := f15
    rw [f15'] at h1
    exact Option.some.inj h1
  subst htB
  have hlenB : ([.int n] : List Value).length = methB.sig.parameters.length := by
    have h1 : parseMethodDescriptor "(I)I" = some methB.sig := hsigB
    have h2 : (parseMethodDescriptor "(I)I").map (fun d => d.parameters.length) = some 1 := by decide +kernel
    rw [h1] at h2
    exact (Option.some.inj h2).symm
  obtain ⟨bB, hmem⟩ := memberRef_ask' (e := e) (vm := vm₁) (d := wv_lcls G 5) (index := 17) f1 f3 (Or.inl (by rw [f4]; exact wm5_M.1)) (by rw [f4]; exact wm5_M.2.2)
  obtain ⟨hK, -⟩ := hC.back (e := e) (p := p) (R := { frames := fr - 1, locals := 64 * (fr - 1), cells := kc, slots := ks }) (below := .java (F0 m pc ls rest) :: below) (s := (T.setVm vm₁).calling (F0 m pc ls rest) ⟨wv_lcls G 5, 1⟩ #[.ref a, .int n]) (sargs := #[.ref a, .int n]) (len := 3) (by show fr' + 1 ≤ fr - 1; omega) rfl (fun z hz => word_at (U := (T.setVm vm₁).calling (F0 m pc ls rest) ⟨wv_lcls G 5, 1⟩ #[.ref a, .int n]) hW1 (lw_self z hz).2 (X.hts z hz)) (word_at (U := (T.setVm vm₁).calling (F0 m pc ls rest) ⟨wv_lcls G 5, 1⟩ #[.ref a, .int n]) hW1 (lw_self _ q64).2 (X.hts _ q64))
  have hs : U₀.topJava?.isSome := Y₀.here.top
  have hstart : ∀ t9 : State, Steps p.tables e (.java (F0 m pc ls rest) :: below) (doInvoke e (U₀.setTop { method := ⟨wv_lcls G 5, 1⟩, pc := 1, locals := #[.val (.ref a), .val (.int n)], stack := [], locked := none }) [] tB ([.int n] : List Value).toArray).1 t9 → Steps p.tables e (.java (F0 m pc ls rest) :: below) (U₀.setTop { method := ⟨wv_lcls G 5, 1⟩, pc := 0, locals := #[.val (.ref a), .val (.int n)], stack := [], locked := none }) t9 := by
    intro t9 h9
    jvm_step Y₀.here [X.hx, f7, wm5_d0]
    jvm_step Y₀.here [X.hx, f7, wm5_d1, invokestatic.wp_ready (e := e) (s := U₀) (m := tB) (k := tk) (meth := methB) (args := [.int n]) (rest := [])
        (f := { method := ⟨wv_lcls G 5, 1⟩, pc := 1, locals := #[.val (.ref a), .val (.int n)], stack := [.int n], locked := none }) hs ⟨14, _, _, bB, tB.cls, tk, by rw [hvm]; exact hmem, by rw [hvm]; exact f17, by rw [hvm]; exact f14, by simp [hsp]⟩ (by rw [hvm]; exact f16) (by rw [hvm]; exact f14) (by rw [hvm]; exact hmB) (hsp _) hstB hinitB hlenB rfl]
    intro acts
    rw [doInvoke_state]
    exact h9
  have hnU : U₀.methodNamed? yX2_lambda_handled_5 = some tB := by
    have q : ((T.setVm vm₁).setVm U₀.vm).methodNamed? yX2_lambda_handled_5 = some tB := by rw [hvm]; exact hnB1
    exact q
  have hpre : wv_Pre G { frames := fr - 1, locals := 64 * (fr - 1), cells := kc, slots := ks } kc ks [.int n] w.1 ⟨U₀, [], 0, 0⟩ ([.int n] : List Value).toArray := ⟨by show 0 + kc ≤ kc; omega, by show 0 + ks ≤ ks; omega, rfl, by show wv_Rep G w.1 U₀.heap; rw [hheap]; exact S.1, by show G.2.1.WarmedH U₀.vm; rw [hvm]; exact State.WarmedH.trans X.hW hW1⟩
  rcases hK ⟨wv_lcls G 5, 1⟩ methk ck ⟨U₀, [], 0, 0⟩ { method := ⟨wv_lcls G 5, 1⟩, pc := 1, locals := #[.val (.ref a), .val (.int n)], stack := [], locked := none } (.invokestatic 17) tB ([.int n] : List Value).toArray Y₀ rfl (by rw [f8]; rfl) (by rw [f7]; exact wm5_d1) (by show 2 * 0 + 0 ≤ 8; omega) hnU hpre with ⟨v, ⟨U', l2, c2, s2⟩, Y₁, ⟨h', hP', hRep', L, e1', hL, e2', e3'⟩, hsteps⟩ | ⟨q, ⟨U', l2, c2, s2⟩, Y₁, ⟨h', E, ce, hP', hRep', hce, hcv, hcl, L, e1', hL, e2', e3'⟩, hsteps⟩
  · dsimp only [Pt.U, Pt.locs, Pt.cells, Pt.slots] at Y₁ e1' e2' e3' hsteps hRep'
    subst e1'; subst e2'; subst e3'
    obtain ⟨x, rfl⟩ := hint v h' hP'
    obtain ⟨fs, hleave, -, hended, hWe, hsame⟩ := Y₁.leave (v := some (.int x)) (fun h => by rw [f12] at h; cases h) f10
    obtain ⟨T', X', hW', -, ht⟩ := X₁.outOf (g := F0 m pc ls rest) rfl (by rw [X.hb]; exact hdg) hended hWe hsame
    have hhT' : T'.heap = U'.heap := (congrArg State.heap ht).symm
    obtain ⟨t9, a1, b1⟩ := kk x h' U'.heap (locs ++ l2) (cells + (0 + kc)) (slots + (0 + ks)) hP' ⟨hRep', wv_locs S.2.1 hL, by show cells + (0 + kc) + (w.2.1 - kc) = _; omega, by show slots + (0 + ks) + (w.2.2 - ks) = _; omega, by rw [← hhT']; exact X'.same.2.1⟩ T' hhT' X'
    have a2 : Steps p.tables e below (U'.setFrames fs) t9 := by rw [ht]; exact a1
    refine ⟨t9, st1 t9 (fun acts => ?_), b1⟩
    show Steps p.tables e below (doInvoke e ((T.setVm vm₁).setTop (F0 m pc ls rest)) acts ⟨wv_lcls G 5, 1⟩ #[.ref a, .int n]).1 t9
    rw [hin acts]
    refine Steps.trans (Steps.weaken (mid := [.java (F0 m pc ls rest)]) (hstart _ (hsteps.trans ?_))) a2
    show Steps p.tables e (.java (F0 m pc ls rest) :: below) (U'.setTop { method := ⟨wv_lcls G 5, 1⟩, pc := 4, locals := #[.val (.ref a), .val (.int n)], stack := [.int x], locked := none }) _
    jvm_step Y₁.here [Y₁.here.top, X.hx, f7, wm5_d4, Y₁.method', f12, narrow]
    intro acts'
    rw [hleave _ acts' rfl rfl rfl]
    exact Steps.refl _
  · dsimp only [Pt.U, Pt.locs, Pt.cells, Pt.slots] at Y₁ e1' e2' e3' hsteps hRep' hce hcl
    subst e1'; subst e2'; subst e3'
    obtain ⟨vm', hW', Y2, st⟩ := Y₁.outThrough f10 q (g := { method := ⟨wv_lcls G 5, 1⟩, pc := 1, locals := #[.val (.ref a), .val (.int n)], stack := [], locked := none }) rfl rfl rfl (cell := ce) hce (by rw [hcv]; rfl)
      (by rw [hvm] at hcl; obtain ⟨k9, h9, -⟩ := Vm.findClass_spec hcl; exact ⟨k9, h9⟩) (fun z hz => by rw [f9] at hz; simp at hz)
    obtain ⟨g₀, hfr0⟩ := Y2.frames_eq
    have hend : Ended ((U'.setVm vm').setFrames (.throwing q :: .java (F0 m pc ls rest) :: below)) (.java (F0 m pc ls rest) :: below) (.threw q) := State.frames_setFrames _ (State.cur_lt_of_frames hfr0)
    obtain ⟨T', X', -, -, ht⟩ := X₁.outOfThrown (g := F0 m pc ls rest) rfl hend (Y2.ends _).1 (Y2.ends _).2
    have hhT' : T'.heap = U'.heap := (congrArg State.heap ht).symm
    obtain ⟨t9, a1, b1⟩ := kx E q h' U'.heap (locs ++ l2) (cells + (0 + kc)) (slots + (0 + ks)) hP' ⟨hRep', wv_locs S.2.1 hL, by show cells + (0 + kc) + (w.2.1 - kc) = _; omega, by show slots + (0 + ks) + (w.2.2 - ks) = _; omega, by rw [← hhT']; exact X'.same.2.1⟩ ⟨ce, hce, hcv, by rw [← hal.findClass, ← hvm]; exact hcl⟩ T' hhT' X'
    have a2 : Steps p.tables e below ((U'.setVm vm').setFrames (.throwing q :: .java (F0 m pc ls rest) :: below)) t9 := by rw [ht]; exact a1
    refine ⟨t9, st1 t9 (fun acts => ?_), b1⟩
    show Steps p.tables e below (doInvoke e ((T.setVm vm₁).setTop (F0 m pc ls rest)) acts ⟨wv_lcls G 5, 1⟩ #[.ref a, .int n]).1 t9
    rw [hin acts]
    refine Steps.trans (Steps.weaken (mid := [.java (F0 m pc ls rest)]) (hstart _ (hsteps.trans ?_))) a2
    rw [Y₁.pushThrowing_eq]
    exact st
end WV18
