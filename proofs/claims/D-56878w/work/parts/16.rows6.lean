/-! ROWS: Throwable's constructor (follows vx_ctorMade0, vx_back9 of the kit's EXCEPTIONS rows; here for an object of any class below Throwable, made before) -/
section WV9
variable {G : wv_G} {p : Program} {e : Env} {R : Room} {s : State} {m : MethodId} {args : Array Value} {below : List Frame} {meth : Method} {c : Code} {fr : Nat} {own : String} {cc : ByteArray} {nL : Nat} {ret : Option FieldType} {nm : String} {tb : List (Nat × Nat × Nat × Nat)}
variable {w : wv_W} {H : Heap} {locs : List Loc} {cells slots : Nat} {Q : State → Prop} {pc : Nat} {ls : Array Slot} {rest : List Value}
theorem wv_back9 {T S : State} {L : List Loc} {R' : Room} {l : Launch} (X : Stand p l e R s m args below meth c T locs cells slots) (Y : Stand p l e R' ((T.setVm s.vm).setFrames (.invoking m args :: below)) m args below meth c T [] 0 0) (Z : Stand p l e R' ((T.setVm s.vm).setFrames (.invoking m args :: below)) m args below meth c S L 0 0) :
    Stand p l e R s m args below meth c S (locs ++ L) cells slots := by
  have hW0 : s.WarmedH ((T.setVm s.vm).setFrames (.invoking m args :: below)).vm := State.WarmedH.refl s
  refine { admits := X.admits, cas := X.cas, clock := X.clock, frames := X.frames, room := X.room, hears := X.hears, method := X.method, code := X.code, here := Z.here, tail := Z.tail, warmed := State.WarmedH.trans hW0 Z.warmed, limits := Z.limits.trans (Y.limits.symm.trans X.limits), bytes := Z.bytes.trans (Y.bytes.symm.trans X.bytes), same := ?_ }
  obtain ⟨e1, e2⟩ := Z.same
  rw [State.setFrames_setFrames] at e1
  have h2 : (T.setVm s.vm).sameButNew (S.setVm s.vm) L 0 0 := ⟨e1, e2⟩
  exact X.same.trans h2
def wv_thr : u_T := fun k => match k with
  | 0 => ("java/lang/Throwable", "cause", "Ljava/lang/Throwable;", false)
  | 1 => ("java/lang/Throwable", "stackTrace", "[Ljava/lang/StackTraceElement;", false)
  | 2 => ("java/lang/Throwable", "suppressedExceptions", "Ljava/util/List;", false)
  | 3 => ("java/lang/Throwable", "detailMessage", "Ljava/lang/String;", false)
  | 4 => ("java/lang/Throwable", "backtrace", "Ljava/lang/Object;", false)
  | _ => ("java/lang/Throwable", "depth", "I", false)
theorem wv_zq (hG : wv_G0 G) : vx_Zq Bundle.tN "UNASSIGNED_STACK" Bundle.steD (fun q => wv_b G ≤ q) G.2.1 G.2.1.heap ∧ vx_Zq Bundle.tN "SUPPRESSED_SENTINEL" Bundle.listD (fun q => wv_b G ≤ q) G.2.1 G.2.1.heap := by
  obtain ⟨-, -, ⟨b1, ht⟩, b0, hn, hk⟩ := hG
  have hs := flat_of_before _ hn
  have h1 : (Cond.isRef (.static "java/lang/Throwable" "UNASSIGNED_STACK" "[Ljava/lang/StackTraceElement;")).before #[Value.ref b0] G.2.1 = true := hs _ (by decide +kernel)
  have h2 : (Cond.isRef (.static "java/lang/Throwable" "SUPPRESSED_SENTINEL" "Ljava/util/List;")).before #[Value.ref b0] G.2.1 = true := hs _ (by decide +kernel)
  have hi : (Cond.initialized "java/lang/Throwable").before #[Value.ref b1] G.2.1 = true := ht _ (lw_all_tbl q68)
  exact ⟨vx_Zqof (ht _ q407) hi h1 (fun a ha => Nat.not_le.mpr ha), vx_Zqof (ht _ q409) hi h2 (fun a ha => Nat.not_le.mpr ha)⟩
set_option maxHeartbeats 4000000 in
theorem wr_thrInit (X : wv_ok G p R s m args meth c fr own cc nL ret nm tb) (S : wv_S G R s w H locs cells slots) {a ci N ic : Nat} {t : wv_T} {fs : List Value} {C : String} {T0 : u_T} (ha : w.1 a = some (t, wo_o ci fs)) (ht : t.1 ≠ 0) (hfl : fs.length = N) (hc : wv_cl[ci]? = some (C, T0, N)) (hin : ∀ x ∈ u_ws C T0 N, x ∈ lw_all) (ty0 : Nat → FieldType) (hty : ∀ k, k < N → parseFieldDescriptor (T0 k).2.2.1 = some (ty0 k)) (hnm : ∀ a, a < N → ∀ b, b < N → a ≠ b → (T0 a).2.1 ≠ (T0 b).2.1) (h6 : 6 ≤ N) (hT : ∀ k, k < 5 → T0 k = wv_thr k) (hbt : fs[4]? = some (va_rf none))
    (hinst : Cond.instantiable C N ∈ lw_all) (hs0 : Cond.selects C Bundle.tFill0 Bundle.tFill0 ∈ lw_all) (hsF : Cond.selects C Bundle.tFill Bundle.tFill ∈ lw_all) (hl : Cond.methodLink own ic Bundle.tInit0 ∈ lw_all) (hfr : 4 ≤ fr) (hW : (rest.map fun v => v.category).sum ≤ 8) (hls : ls.size = nL) (hdg : decode cc pc = .ok (.invokespecial ic, 3))
    (kk : ∀ (fs' : List Value) (H1 : Heap) (locs1 : List Loc), fs'.length = N → (∀ k, 5 ≤ k → fs'[k]? = fs[k]?) → wv_S G R s (wv_up w.1 a (t, wo_o ci fs'), w.2) H1 locs1 cells slots → W p G.1 e R s m args below meth c H1 locs1 cells slots Q (F0 m (pc + 3) ls rest)) : W p G.1 e R s m args below meth c H locs cells slots Q (F0 m pc ls (.ref a :: rest)) := by
  intro T9 hT9 Z9
  subst hT9
  have g1 := S.2.2.1
  have g2 := S.2.2.2.1
  have hlo := X.hlo
  have hff := X.hfr
  have htr : e.platform.stackTraces = false := (show e.platform.stackTraces = G.1.stackTraces by rw [Z9.admits.platform]).trans X.hG.1
  have howns : e.platform.frameOwnsMonitors = true := by rw [Z9.admits.platform]
  have hfin : e.platform.finalization = false := by rw [Z9.admits.platform]
  have hpl : e.platform.magicAccessors = ({} : Platform).magicAccessors := by rw [Z9.admits.platform]
  have Y0 := vx_rebase Z9 (R' := { frames := R.frames, locals := R.locals, cells := 0, slots := 0 }) (Nat.le_refl _) (Nat.le_refl _) (show cells + 0 ≤ R.cells by omega) (show slots + 0 ≤ R.slots by omega)
  obtain ⟨s', hA'⟩ : ∃ z, z = (T9.setVm s.vm).setFrames (.invoking m args :: below) := ⟨_, rfl⟩
  have Y1 := Y0
  rw [← hA'] at Y1
  have hvm : s'.vm = s.vm := by rw [hA']; rfl
  have hhp : s'.heap = T9.heap := by rw [hA']; rfl
  have hW0 : s.WarmedH s'.vm := by rw [hvm]; exact State.WarmedH.refl s
  have hall : ∀ x ∈ lw_all, x.before args s' = true := fun x hx => word_at hW0 (lw_self x hx).2 (X.hts x hx)
  have hzq := wv_zq X.hG
  have hal : G.2.1.vm.Alike s'.vm := by rw [hvm]; exact X.hW.alike
  have hkeep : ∀ q : Nat, q < G.2.1.heap.size → ¬ wv_b G ≤ q → s'.heap[q]? = G.2.1.heap[q]? := fun q _ hq => by rw [hhp]; exact S.1.2.1 q (Nat.not_le.mp hq)
  have hU' : vx_Zq Bundle.tN "UNASSIGNED_STACK" Bundle.steD (fun q => wv_b G ≤ q) s' s'.heap := vx_Zq.moved hal (hzq.1.kept hkeep)
  have hN' : vx_Zq Bundle.tN "SUPPRESSED_SENTINEL" Bundle.listD (fun q => wv_b G ≤ q) s' s'.heap := vx_Zq.moved hal (hzq.2.kept hkeep)
  have hatoms : ∀ x ∈ Bundle.throwableAtoms, x.before args s' = true := by
    intro x hx
    simp only [Bundle.throwableAtoms, List.mem_cons, List.not_mem_nil, or_false] at hx
    rcases hx with rfl | rfl | rfl | rfl | rfl | rfl | rfl | rfl | rfl | rfl | rfl | rfl | rfl | rfl | rfl | rfl | rfl | rfl | rfl | rfl | rfl | rfl | rfl | rfl
    · exact hall _ q68
    · exact hall _ q402
    · exact hall _ q411
    · exact hall _ q422
    · exact hall _ q425
    · exact hall _ q427
    · exact hall _ q403
    · exact hall _ q404
    · exact hall _ q125
    · exact hall _ q126
    · exact hall _ q405
    · exact hall _ q410
    · exact hall _ q423
    · exact hall _ q652
    · exact hall _ q392
    · exact hall _ q653
    · exact hall _ q394
    · exact hall _ q654
    · exact hall _ q396
    · exact hall _ q406
    · exact hU'.2.word
    · exact hall _ q408
    · exact hN'.2.word
    · exact hall _ q398
  obtain ⟨TT, Z, L, LZ, Y⟩ := ThrowableC.of_atoms (args := args) howns hfin hpl hatoms
  have hK' : va_K G.2.2.1 wv_cl (wv_ty G) s' := va_K.moved hW0.alike X.K
  obtain ⟨cell, q1, q2, q3, q4⟩ := wv_obj S.1 ha hc
  have hfree := S.1.free ha ht cell q1
  obtain ⟨hSl, hfc, kC, hkC, hkind⟩ := hK'.1 ci _ hc
  have hcC : s'.vm.findClass C = some cell.cls := by rw [q2]; exact hfc
  have hkC' : s'.vm.classes[cell.cls]? = some kC := by rw [q2]; exact hkC
  have hap := va_apart (own := own) (s := s') (args := args) hall hin ty0 hty hnm hK' hc
  have hown' : s'.vm.findClass own = some m.cls := by rw [hvm]; exact X.hown
  have hsel0 : selectMethod e.platform s'.vm cell.cls TT.fill0 = .method TT.fill0 := by
    obtain ⟨c2, r2, m2, k1, k2, k3, k4, -⟩ := Cond.selects_spec (hall _ hs0)
    cases Option.some.inj (k1.symm.trans hcC)
    cases Option.some.inj (k2.symm.trans (State.methodFound?_of_named Y.fill0 (by decide)))
    cases Option.some.inj (k3.symm.trans Y.fill0)
    rw [Launch.admits_selectMethod Y1.admits]; exact k4
  have hselF : selectMethod e.platform s'.vm cell.cls TT.fill = .method TT.fill := by
    obtain ⟨c2, r2, m2, k1, k2, k3, k4, -⟩ := Cond.selects_spec (hall _ hsF)
    cases Option.some.inj (k1.symm.trans hcC)
    cases Option.some.inj (k2.symm.trans (State.methodFound?_of_named Y.fill (by decide)))
    cases Option.some.inj (k3.symm.trans Y.fill)
    rw [Launch.admits_selectMethod Y1.admits]; exact k4
  obtain ⟨cellS, hcS0, hiss⟩ := Y.statics
  obtain ⟨u0, hu0⟩ := Cond.staticRefV Y.unassigned L.unassignedStatic L.statics hcS0 hiss (vx_isRefq (args := args) hU'.1)
  obtain ⟨sen, hsen⟩ := Cond.staticRefV Y.sentinel L.sentinelStatic L.statics hcS0 hiss (vx_isRefq (args := args) hN'.1)
  obtain ⟨ci198, i198, fB, hk198, hg198, ha198, hsB, -, hnB, htB, hffB⟩ := Cond.ownField (t := .object "java/lang/Object") Y.found L.cls (by decide +kernel) (hall _ q401) (hall _ q400) e.platform hpl
  have hcellS : T9.heap[TT.aS]? = some cellS := by rw [← hhp]; exact hcS0
  have hknownS : cellS.vm ≠ .unknown := by intro hu; rw [hu] at hiss; cases hiss
  have hneS : TT.aS ≠ a := by
    intro hq
    rw [hq, q1] at hcellS
    cases hcellS
    rw [q3] at hiss
    cases hiss
  have slotOf : ∀ k, k < 5 → ∀ (cf : ClassId) (kf : Class) (fi : Nat) (fd : Field), s'.fieldFound? (wv_thr k).1 (wv_thr k).2.1 (wv_thr k).2.2.1 = some (cf, kf, fi, fd) → G.2.2.1.2 ci k = fd.slot := by
    intro k hk cf kf fi fd hfd
    obtain ⟨_, _, _, fd2, h1, h2⟩ := hSl k (show k < N by omega)
    have h1 : s'.fieldFound? (T0 k).1 (T0 k).2.1 (T0 k).2.2.1 = _ := h1
    rw [hT k hk] at h1
    cases h1.symm.trans hfd
    exact h2.symm
  have sC := slotOf 0 (by decide) _ _ _ _ Y.cause
  have sS := slotOf 1 (by decide) _ _ _ _ Y.stack
  have sP := slotOf 2 (by decide) _ _ _ _ Y.supp
  have sB := slotOf 4 (by decide) _ _ _ _ hffB
  have nBC : fB.slot ≠ TT.fCause.slot := by rw [← sB, ← sC]; exact hap 4 0 (by omega) (by omega) (by decide)
  have nBS : fB.slot ≠ TT.fStack.slot := by rw [← sB, ← sS]; exact hap 4 1 (by omega) (by omega) (by decide)
  have nBP : fB.slot ≠ TT.fSupp.slot := by rw [← sB, ← sP]; exact hap 4 2 (by omega) (by omega) (by decide)
  have hbt' : cell.slots[fB.slot]? = some .null := by
    rw [← sB, q4 4 (by omega)]
    simp [vp_V, hbt, va_rf]
  have hskip : SkipFacts TT e.platform s' (fun u => u) u0 ((preparedCellV TT.toThrowableT cell a u0 sen).withEntry T9.cur) :=
    ⟨{ ci198 := ci198, i198 := i198, fBack := fB }, ⟨hk198, hg198, ha198, hsB⟩, by
      simpa [preparedCellV, Cell.setSlot, Cell.withEntry, Array.getElem?_setIfInBounds, nBC, nBS, nBP, nBC.symm, nBS.symm, nBP.symm] using hbt', fun _ _ => rfl⟩
  have laid : ∀ k, k < 3 → ∀ (cf : ClassId) (kf : Class) (fi : Nat) (fd : Field) (v : Value), s'.fieldFound? (wv_thr k).1 (wv_thr k).2.1 (wv_thr k).2.2.1 = some (cf, kf, fi, fd) → fits fd.type v = true → Takes s' cell fd v := by
    intro k hk cf kf fi fd v hfd hv
    have hfd' : s'.fieldFound? (T0 k).1 (T0 k).2.1 (T0 k).2.2.1 = some (cf, kf, fi, fd) := by rw [hT k (by omega)]; exact hfd
    have hty' := (u_facts hcC hkC' (u_lays hall hin (by omega : k < N)) hfd').2.2
    have hsl := slotOf k (by omega) _ _ _ _ hfd
    have h7 := k2_hasslot (q4 k (by omega))
    rw [hsl] at h7
    refine ⟨h7, ?_⟩
    rw [q3]
    exact fresh_fits (s := s') (U := s') (Vm.Alike.refl _) hkC' hkind hty' hv
  obtain ⟨tm, methC, cdC, kC2, vm₁, hnC, -, -, -, -, -, -, -, hW₁, st1⟩ := Steps.initCold (tb := p.tables) (e := e) (below := below) (s := s') (U := T9) Y1.here X.hx Y1.warmed hpl hown' (t := Bundle.tInit0) rfl rfl ⟨by decide, by decide⟩
    (hall _ hl) (hall _ q403) (hall _ q404)
    (f := F0 m pc ls (.ref a :: rest)) rfl (a := a) (rest := rest) rfl (by rw [X.hb]; exact hdg)
  cases Option.some.inj (hnC.symm.trans Y.init0)
  have X₁ := Y1.noted hW₁
  have hroom := lv_room (m := m) (pc := pc) (ls := ls) (rest := rest) hW
  obtain ⟨vm₂, X₂, st2⟩ := X₁.ctorPlainOffV X.hx (g := F0 m pc ls rest) rfl (by rw [X.hml]; exact hls) TT L Z LZ []
    (fun P hP => by cases hP) trivial (u0 := u0) (sen := sen) (self := a) (cell := cell) (cellS := cellS)
    q1 (fun k => by rw [q3]; simp) (by rw [q3]; simp) hfree.1 hfree.2 hsel0 hselF hcellS hneS hknownS hu0 hsen
    (laid 0 (by decide) _ _ _ _ _ Y.cause (by rw [Y.causeType]; rfl)) (laid 1 (by decide) _ _ _ _ _ Y.stack (by rw [Y.stackType]; exact fits_refV_array _ u0)) (laid 2 (by decide) _ _ _ _ _ Y.supp (by rw [Y.suppType]; exact fits_refV_object _ sen)) Y.objLocals hskip htr [] (by rw [X.hb]; exact hdg)
    (by show 0 + 2 < R.frames; omega) (by show 2 * (F0 m pc ls rest).monitorRoom + (rest.map fun v => v.category).sum + (13 * 0 + 41) ≤ R.locals; omega)
  generalize hce : ((preparedCellV TT.toThrowableT cell a u0 sen).setSlot TT.fStack.slot u0.v) = ce at X₂ st2
  generalize hV : ((T9.setVm vm₁).setVm vm₂) = V at X₂ st2
  have hVh : V.heap = T9.heap := by rw [← hV]; rfl
  have hlt : a < V.heap.size := by rw [hVh]; exact (Array.getElem?_eq_some_iff.mp q1).1
  subst hA'
  have X6 := wv_back9 Z9 Y0 X₂
  have ecls : ce.cls = cell.cls := by rw [← hce]; rfl
  have evm : ce.vm = cell.vm := by rw [← hce]; rfl
  have emon : ce.monitor = cell.monitor := by rw [← hce]; rfl
  have eslots : ∀ j : Nat, j ≠ TT.fCause.slot → j ≠ TT.fStack.slot → j ≠ TT.fSupp.slot → ce.slots[j]? = cell.slots[j]? := by
    intro j h1 h2 h3
    rw [← hce]
    simp [preparedCellV, Cell.setSlot, Array.getElem?_setIfInBounds, h1.symm, h2.symm, h3.symm]
  have esome : ∀ j : Nat, (∃ v, cell.slots[j]? = some v) → ∃ v, ce.slots[j]? = some v := by
    intro j hj
    have hsz : ce.slots.size = cell.slots.size := by rw [← hce]; simp [preparedCellV, Cell.setSlot]
    obtain ⟨v, hv⟩ := hj
    have h1 := (Array.getElem?_eq_some_iff.mp hv).1
    exact ⟨ce.slots[j], Array.getElem?_eq_getElem (by omega)⟩
  let fs' : List Value := (List.range N).map (fun k => (ce.slots[G.2.2.1.2 ci k]?).getD .null)
  have hfs : ∀ k, k < N → vp_V fs' k = (ce.slots[G.2.2.1.2 ci k]?).getD .null := by
    intro k hk
    simp [vp_V, fs', hk]
  have hother : ∀ k, 5 ≤ k → fs'[k]? = fs[k]? := by
    intro k hk
    by_cases hkN : k < N
    · have h1 := q4 k hkN
      have h2 := eslots (G.2.2.1.2 ci k) (by rw [← sC]; exact hap k 0 hkN (by omega) (by omega)) (by rw [← sS]; exact hap k 1 hkN (by omega) (by omega)) (by rw [← sP]; exact hap k 2 hkN (by omega) (by omega))
      have h3 : fs'[k]? = some ((ce.slots[G.2.2.1.2 ci k]?).getD .null) := by simp [fs', hkN]
      rw [h3, h2, h1]
      have h4 : k < fs.length := by omega
      simp [vp_V, h4]
    · rw [List.getElem?_eq_none (by simp [fs']; omega), List.getElem?_eq_none (by omega)]
  have hh : (V.setCell a ce).heap[a]? = some ce := heapAt_setCell_self (s := V) ce hlt
  have hsz1 : (V.setCell a ce).heap.size = T9.heap.size := by rw [size_setCell, hVh]
  obtain ⟨t2, a1, b1⟩ := kk fs' (V.setCell a ce).heap _ (by simp [fs']) hother ⟨wv_Rep.put S.1 ha ht ht ⟨_, hc, ce, hh, by rw [ecls]; exact q2, by rw [evm]; exact q3, fun k hk => by
      rw [hfs k hk]
      obtain ⟨v, hv⟩ := esome _ ⟨_, q4 k hk⟩
      rw [hv]; rfl⟩ (by intro c9 hc9; cases hh.symm.trans hc9; rw [emon]; exact hfree) hsz1 (fun q hq => by rw [heapAt_setCell_ne _ (Ne.symm hq), hVh]), wv_locs S.2.1 (fun q hq => by
        have hlow := S.1.low ha ht
        simp only [List.mem_append, List.mem_cons, List.not_mem_nil, or_false, false_or] at hq
        rcases hq with rfl | rfl | rfl | rfl <;> exact hlow), S.2.2.1, S.2.2.2.1, by rw [hsz1]; exact S.2.2.2.2⟩ _ rfl X6
  refine ⟨t2, st1 _ (fun acts => ?_), b1⟩
  rw [doInvoke_state]
  exact st2 _ a1
end WV9
