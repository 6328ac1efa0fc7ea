/-! ROWS: calls -/
section WV6
variable {G : wv_G} {p : Program} {e : Env} {R : Room} {s : State} {m : MethodId} {args : Array Value} {below : List Frame} {meth : Method} {c : Code} {fr : Nat} {own : String} {cc : ByteArray} {nL : Nat} {ret : Option FieldType} {nm : String} {tb : List (Nat × Nat × Nat × Nat)}
variable {w : wv_W} {H : Heap} {locs : List Loc} {cells slots : Nat} {Q : State → Prop} {pc : Nat} {ls : Array Slot} {rest : List Value}
theorem wv_len {d : String} {n : Nat} (h : (parseMethodDescriptor d).map (fun d => d.parameters.length) = some n) {As : List Value} (hA : As.length = n) : ∀ sig, parseMethodDescriptor d = some sig → As.length = sig.parameters.length := by
  intro sig hs
  rw [hs] at h
  exact hA.trans (Option.some.inj h).symm
/-- what may stand at a call: the frame's words -/
def wv_ymh (y : MethodName) : Prop := y.cls ≠ "java/lang/invoke/MethodHandle" ∧ y.cls ≠ "java/lang/invoke/VarHandle"
theorem wr_callV (X : wv_ok G p R s m args meth c fr own cc nL ret nm tb) (S : wv_S G R s w H locs cells slots) {y : MethodName} {index nA fr' kc ks : Nat} {b : Nat} {As st : List Value} {P' : wv_R → wv_H → Prop} (hC : wv_C G y (.ref b :: As) w.1 fr' kc ks P') (hfr : fr' < fr) (hkc : kc ≤ w.2.1) (hks : ks ≤ w.2.2) (hb : wv_is G w.1 b y.cls) (hl : Cond.methodLink own index y ∈ lw_all) (hin : Cond.instanceMethod y ∈ lw_all) (hse : Cond.selects y.cls y y ∈ lw_all) (hini : Cond.initialized y.cls ∈ lw_all) (hy : wv_ymh y) (hlen : (parseMethodDescriptor y.desc).map (fun d => d.parameters.length) = some nA) (hA : As.length = nA) (hst : st = As.reverse ++ .ref b :: rest) (hW : (rest.map fun v => v.category).sum ≤ 8) (hls : ls.size = nL) (hdg : decode cc pc = .ok (.invokevirtual index, 3))
    (kk : ∀ (v : Option Value) (h' : wv_H) (H1 : Heap) (locs1 : List Loc) (cells1 slots1 : Nat), P' (.inl v) h' → wv_S G R s (h', w.2.1 - kc, w.2.2 - ks) H1 locs1 cells1 slots1 → W p G.1 e R s m args below meth c H1 locs1 cells1 slots1 Q (F0 m (pc + 3) ls (v.toList ++ rest)))
    (kx : ∀ (E : String) (q : Nat) (h' : wv_H) (H1 : Heap) (locs1 : List Loc) (cells1 slots1 : Nat), P' (.inr (E, q)) h' → wv_S G R s (h', w.2.1 - kc, w.2.2 - ks) H1 locs1 cells1 slots1 → wv_th s H1 E q → vx_W p G.1 e R s m args below meth c H1 locs1 cells1 slots1 Q (F0 m pc ls rest) q) : W p G.1 e R s m args below meth c H locs cells slots Q (F0 m pc ls st) := by
  subst hst
  intro T hT Z
  have g1 := S.2.2.1
  have g2 := S.2.2.2.1
  obtain ⟨hK, cw, bt, mL, rt, hcw, hcb⟩ := hC.back (e := e) (p := p) (R := R) (below := below) (s := s) (sargs := args) (len := 3) (by rw [X.hfr]; exact hfr) (by rw [X.hlo, X.hfr]) X.hts (X.hts _ hini)
  have hpre : ∀ vm₁, s.WarmedH vm₁ → wv_Pre G R kc ks (.ref b :: As) w.1 ⟨T.setVm vm₁, locs, cells, slots⟩ (Value.ref b :: As).toArray := fun vm₁ hW₁ => ⟨show cells + kc ≤ R.cells by omega, show slots + ks ≤ R.slots by omega, rfl, by show wv_Rep G w.1 T.heap; rw [hT]; exact S.1, State.WarmedH.trans X.hW hW₁⟩
  have fin : ((∃ (v : Option Value) (vm₁ : Vm) (B : Pt), s.WarmedH vm₁ ∧ Stand p G.1 e R s m args below meth c B.U B.locs B.cells B.slots ∧ wv_Post G P' kc ks ⟨T.setVm vm₁, locs, cells, slots⟩ (Value.ref b :: As).toArray v B ∧
      ∀ target, Steps p.tables e below (B.U.setTop { (F0 m pc ls (As.reverse ++ .ref b :: rest)) with pc := pc + 3, stack := v.toList ++ rest }) target → Steps p.tables e below (T.setTop (F0 m pc ls (As.reverse ++ .ref b :: rest))) target) ∨
    (∃ (q : Addr) (vm₁ : Vm) (B : Pt), s.WarmedH vm₁ ∧ Stand p G.1 e R s m args below meth c B.U B.locs B.cells B.slots ∧ wv_PostX G P' kc ks ⟨T.setVm vm₁, locs, cells, slots⟩ (Value.ref b :: As).toArray q B ∧
      Steps p.tables e below (T.setTop (F0 m pc ls (As.reverse ++ .ref b :: rest))) ((B.U.setTop { (F0 m pc ls (As.reverse ++ .ref b :: rest)) with stack := rest }).pushFrame (.throwing q)))) → ∃ t, Steps p.tables e below (T.setTop (F0 m pc ls (As.reverse ++ .ref b :: rest))) t ∧ Q t := by
    rintro (⟨v, vm₁, ⟨U', l2, c2, s2⟩, hW₁, X', ⟨h', hP', hRep', L, e1, hL, e2, e3⟩, st⟩ | ⟨q, vm₁, ⟨U', l2, c2, s2⟩, hW₁, X', ⟨h', E, ce, hP', hRep', hce, hcv, hcl, L, e1, hL, e2, e3⟩, st⟩)
    · dsimp only [Pt.U, Pt.locs, Pt.cells, Pt.slots] at X' e1 e2 e3 st hRep'
      subst e1; subst e2; subst e3
      obtain ⟨t, a1, b1⟩ := kk v h' U'.heap (locs ++ L) (cells + kc) (slots + ks) hP' ⟨hRep', wv_locs S.2.1 hL, by show cells + kc + (w.2.1 - kc) = _; omega, by show slots + ks + (w.2.2 - ks) = _; omega, X'.same.2.1⟩ U' rfl X'
      exact ⟨t, st t a1, b1⟩
    · dsimp only [Pt.U, Pt.locs, Pt.cells, Pt.slots] at X' e1 e2 e3 st hRep' hce hcl
      subst e1; subst e2; subst e3
      obtain ⟨t, a1, b1⟩ := kx E q h' U'.heap (locs ++ L) (cells + kc) (slots + ks) hP' ⟨hRep', wv_locs S.2.1 hL, by show cells + kc + (w.2.1 - kc) = _; omega, by show slots + ks + (w.2.2 - ks) = _; omega, X'.same.2.1⟩ ⟨ce, hce, hcv, vx_cls hW₁ hcl⟩ U' rfl X'
      exact ⟨t, st.trans a1, b1⟩
  obtain ⟨cellB, hcB, hoB, hclB⟩ := hb.cell X S.1
  rcases hcw with rfl | ⟨hh, rfl⟩
  · exact fin (vx_callV Z X.hx (bytes := bt) (maxL := mL) (ret := rt) X.hown (X.hts _ hl) (X.hts _ hin) (X.hts _ hse) hcb hy hK (by rw [hT]; exact hcB) hoB hclB (g := F0 m pc ls (As.reverse ++ .ref b :: rest)) rfl (by rw [X.hml]; exact hls) (argsL := As) (rest := rest) (wv_len hlen hA) rfl (lv_room hW) (by rw [X.hb]; exact hdg) hpre)
  · exact fin (vx_callVX Z X.hx (bytes := bt) (maxL := mL) (ret := rt) (hh := hh) X.hown (X.hts _ hl) (X.hts _ hin) (X.hts _ hse) hcb hy hK (by rw [hT]; exact hcB) hoB hclB (g := F0 m pc ls (As.reverse ++ .ref b :: rest)) rfl (by rw [X.hml]; exact hls) (argsL := As) (rest := rest) (wv_len hlen hA) rfl (lv_room hW) (by rw [X.hb]; exact hdg) hpre)
theorem wr_callS (X : wv_ok G p R s m args meth c fr own cc nL ret nm tb) (S : wv_S G R s w H locs cells slots) {y : MethodName} {index nA fr' kc ks : Nat} {As st : List Value} {P' : wv_R → wv_H → Prop} (hC : wv_C G y As w.1 fr' kc ks P') (hfr : fr' < fr) (hkc : kc ≤ w.2.1) (hks : ks ≤ w.2.2) (hl : Cond.methodLink own index y ∈ lw_all) (hstt : Cond.static y ∈ lw_all) (hini : Cond.initialized y.cls ∈ lw_all) (hy : wv_ymh y) (hlen : (parseMethodDescriptor y.desc).map (fun d => d.parameters.length) = some nA) (hA : As.length = nA) (hst : st = As.reverse ++ rest) (hW : (rest.map fun v => v.category).sum ≤ 8) (hls : ls.size = nL) (hdg : decode cc pc = .ok (.invokestatic index, 3))
    (kk : ∀ (v : Option Value) (h' : wv_H) (H1 : Heap) (locs1 : List Loc) (cells1 slots1 : Nat), P' (.inl v) h' → wv_S G R s (h', w.2.1 - kc, w.2.2 - ks) H1 locs1 cells1 slots1 → W p G.1 e R s m args below meth c H1 locs1 cells1 slots1 Q (F0 m (pc + 3) ls (v.toList ++ rest)))
    (kx : ∀ (E : String) (q : Nat) (h' : wv_H) (H1 : Heap) (locs1 : List Loc) (cells1 slots1 : Nat), P' (.inr (E, q)) h' → wv_S G R s (h', w.2.1 - kc, w.2.2 - ks) H1 locs1 cells1 slots1 → wv_th s H1 E q → vx_W p G.1 e R s m args below meth c H1 locs1 cells1 slots1 Q (F0 m pc ls rest) q) : W p G.1 e R s m args below meth c H locs cells slots Q (F0 m pc ls st) := by
  subst hst
  intro T hT Z
  have g1 := S.2.2.1
  have g2 := S.2.2.2.1
  obtain ⟨hK, cw, bt, mL, rt, hcw, hcb⟩ := hC.back (e := e) (p := p) (R := R) (below := below) (s := s) (sargs := args) (len := 3) (by rw [X.hfr]; exact hfr) (by rw [X.hlo, X.hfr]) X.hts (X.hts _ hini)
  have hpre : ∀ vm₁, s.WarmedH vm₁ → wv_Pre G R kc ks As w.1 ⟨T.setVm vm₁, locs, cells, slots⟩ As.toArray := fun vm₁ hW₁ => ⟨show cells + kc ≤ R.cells by omega, show slots + ks ≤ R.slots by omega, rfl, by show wv_Rep G w.1 T.heap; rw [hT]; exact S.1, State.WarmedH.trans X.hW hW₁⟩
  have fin : ((∃ (v : Option Value) (vm₁ : Vm) (B : Pt), s.WarmedH vm₁ ∧ Stand p G.1 e R s m args below meth c B.U B.locs B.cells B.slots ∧ wv_Post G P' kc ks ⟨T.setVm vm₁, locs, cells, slots⟩ As.toArray v B ∧
      ∀ target, Steps p.tables e below (B.U.setTop { (F0 m pc ls (As.reverse ++ rest)) with pc := pc + 3, stack := v.toList ++ rest }) target → Steps p.tables e below (T.setTop (F0 m pc ls (As.reverse ++ rest))) target) ∨
    (∃ (q : Addr) (vm₁ : Vm) (B : Pt), s.WarmedH vm₁ ∧ Stand p G.1 e R s m args below meth c B.U B.locs B.cells B.slots ∧ wv_PostX G P' kc ks ⟨T.setVm vm₁, locs, cells, slots⟩ As.toArray q B ∧
      Steps p.tables e below (T.setTop (F0 m pc ls (As.reverse ++ rest))) ((B.U.setTop { (F0 m pc ls (As.reverse ++ rest)) with stack := rest }).pushFrame (.throwing q)))) → ∃ t, Steps p.tables e below (T.setTop (F0 m pc ls (As.reverse ++ rest))) t ∧ Q t := by
    rintro (⟨v, vm₁, ⟨U', l2, c2, s2⟩, hW₁, X', ⟨h', hP', hRep', L, e1, hL, e2, e3⟩, st⟩ | ⟨q, vm₁, ⟨U', l2, c2, s2⟩, hW₁, X', ⟨h', E, ce, hP', hRep', hce, hcv, hcl, L, e1, hL, e2, e3⟩, st⟩)
    · dsimp only [Pt.U, Pt.locs, Pt.cells, Pt.slots] at X' e1 e2 e3 st hRep'
      subst e1; subst e2; subst e3
      obtain ⟨t, a1, b1⟩ := kk v h' U'.heap (locs ++ L) (cells + kc) (slots + ks) hP' ⟨hRep', wv_locs S.2.1 hL, by show cells + kc + (w.2.1 - kc) = _; omega, by show slots + ks + (w.2.2 - ks) = _; omega, X'.same.2.1⟩ U' rfl X'
      exact ⟨t, st t a1, b1⟩
    · dsimp only [Pt.U, Pt.locs, Pt.cells, Pt.slots] at X' e1 e2 e3 st hRep' hce hcl
      subst e1; subst e2; subst e3
      obtain ⟨t, a1, b1⟩ := kx E q h' U'.heap (locs ++ L) (cells + kc) (slots + ks) hP' ⟨hRep', wv_locs S.2.1 hL, by show cells + kc + (w.2.1 - kc) = _; omega, by show slots + ks + (w.2.2 - ks) = _; omega, X'.same.2.1⟩ ⟨ce, hce, hcv, vx_cls hW₁ hcl⟩ U' rfl X'
      exact ⟨t, st.trans a1, b1⟩
  rcases hcw with rfl | ⟨hh, rfl⟩
  · exact fin (vx_callS Z X.hx (bytes := bt) (maxL := mL) (ret := rt) X.hown (X.hts _ hl) (X.hts _ hstt) (X.hts _ hini) hcb hy hK  (g := F0 m pc ls (As.reverse ++ rest)) rfl (by rw [X.hml]; exact hls) (argsL := As) (rest := rest) (wv_len hlen hA) rfl (lv_room hW) (by rw [X.hb]; exact hdg) hpre)
  · exact fin (vx_callSX Z X.hx (bytes := bt) (maxL := mL) (ret := rt) (hh := hh) X.hown (X.hts _ hl) (X.hts _ hstt) (X.hts _ hini) hcb hy hK  (g := F0 m pc ls (As.reverse ++ rest)) rfl (by rw [X.hml]; exact hls) (argsL := As) (rest := rest) (wv_len hlen hA) rfl (lv_room hW) (by rw [X.hb]; exact hdg) hpre)
theorem wr_callI (X : wv_ok G p R s m args meth c fr own cc nL ret nm tb) (S : wv_S G R s w H locs cells slots) {y : MethodName} {index nA fr' kc ks : Nat} {b : Nat} {As st : List Value} {P' : wv_R → wv_H → Prop} (hC : wv_C G y (.ref b :: As) w.1 fr' kc ks P') (hfr : fr' < fr) (hkc : kc ≤ w.2.1) (hks : ks ≤ w.2.2) (hy1 : y.name = "<init>") (hl : Cond.methodLink own index y ∈ lw_all) (hin : Cond.instanceMethod y ∈ lw_all) {b2 : ByteArray} {mL2 : Nat} (hcode : Cond.code y b2 mL2 none ∈ lw_all) (hini : Cond.initialized y.cls ∈ lw_all) (hy : wv_ymh y) (hlen : (parseMethodDescriptor y.desc).map (fun d => d.parameters.length) = some nA) (hA : As.length = nA) (hst : st = As.reverse ++ .ref b :: rest) (hW : (rest.map fun v => v.category).sum ≤ 8) (hls : ls.size = nL) (hdg : decode cc pc = .ok (.invokespecial index, 3))
    (kk : ∀ (v : Option Value) (h' : wv_H) (H1 : Heap) (locs1 : List Loc) (cells1 slots1 : Nat), P' (.inl v) h' → wv_S G R s (h', w.2.1 - kc, w.2.2 - ks) H1 locs1 cells1 slots1 → W p G.1 e R s m args below meth c H1 locs1 cells1 slots1 Q (F0 m (pc + 3) ls (v.toList ++ rest)))
    (kx : ∀ (E : String) (q : Nat) (h' : wv_H) (H1 : Heap) (locs1 : List Loc) (cells1 slots1 : Nat), P' (.inr (E, q)) h' → wv_S G R s (h', w.2.1 - kc, w.2.2 - ks) H1 locs1 cells1 slots1 → wv_th s H1 E q → vx_W p G.1 e R s m args below meth c H1 locs1 cells1 slots1 Q (F0 m pc ls rest) q) : W p G.1 e R s m args below meth c H locs cells slots Q (F0 m pc ls st) := by
  subst hst
  intro T hT Z
  have g1 := S.2.2.1
  have g2 := S.2.2.2.1
  obtain ⟨hK, cw, bt, mL, rt, hcw, hcb⟩ := hC.back (e := e) (p := p) (R := R) (below := below) (s := s) (sargs := args) (len := 3) (by rw [X.hfr]; exact hfr) (by rw [X.hlo, X.hfr]) X.hts (X.hts _ hini)
  have hpre : ∀ vm₁, s.WarmedH vm₁ → wv_Pre G R kc ks (.ref b :: As) w.1 ⟨T.setVm vm₁, locs, cells, slots⟩ (Value.ref b :: As).toArray := fun vm₁ hW₁ => ⟨show cells + kc ≤ R.cells by omega, show slots + ks ≤ R.slots by omega, rfl, by show wv_Rep G w.1 T.heap; rw [hT]; exact S.1, State.WarmedH.trans X.hW hW₁⟩
  have fin : ((∃ (v : Option Value) (vm₁ : Vm) (B : Pt), s.WarmedH vm₁ ∧ Stand p G.1 e R s m args below meth c B.U B.locs B.cells B.slots ∧ wv_Post G P' kc ks ⟨T.setVm vm₁, locs, cells, slots⟩ (Value.ref b :: As).toArray v B ∧
      ∀ target, Steps p.tables e below (B.U.setTop { (F0 m pc ls (As.reverse ++ .ref b :: rest)) with pc := pc + 3, stack := v.toList ++ rest }) target → Steps p.tables e below (T.setTop (F0 m pc ls (As.reverse ++ .ref b :: rest))) target) ∨
    (∃ (q : Addr) (vm₁ : Vm) (B : Pt), s.WarmedH vm₁ ∧ Stand p G.1 e R s m args below meth c B.U B.locs B.cells B.slots ∧ wv_PostX G P' kc ks ⟨T.setVm vm₁, locs, cells, slots⟩ (Value.ref b :: As).toArray q B ∧
      Steps p.tables e below (T.setTop (F0 m pc ls (As.reverse ++ .ref b :: rest))) ((B.U.setTop { (F0 m pc ls (As.reverse ++ .ref b :: rest)) with stack := rest }).pushFrame (.throwing q)))) → ∃ t, Steps p.tables e below (T.setTop (F0 m pc ls (As.reverse ++ .ref b :: rest))) t ∧ Q t := by
    rintro (⟨v, vm₁, ⟨U', l2, c2, s2⟩, hW₁, X', ⟨h', hP', hRep', L, e1, hL, e2, e3⟩, st⟩ | ⟨q, vm₁, ⟨U', l2, c2, s2⟩, hW₁, X', ⟨h', E, ce, hP', hRep', hce, hcv, hcl, L, e1, hL, e2, e3⟩, st⟩)
    · dsimp only [Pt.U, Pt.locs, Pt.cells, Pt.slots] at X' e1 e2 e3 st hRep'
      subst e1; subst e2; subst e3
      obtain ⟨t, a1, b1⟩ := kk v h' U'.heap (locs ++ L) (cells + kc) (slots + ks) hP' ⟨hRep', wv_locs S.2.1 hL, by show cells + kc + (w.2.1 - kc) = _; omega, by show slots + ks + (w.2.2 - ks) = _; omega, X'.same.2.1⟩ U' rfl X'
      exact ⟨t, st t a1, b1⟩
    · dsimp only [Pt.U, Pt.locs, Pt.cells, Pt.slots] at X' e1 e2 e3 st hRep' hce hcl
      subst e1; subst e2; subst e3
      obtain ⟨t, a1, b1⟩ := kx E q h' U'.heap (locs ++ L) (cells + kc) (slots + ks) hP' ⟨hRep', wv_locs S.2.1 hL, by show cells + kc + (w.2.1 - kc) = _; omega, by show slots + ks + (w.2.2 - ks) = _; omega, X'.same.2.1⟩ ⟨ce, hce, hcv, vx_cls hW₁ hcl⟩ U' rfl X'
      exact ⟨t, st.trans a1, b1⟩
  exact fin (vx_callI Z X.hx X.hown hy1 (X.hts _ hl) (X.hts _ hin) (X.hts _ hcode) hy hK  (g := F0 m pc ls (As.reverse ++ .ref b :: rest)) rfl (by rw [X.hml]; exact hls) (a := b) (argsL := As) (rest := rest) (wv_len hlen hA) rfl (lv_room hW) (by rw [X.hb]; exact hdg) hpre)
theorem wr_callIN (X : wv_ok G p R s m args meth c fr own cc nL ret nm tb) (S : wv_S G R s w H locs cells slots) {y : MethodName} {index nA fr' kc ks : Nat} {b : Nat} {As st : List Value} {P' : wv_R → wv_H → Prop} (hC : wv_C G y (.ref b :: As) w.1 fr' kc ks P') (hfr : fr' < fr) (hkc : kc ≤ w.2.1) (hks : ks ≤ w.2.2) {host : String} (hy1 : y.name = "<init>") (hl : Cond.methodLinkNest own index y host ∈ lw_tbl) (hin : Cond.instanceMethod y ∈ lw_all) {b2 : ByteArray} {mL2 : Nat} (hcode : Cond.code y b2 mL2 none ∈ lw_all) (hini : Cond.initialized y.cls ∈ lw_all) (hy : wv_ymh y) (hlen : (parseMethodDescriptor y.desc).map (fun d => d.parameters.length) = some nA) (hA : As.length = nA) (hst : st = As.reverse ++ .ref b :: rest) (hW : (rest.map fun v => v.category).sum ≤ 8) (hls : ls.size = nL) (hdg : decode cc pc = .ok (.invokespecial index, 3))
    (kk : ∀ (v : Option Value) (h' : wv_H) (H1 : Heap) (locs1 : List Loc) (cells1 slots1 : Nat), P' (.inl v) h' → wv_S G R s (h', w.2.1 - kc, w.2.2 - ks) H1 locs1 cells1 slots1 → W p G.1 e R s m args below meth c H1 locs1 cells1 slots1 Q (F0 m (pc + 3) ls (v.toList ++ rest)))
    (kx : ∀ (E : String) (q : Nat) (h' : wv_H) (H1 : Heap) (locs1 : List Loc) (cells1 slots1 : Nat), P' (.inr (E, q)) h' → wv_S G R s (h', w.2.1 - kc, w.2.2 - ks) H1 locs1 cells1 slots1 → wv_th s H1 E q → vx_W p G.1 e R s m args below meth c H1 locs1 cells1 slots1 Q (F0 m pc ls rest) q) : W p G.1 e R s m args below meth c H locs cells slots Q (F0 m pc ls st) := by
  subst hst
  intro T hT Z
  have g1 := S.2.2.1
  have g2 := S.2.2.2.1
  obtain ⟨hK, cw, bt, mL, rt, hcw, hcb⟩ := hC.back (e := e) (p := p) (R := R) (below := below) (s := s) (sargs := args) (len := 3) (by rw [X.hfr]; exact hfr) (by rw [X.hlo, X.hfr]) X.hts (X.hts _ hini)
  have hpre : ∀ vm₁, s.WarmedH vm₁ → wv_Pre G R kc ks (.ref b :: As) w.1 ⟨T.setVm vm₁, locs, cells, slots⟩ (Value.ref b :: As).toArray := fun vm₁ hW₁ => ⟨show cells + kc ≤ R.cells by omega, show slots + ks ≤ R.slots by omega, rfl, by show wv_Rep G w.1 T.heap; rw [hT]; exact S.1, State.WarmedH.trans X.hW hW₁⟩
  have fin : ((∃ (v : Option Value) (vm₁ : Vm) (B : Pt), s.WarmedH vm₁ ∧ Stand p G.1 e R s m args below meth c B.U B.locs B.cells B.slots ∧ wv_Post G P' kc ks ⟨T.setVm vm₁, locs, cells, slots⟩ (Value.ref b :: As).toArray v B ∧
      ∀ target, Steps p.tables e below (B.U.setTop { (F0 m pc ls (As.reverse ++ .ref b :: rest)) with pc := pc + 3, stack := v.toList ++ rest }) target → Steps p.tables e below (T.setTop (F0 m pc ls (As.reverse ++ .ref b :: rest))) target) ∨
    (∃ (q : Addr) (vm₁ : Vm) (B : Pt), s.WarmedH vm₁ ∧ Stand p G.1 e R s m args below meth c B.U B.locs B.cells B.slots ∧ wv_PostX G P' kc ks ⟨T.setVm vm₁, locs, cells, slots⟩ (Value.ref b :: As).toArray q B ∧
      Steps p.tables e below (T.setTop (F0 m pc ls (As.reverse ++ .ref b :: rest))) ((B.U.setTop { (F0 m pc ls (As.reverse ++ .ref b :: rest)) with stack := rest }).pushFrame (.throwing q)))) → ∃ t, Steps p.tables e below (T.setTop (F0 m pc ls (As.reverse ++ .ref b :: rest))) t ∧ Q t := by
    rintro (⟨v, vm₁, ⟨U', l2, c2, s2⟩, hW₁, X', ⟨h', hP', hRep', L, e1, hL, e2, e3⟩, st⟩ | ⟨q, vm₁, ⟨U', l2, c2, s2⟩, hW₁, X', ⟨h', E, ce, hP', hRep', hce, hcv, hcl, L, e1, hL, e2, e3⟩, st⟩)
    · dsimp only [Pt.U, Pt.locs, Pt.cells, Pt.slots] at X' e1 e2 e3 st hRep'
      subst e1; subst e2; subst e3
      obtain ⟨t, a1, b1⟩ := kk v h' U'.heap (locs ++ L) (cells + kc) (slots + ks) hP' ⟨hRep', wv_locs S.2.1 hL, by show cells + kc + (w.2.1 - kc) = _; omega, by show slots + ks + (w.2.2 - ks) = _; omega, X'.same.2.1⟩ U' rfl X'
      exact ⟨t, st t a1, b1⟩
    · dsimp only [Pt.U, Pt.locs, Pt.cells, Pt.slots] at X' e1 e2 e3 st hRep' hce hcl
      subst e1; subst e2; subst e3
      obtain ⟨t, a1, b1⟩ := kx E q h' U'.heap (locs ++ L) (cells + kc) (slots + ks) hP' ⟨hRep', wv_locs S.2.1 hL, by show cells + kc + (w.2.1 - kc) = _; omega, by show slots + ks + (w.2.2 - ks) = _; omega, X'.same.2.1⟩ ⟨ce, hce, hcv, vx_cls hW₁ hcl⟩ U' rfl X'
      exact ⟨t, st.trans a1, b1⟩
  exact fin (vx_callIN Z X.hx X.hown hy1 (va_Nw.use rfl (X.linkM hl)) (X.hts _ hin) (X.hts _ hcode) hy hK  (g := F0 m pc ls (As.reverse ++ .ref b :: rest)) rfl (by rw [X.hml]; exact hls) (a := b) (argsL := As) (rest := rest) (wv_len hlen hA) rfl (lv_room hW) (by rw [X.hb]; exact hdg) hpre)
theorem wr_callVN (X : wv_ok G p R s m args meth c fr own cc nL ret nm tb) (S : wv_S G R s w H locs cells slots) {y : MethodName} {index nA fr' kc ks : Nat} {b : Nat} {As st : List Value} {P' : wv_R → wv_H → Prop} (hC : wv_C G y (.ref b :: As) w.1 fr' kc ks P') (hfr : fr' < fr) (hkc : kc ≤ w.2.1) (hks : ks ≤ w.2.2) {host : String} (hb : wv_is G w.1 b y.cls) (hl : Cond.methodLinkNest own index y host ∈ lw_tbl) (hin : Cond.instanceMethod y ∈ lw_all) (hse : Cond.selects y.cls y y ∈ lw_all) {b2 : ByteArray} {mL2 : Nat} {rt2 : Option FieldType} (hcode : Cond.code y b2 mL2 rt2 ∈ lw_all) (hini : Cond.initialized y.cls ∈ lw_all) (hy : wv_ymh y) (hlen : (parseMethodDescriptor y.desc).map (fun d => d.parameters.length) = some nA) (hA : As.length = nA) (hst : st = As.reverse ++ .ref b :: rest) (hW : (rest.map fun v => v.category).sum ≤ 8) (hls : ls.size = nL) (hdg : decode cc pc = .ok (.invokevirtual index, 3))
    (kk : ∀ (v : Option Value) (h' : wv_H) (H1 : Heap) (locs1 : List Loc) (cells1 slots1 : Nat), P' (.inl v) h' → wv_S G R s (h', w.2.1 - kc, w.2.2 - ks) H1 locs1 cells1 slots1 → W p G.1 e R s m args below meth c H1 locs1 cells1 slots1 Q (F0 m (pc + 3) ls (v.toList ++ rest)))
    (kx : ∀ (E : String) (q : Nat) (h' : wv_H) (H1 : Heap) (locs1 : List Loc) (cells1 slots1 : Nat), P' (.inr (E, q)) h' → wv_S G R s (h', w.2.1 - kc, w.2.2 - ks) H1 locs1 cells1 slots1 → wv_th s H1 E q → vx_W p G.1 e R s m args below meth c H1 locs1 cells1 slots1 Q (F0 m pc ls rest) q) : W p G.1 e R s m args below meth c H locs cells slots Q (F0 m pc ls st) := by
  subst hst
  intro T hT Z
  have g1 := S.2.2.1
  have g2 := S.2.2.2.1
  obtain ⟨hK, cw, bt, mL, rt, hcw, hcb⟩ := hC.back (e := e) (p := p) (R := R) (below := below) (s := s) (sargs := args) (len := 3) (by rw [X.hfr]; exact hfr) (by rw [X.hlo, X.hfr]) X.hts (X.hts _ hini)
  have hpre : ∀ vm₁, s.WarmedH vm₁ → wv_Pre G R kc ks (.ref b :: As) w.1 ⟨T.setVm vm₁, locs, cells, slots⟩ (Value.ref b :: As).toArray := fun vm₁ hW₁ => ⟨show cells + kc ≤ R.cells by omega, show slots + ks ≤ R.slots by omega, rfl, by show wv_Rep G w.1 T.heap; rw [hT]; exact S.1, State.WarmedH.trans X.hW hW₁⟩
  have fin : ((∃ (v : Option Value) (vm₁ : Vm) (B : Pt), s.WarmedH vm₁ ∧ Stand p G.1 e R s m args below meth c B.U B.locs B.cells B.slots ∧ wv_Post G P' kc ks ⟨T.setVm vm₁, locs, cells, slots⟩ (Value.ref b :: As).toArray v B ∧
      ∀ target, Steps p.tables e below (B.U.setTop { (F0 m pc ls (As.reverse ++ .ref b :: rest)) with pc := pc + 3, stack := v.toList ++ rest }) target → Steps p.tables e below (T.setTop (F0 m pc ls (As.reverse ++ .ref b :: rest))) target) ∨
    (∃ (q : Addr) (vm₁ : Vm) (B : Pt), s.WarmedH vm₁ ∧ Stand p G.1 e R s m args below meth c B.U B.locs B.cells B.slots ∧ wv_PostX G P' kc ks ⟨T.setVm vm₁, locs, cells, slots⟩ (Value.ref b :: As).toArray q B ∧
      Steps p.tables e below (T.setTop (F0 m pc ls (As.reverse ++ .ref b :: rest))) ((B.U.setTop { (F0 m pc ls (As.reverse ++ .ref b :: rest)) with stack := rest }).pushFrame (.throwing q)))) → ∃ t, Steps p.tables e below (T.setTop (F0 m pc ls (As.reverse ++ .ref b :: rest))) t ∧ Q t := by
    rintro (⟨v, vm₁, ⟨U', l2, c2, s2⟩, hW₁, X', ⟨h', hP', hRep', L, e1, hL, e2, e3⟩, st⟩ | ⟨q, vm₁, ⟨U', l2, c2, s2⟩, hW₁, X', ⟨h', E, ce, hP', hRep', hce, hcv, hcl, L, e1, hL, e2, e3⟩, st⟩)
    · dsimp only [Pt.U, Pt.locs, Pt.cells, Pt.slots] at X' e1 e2 e3 st hRep'
      subst e1; subst e2; subst e3
      obtain ⟨t, a1, b1⟩ := kk v h' U'.heap (locs ++ L) (cells + kc) (slots + ks) hP' ⟨hRep', wv_locs S.2.1 hL, by show cells + kc + (w.2.1 - kc) = _; omega, by show slots + ks + (w.2.2 - ks) = _; omega, X'.same.2.1⟩ U' rfl X'
      exact ⟨t, st t a1, b1⟩
    · dsimp only [Pt.U, Pt.locs, Pt.cells, Pt.slots] at X' e1 e2 e3 st hRep' hce hcl
      subst e1; subst e2; subst e3
      obtain ⟨t, a1, b1⟩ := kx E q h' U'.heap (locs ++ L) (cells + kc) (slots + ks) hP' ⟨hRep', wv_locs S.2.1 hL, by show cells + kc + (w.2.1 - kc) = _; omega, by show slots + ks + (w.2.2 - ks) = _; omega, X'.same.2.1⟩ ⟨ce, hce, hcv, vx_cls hW₁ hcl⟩ U' rfl X'
      exact ⟨t, st.trans a1, b1⟩
  obtain ⟨cellB, hcB, hoB, hclB⟩ := hb.cell X S.1
  exact fin (vx_callVN Z X.hx X.hown (va_Nw.use rfl (X.linkM hl)) (X.hts _ hin) (X.hts _ hse) (X.hts _ hcode) hy hK (by rw [hT]; exact hcB) hoB hclB (g := F0 m pc ls (As.reverse ++ .ref b :: rest)) rfl (by rw [X.hml]; exact hls) (argsL := As) (rest := rest) (wv_len hlen hA) rfl (lv_room hW) (by rw [X.hb]; exact hdg) hpre)
/-- the tables' words of an interface's method x and the one that runs for an object of the class C -/
def wv_face (C : String) (x y : MethodName) : Prop := Cond.selects C x y ∈ lw_all ∧ Cond.instanceMethod y ∈ lw_all ∧ Cond.initialized y.cls ∈ lw_all ∧ (∃ b mL rt, Cond.code y b mL rt ∈ lw_all) ∧ wv_ymh y ∧ Cond.declares x ∈ lw_tbl ∧ Cond.interfaceMethod x.cls x.cls x.name x.desc ∈ lw_tbl ∧ Cond.publicMethod y ∈ lw_tbl ∧ Cond.unhidden C x.name x.desc ∈ lw_tbl ∧ Cond.castable C x.cls ∈ lw_tbl
theorem wv_ok.face (X : wv_ok G p R s m args meth c fr own cc nL ret nm tb) {C : String} {x y : MethodName} (h : wv_face C x y) (hx : wv_ymh x) : va_Fw C x y s := by
  obtain ⟨-, -, -, -, -, h1, h2, h3, h4, h5⟩ := h
  obtain ⟨b0, hb⟩ := X.hG.2.2.1
  exact va_Fw.moved hx X.hW.alike (va_Fw.of (hb _ h1) (hb _ h2) (hb _ h3) (hb _ h4) (hb _ h5))
theorem wr_callF (X : wv_ok G p R s m args meth c fr own cc nL ret nm tb) (S : wv_S G R s w H locs cells slots) {y : MethodName} {index nA fr' kc ks : Nat} {b : Nat} {As st : List Value} {P' : wv_R → wv_H → Prop} (hC : wv_C G y (.ref b :: As) w.1 fr' kc ks P') (hfr : fr' < fr) (hkc : kc ≤ w.2.1) (hks : ks ≤ w.2.2) {C : String} {x : MethodName} {count : Nat} (hb : wv_is G w.1 b C) (hl : Cond.methodLink own index x ∈ lw_all) (hf : wv_face C x y) (hxh : wv_ymh x) (hlen : (parseMethodDescriptor x.desc).map (fun d => d.parameters.length) = some nA) (hA : As.length = nA) (hst : st = As.reverse ++ .ref b :: rest) (hW : (rest.map fun v => v.category).sum ≤ 8) (hls : ls.size = nL) (hdg : decode cc pc = .ok (.invokeinterface index count, 5))
    (kk : ∀ (v : Option Value) (h' : wv_H) (H1 : Heap) (locs1 : List Loc) (cells1 slots1 : Nat), P' (.inl v) h' → wv_S G R s (h', w.2.1 - kc, w.2.2 - ks) H1 locs1 cells1 slots1 → W p G.1 e R s m args below meth c H1 locs1 cells1 slots1 Q (F0 m (pc + 5) ls (v.toList ++ rest)))
    (kx : ∀ (E : String) (q : Nat) (h' : wv_H) (H1 : Heap) (locs1 : List Loc) (cells1 slots1 : Nat), P' (.inr (E, q)) h' → wv_S G R s (h', w.2.1 - kc, w.2.2 - ks) H1 locs1 cells1 slots1 → wv_th s H1 E q → vx_W p G.1 e R s m args below meth c H1 locs1 cells1 slots1 Q (F0 m pc ls rest) q) : W p G.1 e R s m args below meth c H locs cells slots Q (F0 m pc ls st) := by
  subst hst
  intro T hT Z
  have g1 := S.2.2.1
  have g2 := S.2.2.2.1
  obtain ⟨hK, cw, bt, mL, rt, hcw, hcb⟩ := hC.back (e := e) (p := p) (R := R) (below := below) (s := s) (sargs := args) (len := 5) (by rw [X.hfr]; exact hfr) (by rw [X.hlo, X.hfr]) X.hts (X.hts _ hf.2.2.1)
  have hpre : ∀ vm₁, s.WarmedH vm₁ → wv_Pre G R kc ks (.ref b :: As) w.1 ⟨T.setVm vm₁, locs, cells, slots⟩ (Value.ref b :: As).toArray := fun vm₁ hW₁ => ⟨show cells + kc ≤ R.cells by omega, show slots + ks ≤ R.slots by omega, rfl, by show wv_Rep G w.1 T.heap; rw [hT]; exact S.1, State.WarmedH.trans X.hW hW₁⟩
  have fin : ((∃ (v : Option Value) (vm₁ : Vm) (B : Pt), s.WarmedH vm₁ ∧ Stand p G.1 e R s m args below meth c B.U B.locs B.cells B.slots ∧ wv_Post G P' kc ks ⟨T.setVm vm₁, locs, cells, slots⟩ (Value.ref b :: As).toArray v B ∧
      ∀ target, Steps p.tables e below (B.U.setTop { (F0 m pc ls (As.reverse ++ .ref b :: rest)) with pc := pc + 5, stack := v.toList ++ rest }) target → Steps p.tables e below (T.setTop (F0 m pc ls (As.reverse ++ .ref b :: rest))) target) ∨
    (∃ (q : Addr) (vm₁ : Vm) (B : Pt), s.WarmedH vm₁ ∧ Stand p G.1 e R s m args below meth c B.U B.locs B.cells B.slots ∧ wv_PostX G P' kc ks ⟨T.setVm vm₁, locs, cells, slots⟩ (Value.ref b :: As).toArray q B ∧
      Steps p.tables e below (T.setTop (F0 m pc ls (As.reverse ++ .ref b :: rest))) ((B.U.setTop { (F0 m pc ls (As.reverse ++ .ref b :: rest)) with stack := rest }).pushFrame (.throwing q)))) → ∃ t, Steps p.tables e below (T.setTop (F0 m pc ls (As.reverse ++ .ref b :: rest))) t ∧ Q t := by
    rintro (⟨v, vm₁, ⟨U', l2, c2, s2⟩, hW₁, X', ⟨h', hP', hRep', L, e1, hL, e2, e3⟩, st⟩ | ⟨q, vm₁, ⟨U', l2, c2, s2⟩, hW₁, X', ⟨h', E, ce, hP', hRep', hce, hcv, hcl, L, e1, hL, e2, e3⟩, st⟩)
    · dsimp only [Pt.U, Pt.locs, Pt.cells, Pt.slots] at X' e1 e2 e3 st hRep'
      subst e1; subst e2; subst e3
      obtain ⟨t, a1, b1⟩ := kk v h' U'.heap (locs ++ L) (cells + kc) (slots + ks) hP' ⟨hRep', wv_locs S.2.1 hL, by show cells + kc + (w.2.1 - kc) = _; omega, by show slots + ks + (w.2.2 - ks) = _; omega, X'.same.2.1⟩ U' rfl X'
      exact ⟨t, st t a1, b1⟩
    · dsimp only [Pt.U, Pt.locs, Pt.cells, Pt.slots] at X' e1 e2 e3 st hRep' hce hcl
      subst e1; subst e2; subst e3
      obtain ⟨t, a1, b1⟩ := kx E q h' U'.heap (locs ++ L) (cells + kc) (slots + ks) hP' ⟨hRep', wv_locs S.2.1 hL, by show cells + kc + (w.2.1 - kc) = _; omega, by show slots + ks + (w.2.2 - ks) = _; omega, X'.same.2.1⟩ ⟨ce, hce, hcv, vx_cls hW₁ hcl⟩ U' rfl X'
      exact ⟨t, st.trans a1, b1⟩
  have hFw := X.face hf hxh
  obtain ⟨b9, mL9, rt9, hcode9⟩ := hf.2.2.2.1
  obtain ⟨cellB, hcB, hoB, hclB⟩ := hb.cell X S.1
  obtain ⟨kB, hkB, -⟩ := Vm.findClass_spec hclB
  exact fin (vx_callIF Z X.hx X.hown (X.hts _ hl) (va_any rfl hFw.1) (va_any rfl hFw.2.1) (X.hts _ hf.1) (X.hts _ hf.2.1) (va_any rfl hFw.2.2.1) (va_any rfl hFw.2.2.2.1) (va_any rfl hFw.2.2.2.2) (X.hts _ hcode9) hxh hK (by rw [hT]; exact hcB) hoB hclB hkB (g := F0 m pc ls (As.reverse ++ .ref b :: rest)) rfl (by rw [X.hml]; exact hls) (argsL := As) (rest := rest) (wv_len hlen hA) rfl (lv_room hW) (by rw [X.hb]; exact hdg) hpre)
end WV6
