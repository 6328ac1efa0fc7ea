/-! ROWS 12: lambdas -/
section WV16
theorem wv_lsp (G : wv_G) (j : Nat) : ∀ (x : MethodName) (pc i : Nat) (sh : Jvm.Lambda.Shape), wv_site j = .lambdaSite x pc i sh → wv_lat G j = G.2.1.lambdaAt? x pc i sh := by
  intro x pc i sh h
  unfold wv_lat
  rw [h]
theorem wv_site_in {G : wv_G} (hG : wv_G0 G) {j : Nat} (hj : j < 6) : ∃ b0 : Nat, (wv_site j).before #[Value.ref b0] G.2.1 = true := by
  obtain ⟨-, -, -, b0, hn, hk⟩ := hG
  have hs := flat_of_before _ hn
  refine ⟨b0, hs _ ?_⟩
  rcases (show j = 0 ∨ j = 1 ∨ j = 2 ∨ j = 3 ∨ j = 4 ∨ j = 5 by omega) with rfl | rfl | rfl | rfl | rfl | rfl <;> decide +kernel
def wv_chk (own nm d : String) (w : Cond) : Bool := match w with
  | .code y _ _ _ => if y.cls == own && y.name == nm then y.desc == d else true
  | .codeWith y _ _ _ _ => if y.cls == own && y.name == nm then y.desc == d else true
  | _ => true
variable {G : wv_G} {p : Program} {e : Env} {R : Room} {s : State} {m : MethodId} {args : Array Value} {below : List Frame} {meth : Method} {c : Code} {fr : Nat} {own : String} {cc : ByteArray} {nL : Nat} {ret : Option FieldType} {nm : String} {tb : List (Nat × Nat × Nat × Nat)}
variable {w : wv_W} {H : Heap} {locs : List Loc} {cells slots : Nat} {Q : State → Prop} {pc : Nat} {ls : Array Slot} {rest : List Value}
theorem wv_ok.named (X : wv_ok G p R s m args meth c fr own cc nL ret nm tb) {d : String} (hc : ∀ w ∈ lw_all, wv_chk own nm d w = true) : s.methodNamed? ⟨own, nm, d⟩ = some m := by
  obtain ⟨d', h1, h2⟩ := X.hnm2
  have h3 : d' = d := by
    rcases h2 with h2 | h2
    · have h4 := hc _ h2
      simpa [wv_chk] using h4
    · have h4 := hc _ h2
      simpa [wv_chk] using h4
  rw [← h3]
  exact h1
/-- what is known of a lambda's site and its class, at a state of a walk -/
theorem wv_ok.site (X : wv_ok G p R s m args meth c fr own cc nL ret nm tb) {j pc0 i : Nat} {x : MethodName} {sh : Jvm.Lambda.Shape} (hj : j < 6) (hs : wv_site j = .lambdaSite x pc0 i sh) :
    ∃ (m' : MethodId) (k : Class) (cf : ClassFile) (i0 p0 : Nat) (l : Linked), s.methodNamed? x = some m' ∧ s.vm.classes[m'.cls]? = some k ∧ k.cf = some cf ∧ Jvm.Lambda.shapeOf? cf i = some sh ∧ (k.callSites.find? fun y => y.1 == m'.idx && y.2.1 == pc0) = some (i0, p0, l) ∧ Jvm.Lambda.isMade { classPath := fun _ => none } s.vm m'.cls sh (wv_lcls G j) = true ∧ s.lambdaCallable sh (wv_lcls G j) = true ∧
      ((∃ cell, l = .constant (wv_lone G j) ∧ sh.captured = [] ∧ s.heap[wv_lone G j]? = some cell ∧ wv_lone G j < wv_b G ∧ cell.cls = wv_lcls G j ∧ cell.vm = .none ∧ cell.slots = #[]) ∨ (l = .makes (wv_lcls G j) ∧ sh.captured ≠ [])) := by
  obtain ⟨b0, hb⟩ := wv_site_in X.hG hj
  rw [hs] at hb
  obtain ⟨cK, one, hat⟩ := Cond.lambdaSite_spec hb
  have hlat := wv_lsp G j x pc0 i sh hs
  rw [hat] at hlat
  have e1 : wv_lcls G j = cK := by unfold wv_lcls; rw [hlat]; rfl
  obtain ⟨m', k, cf, i0, p0, l, h1, h2, h3, h4, -, h6, h7, h8, h9⟩ := State.lambdaAt?_spec hat
  have hal := X.hW.alike
  obtain ⟨k', hk', he⟩ := hal.2.2 _ _ h2
  have hm' : s.methodNamed? x = some m' := by
    have := State.methodNamed?_setVm (s := G.2.1) hal x
    rw [h1] at this
    exact this
  have hcall' : s.lambdaCallable sh cK = true := by
    simp only [State.lambdaCallable, hal.findClass, hal.assignable, hal.superclasses, hal.declaredIn] at h8 ⊢
    exact h8
  rw [e1]
  refine ⟨m', k', cf, i0, p0, l, hm', hk', by rw [he]; exact h3, h4, by rw [he]; exact h6, Jvm.Lambda.isMade_warmer X.hW h7, hcall', ?_⟩
  rcases h9 with ⟨a, cell, rfl, rfl, hcap, hcell, hcls, hvm, hsl⟩ | ⟨rfl, rfl, hcap⟩
  · have e2 : wv_lone G j = a := by unfold wv_lone; rw [hlat]; rfl
    have hlt : a < wv_b G := (Array.getElem?_eq_some_iff.mp hcell).1
    rw [e2]
    exact Or.inl ⟨cell, rfl, hcap, by rw [X.hold a hlt]; exact hcell, hlt, hcls, hvm, hsl⟩
  · exact Or.inr ⟨rfl, hcap⟩
theorem wv_three {A : Type} {r : A} {x : Array Nat} {f : Nat → Nat → Nat → Option A} (h : Jvm.Lambda.shapeOf?.match_15 (fun _ => Option A) x f (fun _ => none) = some r) : ∃ a b c, f a b c = some r := by
  obtain ⟨L⟩ := x
  rcases L with _ | ⟨a, _ | ⟨b, _ | ⟨c, _ | ⟨d, L⟩⟩⟩⟩
  · cases h
  · cases h
  · cases h
  · exact ⟨a, b, c, h⟩
  · cases h
/-- the shape of a lambda's site: what the instruction's operand names -/
theorem wv_shape {cf : ClassFile} {index : Nat} {sh : Jvm.Lambda.Shape} (h : Jvm.Lambda.shapeOf? cf index = some sh) : ∃ (b nt : Nat) (nm desc : String) (site : MethodDescriptor), cf.constantPool[index]? = some (.invokeDynamic b nt) ∧ cf.constantPool.nameAndType? nt = some (nm, desc) ∧ parseMethodDescriptor desc = some site ∧ site.parameters = sh.captured := by
  unfold Jvm.Lambda.shapeOf? at h
  split at h
  · rename_i b nt hc
    refine ⟨b, nt, ?_⟩
    obtain ⟨_, -, h⟩ := Option.bind_eq_some_iff.mp h
    obtain ⟨_, -, h⟩ := Option.bind_eq_some_iff.mp h
    split at h
    · obtain ⟨_, -, h⟩ := Option.bind_eq_some_iff.mp h
      obtain ⟨_, _, _, h⟩ := wv_three h
      · split at h
        · split at h
          · split at h
            · obtain ⟨⟨nm, desc⟩, hnt, h⟩ := Option.bind_eq_some_iff.mp h
              obtain ⟨site, hsite, h⟩ := Option.bind_eq_some_iff.mp h
              split at h
              · obtain ⟨⟨_, _, _, _⟩, -, h⟩ := Option.bind_eq_some_iff.mp h
                obtain ⟨_, -, h⟩ := Option.bind_eq_some_iff.mp h
                obtain ⟨_, -, h⟩ := Option.bind_eq_some_iff.mp h
                obtain ⟨_, -, h⟩ := Option.bind_eq_some_iff.mp h
                obtain ⟨_, -, h⟩ := Option.bind_eq_some_iff.mp h
                obtain ⟨_, -, h⟩ := Option.bind_eq_some_iff.mp h
                cases h
                exact ⟨nm, desc, site, by assumption, hnt, hsite, rfl⟩
              · cases h
            · cases h
          · cases h
        · cases h
    · cases h
  · cases h
/-- the class that stands for a lambda: what its objects hold -/
theorem wv_madeT {s : State} {args : Array Value} {d c : ClassId} {sh : Jvm.Lambda.Shape} {dk : Class} {T : Array FieldType} (h : Jvm.Lambda.isMade { classPath := fun _ => none } s.vm d sh c = true) (hd : s.vm.classes[d]? = some dk) (hO : (Cond.instantiable "java/lang/Object" 0).before args s = true) (hl : ((sh.file dk.name).bind (layoutFields · 0)).map (·.2.1) = some T) :
    ∃ k, s.vm.classes[c]? = some k ∧ k.instanceTypes = T ∧ k.kind = .ordinary := by
  obtain ⟨dk', k, ok, tk, file, cf, object, iface, t, lay, methods, target, found, e1, e2, e3, e4, e5, e6, e7, e8, e9, e10, e11, e12, e13, ⟨-, hkind, -⟩, -, -, -, -, -, -, -, ⟨hty, -⟩, -⟩ := Jvm.Lambda.isMade_spec h
  obtain ⟨cO, kO, o1, o2, -, -, -, o3⟩ := Cond.instantiable_spec hO
  cases hd.symm.trans e1
  cases o1.symm.trans e5
  cases o2.symm.trans e7
  rw [o3] at e8
  rw [e4] at hl
  simp only [Option.bind_some, e8, Option.map_some, Option.some.injEq] at hl
  have hz : ok.instanceTypes = #[] := Array.eq_empty_of_size_eq_zero o3
  exact ⟨k, e2, by rw [hty, hz, hl]; simp, hkind⟩
/-- a lambda's object is made -/
def wv_mk (G : wv_G) (fr : Nat) (w : wv_W) (j : Nat) (vs : List Value) (K : Nat → wv_W → Prop) : Prop := 49 ≤ fr ∧ 1 ≤ w.2.1 ∧ vs.length ≤ w.2.2 ∧ ∀ a : Nat, w.1 a = none → wv_b G ≤ a → ∃ t : wv_T, K a (wv_up w.1 a (t, wo_M j vs), w.2.1 - 1, w.2.2 - vs.length)
theorem wv_zipN : ∀ (T : List FieldType) (vs : List Value), vs.length = T.length → (∀ q ∈ T.zip vs, narrow q.1 q.2 = q.2 ∧ fits q.1 q.2 = true) → (T.zip vs).map (fun q => narrow q.1 q.2) = vs
  | [], [], _, _ => rfl
  | [], _ :: _, h, _ => by simp at h
  | _ :: _, [], h, _ => by simp at h
  | t :: T, v :: vs, h, hf => by
    simp only [List.zip_cons_cons, List.map_cons]
    rw [(hf (t, v) (by simp)).1, wv_zipN T vs (by simpa using h) (fun q hq => hf q (by simp [hq]))]
set_option maxHeartbeats 2000000 in
theorem wq_lam (X : wv_ok G p R s m args meth c fr own cc nL ret nm tb) (S : wv_S G R s w H locs cells slots) {j i : Nat} {d : String} {sh : Jvm.Lambda.Shape} {vs st : List Value} {K : Nat → wv_W → Prop} (hv : wv_mk G fr w j vs K) (hj : j < 6) (hs : wv_site j = .lambdaSite ⟨own, nm, d⟩ pc i sh) (hc : ∀ w ∈ lw_all, wv_chk own nm d w = true) (hown : own = "Weaversgate$Run")
    (hcap : sh.captured ≠ []) (hlays : ((sh.file "Weaversgate$Run").bind (layoutFields · 0)).map (·.2.1) = some sh.captured.toArray) (hlen : vs.length = sh.captured.length) (hfit : ∀ q ∈ sh.captured.zip vs, narrow q.1 q.2 = q.2 ∧ fits q.1 q.2 = true) (hst : st = vs.reverse ++ rest) (hW : (st.map fun v => v.category).sum ≤ 20) (hls : ls.size = nL) (hdg : decode cc pc = .ok (.invokedynamic i, 5))
    (kk : ∀ (a : Nat) (w1 : wv_W) (H1 : Heap) (cells1 slots1 : Nat), wv_S G R s w1 H1 locs cells1 slots1 → K a w1 → W p G.1 e R s m args below meth c H1 locs cells1 slots1 Q (F0 m (pc + 5) ls (va_rf (some a) :: rest))) : W p G.1 e R s m args below meth c H locs cells slots Q (F0 m pc ls st) := by
  obtain ⟨hfr, h1, h2, h3⟩ := hv
  obtain ⟨t, h4⟩ := h3 H.size S.1.fresh S.1.1
  have g1 := S.2.2.1
  have g2 := S.2.2.2.1
  have hlo := X.hlo
  have hff := X.hfr
  obtain ⟨m', kS, cf, i0, p0, lk, k1, k2, k3, k4, k5, k6, k7, k8⟩ := X.site hj hs
  have hmm : m' = m := Option.some.inj (k1.symm.trans (X.named hc))
  subst hmm
  have hlk : lk = .makes (wv_lcls G j) := by
    rcases k8 with ⟨_, _, h9, _⟩ | ⟨h9, _⟩
    · exact absurd h9 hcap
    · exact h9
  subst hlk
  obtain ⟨bsm, nt, _, desc, site, hcp, hnt, hsite, hpar⟩ := wv_shape k4
  obtain ⟨kS', hkS', hnameS⟩ := className_of_methodNamed (X.named hc)
  cases k2.symm.trans hkS'
  have hnameS : kS.name = "Weaversgate$Run" := hnameS.trans hown
  obtain ⟨kK, hkK, htyK, hkindK⟩ := wv_madeT k6 k2 (X.hts _ q2657) (by rw [hnameS]; exact hlays)
  have hslotsE : ((kK.instanceTypes.toList.zip vs).map fun (t, v) => narrow t v) = vs := by
    rw [htyK]
    exact wv_zipN _ _ hlen hfit
  subst hst
  intro T hT Z
  have hpl : e.platform.lambdaLinkWords = 3072 := by rw [Z.admits.platform]
  obtain ⟨X₁, st1⟩ := Z.lambdaMakes X.hx (g := F0 m' pc ls (vs.reverse ++ rest)) rfl (by rw [X.hml]; exact hls) (by rw [X.hb]; exact hdg) (vals := vs) (rest := rest)
    k2 k5 k3 hcp hnt (parseLong_of_parse hsite) (by rw [hpar]; exact hlen) rfl hkK
    (by rw [hpl]; show 2 * 0 + _ + 3072 ≤ _; have hW' : ((F0 m' pc ls (vs.reverse ++ rest)).stack.map fun v => v.category).sum ≤ 20 := hW; omega) (by omega) (by rw [hslotsE]; omega)
    (fun i v hv => by
      rw [hslotsE] at hv
      have hv' : vs[i]? = some v := by simpa using hv
      have hi : i < vs.length := (List.getElem?_eq_some_iff.mp hv').1
      have ht : sh.captured[i]? = some sh.captured[i] := List.getElem?_eq_getElem (by omega)
      have hz : (sh.captured[i], v) ∈ sh.captured.zip vs := List.mem_of_getElem? (i := i) (by
        rw [List.getElem?_zip_eq_some]
        exact ⟨ht, hv'⟩)
      have hf := (hfit _ hz).2
      simp [State.fitsSlot, State.slotType?, hkK, hkindK, htyK, ht]
      exact hf)
  rw [hslotsE] at X₁ st1
  have hnew : (T.pushCell { cls := wv_lcls G j, slots := vs.toArray, vm := .none }).heap[T.heap.size]? = some { cls := wv_lcls G j, slots := vs.toArray, vm := .none } := State.heap_pushCell_size _ _
  have hold : ∀ q : Nat, q < T.heap.size → (T.pushCell { cls := wv_lcls G j, slots := vs.toArray, vm := .none }).heap[q]? = T.heap[q]? := fun q hq => State.heap_pushCell_of_lt _ _ hq
  have hsz : (T.pushCell { cls := wv_lcls G j, slots := vs.toArray, vm := .none }).heap.size = T.heap.size + 1 := by simp [State.pushCell]
  generalize T.pushCell { cls := wv_lcls G j, slots := vs.toArray, vm := .none } = T1 at X₁ st1 hnew hold hsz
  rw [hT] at hnew hold hsz
  have hTs : T.heap.size = H.size := by rw [hT]
  rw [hTs] at st1
  have hvs : vs.toArray.size = vs.length := by simp
  rw [hvs] at X₁
  have hRep : wv_Rep G (wv_up w.1 H.size (t, wo_M j vs)) T1.heap := by
    refine S.1.ext (by omega) hold (fun b hb => wv_up_ne (Nat.ne_of_lt hb)) (fun b x o hb hq => ?_)
    by_cases hbe : b = H.size
    · subst hbe
      rw [wv_up_self] at hq
      cases hq
      exact ⟨Or.inr ⟨(j, vs), rfl, hnew⟩, fun c9 hc9 => by cases hnew.symm.trans hc9; exact ⟨rfl, rfl⟩⟩
    · rw [wv_up_ne hbe] at hq
      exact absurd (S.1.lt hq) (by omega)
  obtain ⟨t9, b1, b2⟩ := kk H.size (wv_up w.1 H.size (t, wo_M j vs), w.2.1 - 1, w.2.2 - vs.length) T1.heap (cells + 1) (slots + vs.length) ⟨hRep, S.2.1, by show cells + 1 + (w.2.1 - 1) = _; omega, by show slots + vs.length + (w.2.2 - vs.length) = _; omega, by have := S.2.2.2.2; omega⟩ h4 T1 rfl X₁
  exact ⟨t9, st1 t9 b1, b2⟩
/-- the one object of a lambda that captures nothing -/
theorem wq_lam0 (X : wv_ok G p R s m args meth c fr own cc nL ret nm tb) (S : wv_S G R s w H locs cells slots) {j i : Nat} {d : String} {sh : Jvm.Lambda.Shape} {K : Prop} (hv : 49 ≤ fr ∧ K) (hj : j < 6) (hs : wv_site j = .lambdaSite ⟨own, nm, d⟩ pc i sh) (hc : ∀ w ∈ lw_all, wv_chk own nm d w = true)
    (hcap : sh.captured = []) (hW : (rest.map fun v => v.category).sum ≤ 20) (hls : ls.size = nL) (hdg : decode cc pc = .ok (.invokedynamic i, 5))
    (kk : K → W p G.1 e R s m args below meth c H locs cells slots Q (F0 m (pc + 5) ls (va_rf (some (wv_lone G j)) :: rest))) : W p G.1 e R s m args below meth c H locs cells slots Q (F0 m pc ls rest) := by
  obtain ⟨hfr, hK⟩ := hv
  have hlo := X.hlo
  have hff := X.hfr
  obtain ⟨m', kS, cf, i0, p0, lk, k1, k2, k3, k4, k5, k6, k7, k8⟩ := X.site hj hs
  have hmm : m' = m := Option.some.inj (k1.symm.trans (X.named hc))
  subst hmm
  have hlk : lk = .constant (wv_lone G j) := by
    rcases k8 with ⟨_, h9, _⟩ | ⟨_, h9⟩
    · exact h9
    · exact absurd hcap h9
  subst hlk
  intro T hT Z
  have hpl : e.platform.lambdaLinkWords = 3072 := by rw [Z.admits.platform]
  obtain ⟨t9, b1, b2⟩ := kk hK T hT Z
  refine ⟨t9, Z.lambdaConstant X.hx (g := F0 m' pc ls rest) rfl (by rw [X.hml]; exact hls) (by rw [X.hb]; exact hdg) k2 k5 (by rw [hpl]; show 2 * 0 + _ + 3072 ≤ _; have hW' : ((F0 m' pc ls rest).stack.map fun v => v.category).sum ≤ 20 := hW; omega) b1, b2⟩
end WV16
