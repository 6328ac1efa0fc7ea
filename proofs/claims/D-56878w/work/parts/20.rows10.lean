/-! ROWS 10: contracts through another picture of the same heap; lists taken apart and put together; calls by an inherited name; default methods -/
section WV13
variable {G : wv_G} {y : MethodName} {av : List Value} {h : wv_H} {fr kc ks : Nat} {P : wv_R → wv_H → Prop}
theorem wv_C.via {cw : Cond} {b : ByteArray} {mL : Nat} {ret : Option FieldType} {P1 : wv_H → wv_R → wv_H → Prop} (hmL : mL ≤ 40) (hcw : cw = .code y b mL ret ∨ ∃ hh, cw = .codeWith y b mL ret hh) (hin : cw ∈ lw_all) (Op : wv_H → Prop) (hop : ∀ H, wv_Rep G h H → ∃ h1, Op h1 ∧ wv_Rep G h1 H) (hC : ∀ h1, Op h1 → wv_C G y av h1 fr kc ks (P1 h1)) (hcl : ∀ h1 r h2 H, Op h1 → P1 h1 r h2 → wv_Rep G h2 H → ∃ h', P r h' ∧ wv_Rep G h' H) : wv_C G y av h fr kc ks P := by
  refine ⟨cw, b, mL, ret, hmL, hcw, hin, ?_⟩
  intro p e hadm hcas hclk s m args below hfr happ hP hK
  obtain ⟨hargs, hU⟩ := hP
  obtain ⟨h1, ho, hR1⟩ := hop s.heap hU.1
  obtain ⟨cw1, b1, mL1, ret1, hmL1, hcw1, hin1, hM1⟩ := hC h1 ho
  have happ1 : (headSpec (cw1 :: lw_all) (wv_rm fr kc ks)).appliesLoose y e.platform s = true := by
    have hpre : ∀ a : Array Value, (headSpec (cw :: lw_all) (wv_rm fr kc ks)).pre.before a s = true → (headSpec (cw1 :: lw_all) (wv_rm fr kc ks)).pre.before a s = true := by
      intro a ha
      have h5 := atoms_spec (ws := cw :: lw_all) ha
      refine atoms_intro fun w hw => ?_
      rcases List.mem_cons.mp hw with rfl | hw
      · exact h5 _ (List.mem_cons_of_mem _ hin1)
      · exact h5 _ (List.mem_cons_of_mem _ hw)
    obtain ⟨k1, k2, k3, k4, k5, k6, k7, k8⟩ := (Spec.appliesLoose_iff hfr).mp happ
    exact (Spec.appliesLoose_iff hfr).mpr ⟨k1, k2, k3, k4, k5, k6, k7, hpre _ k8⟩
  obtain ⟨n, o, g1, g2, g3, g4⟩ := hM1 p e hadm hcas hclk s m args below hfr happ1 ⟨hargs, hR1, hU.2⟩ hK
  refine ⟨n, o, g1, g2, g3, ?_⟩
  rcases g4 with ⟨v, h2, e1, e2, e3, e4⟩ | ⟨q, h2, E, ce, L, e1, e2, e3, e4⟩
  · obtain ⟨h', k1, k2⟩ := hcl h1 _ h2 _ ho e2 e3
    exact Or.inl ⟨v, h', e1, k1, k2, e4⟩
  · obtain ⟨h', k1, k2⟩ := hcl h1 _ h2 _ ho e2 e3
    exact Or.inr ⟨q, h', E, ce, L, e1, k1, k2, e4⟩
theorem wv_C.mono {P' : wv_R → wv_H → Prop} (hC : wv_C G y av h fr kc ks P) (hp : ∀ r h', P r h' → P' r h') : wv_C G y av h fr kc ks P' := by
  obtain ⟨cw, b, mL, ret, hmL, hcw, hin, hM⟩ := hC
  refine ⟨cw, b, mL, ret, hmL, hcw, hin, ?_⟩
  intro p e hadm hcas hclk s m args below hfr happ hP hK
  obtain ⟨n, o, g1, g2, g3, g4⟩ := hM p e hadm hcas hclk s m args below hfr happ hP hK
  exact ⟨n, o, g1, g2, g3, g4.mono hp⟩
/-- the list at a, its cell and its array apart -/
def wv_opn (G : wv_G) (h : wv_H) (a : Nat) (t : wv_T) (md : Int32) (cap n arr : Nat) (f : Nat → Option Nat) : wv_H :=
  if cap = 0 then wv_up h a (t, wo_o ciJ2 [.int md, va_rf (some arr), .int (nI n)]) else wv_up (wv_up h a (t, wo_o ciJ2 [.int md, va_rf (some arr), .int (nI n)])) arr (t, wo_q (wv_A G 5) cap f)
/-- what is known of a list's array -/
def wv_arr (G : wv_G) (h : wv_H) (a cap arr : Nat) (xs : List Nat) (f : Nat → Option Nat) : Prop :=
  xs.length ≤ cap ∧ cap ≤ 100000 ∧ (cap = 0 → arr = G.2.2.2.2 0) ∧ (cap ≠ 0 → h arr = none ∧ arr ≠ a ∧ wv_b G ≤ arr) ∧ ∀ (i x : Nat), xs[i]? = some x → f i = some x
theorem wv_Rep.opn {H : Heap} (hR : wv_Rep G h H) {a cap : Nat} {t : wv_T} {md : Int32} {xs : List Nat} (ha : h a = some (t, wo_L md cap xs)) : ∃ (arr : Nat) (f : Nat → Option Nat), wv_arr G h a cap arr xs f ∧ wv_Rep G (wv_opn G h a t md cap xs.length arr f) H := by
  obtain ⟨h1, h2, own, h3, h4, h5⟩ := hR
  obtain ⟨g1, g2, g3, g4, g5, g67⟩ := h3 a t _ ha
  have hown : ∀ {b : Nat} {x : wv_T} {l : Int32 × Nat × List Nat}, h b = some (x, .inr (.inl l)) → own b ≠ a := by
    intro b x l hb hq
    by_cases hz : l.2.1 = 0
    · have h9 := ((h3 b x _ hb).2.2.2.2.1 hz).2
      have h8 := (g1 (h4 a t _ ha).1).1
      omega
    · have := (h4 b x l hb).2 hz
      rw [hq, ha] at this
      cases this
  by_cases hz : cap = 0
  · have hx : xs = [] := List.length_eq_zero_iff.mp (by have : xs.length ≤ cap := g3; omega)
    refine ⟨own a, fun _ => none, ⟨g3, g4, fun hz => (g5 hz).1, fun hz2 => absurd hz hz2, fun i x hi => by rw [hx] at hi; simp at hi⟩, h1, h2, own, ?_⟩
    rw [show wv_opn G h a t md cap xs.length (own a) (fun _ => none) = wv_up h a (t, wo_o ciJ2 [.int md, va_rf (some (own a)), .int (nI xs.length)]) from if_pos hz]
    have hne : ∀ {b : Nat} {x : wv_T} {l : Int32 × Nat × List Nat}, wv_up h a (t, wo_o ciJ2 [.int md, va_rf (some (own a)), .int (nI xs.length)]) b = some (x, .inr (.inl l)) → b ≠ a ∧ h b = some (x, .inr (.inl l)) := by
      intro b x l hb
      by_cases hba : b = a
      · subst hba
        rw [wv_up_self] at hb
        cases hb
      · rw [wv_up_ne hba] at hb
        exact ⟨hba, hb⟩
    refine ⟨?_, ?_, ?_⟩
    · intro b x o hb
      by_cases hba : b = a
      · subst hba
        rw [wv_up_self] at hb
        cases hb
        exact ⟨g1, g2⟩
      · rw [wv_up_ne hba] at hb
        exact h3 b x o hb
    · intro b x l hb
      obtain ⟨hba, hb'⟩ := hne hb
      refine ⟨(h4 b x l hb').1, fun hz => ?_⟩
      rw [wv_up_ne (hown hb')]
      exact (h4 b x l hb').2 hz
    · intro b c x x' l l' hb hc
      exact h5 b c x x' l l' (hne hb).2 (hne hc).2
  · obtain ⟨g6, f, g7, g8⟩ := g67 hz
    refine ⟨own a, f, ⟨g3, g4, fun hz2 => absurd hz2 hz, fun hz => ⟨(h4 a t _ ha).2 hz, fun hq => ?_, g6⟩, g8⟩, h1, h2, own, ?_⟩
    · have := (h4 a t _ ha).2 hz
      rw [hq, ha] at this
      cases this
    rw [show wv_opn G h a t md cap xs.length (own a) f = wv_up (wv_up h a (t, wo_o ciJ2 [.int md, va_rf (some (own a)), .int (nI xs.length)])) (own a) (t, wo_q (wv_A G 5) cap f) from if_neg hz]
    have hna : h (own a) = none := (h4 a t _ ha).2 hz
    have hne : ∀ {b : Nat} {x : wv_T} {l : Int32 × Nat × List Nat}, wv_up (wv_up h a (t, wo_o ciJ2 [.int md, va_rf (some (own a)), .int (nI xs.length)])) (own a) (t, wo_q (wv_A G 5) cap f) b = some (x, .inr (.inl l)) → b ≠ a ∧ h b = some (x, .inr (.inl l)) := by
      intro b x l hb
      by_cases hbo : b = own a
      · subst hbo
        rw [wv_up_self] at hb
        cases hb
      · rw [wv_up_ne hbo] at hb
        by_cases hba : b = a
        · subst hba
          rw [wv_up_self] at hb
          cases hb
        · rw [wv_up_ne hba] at hb
          exact ⟨hba, hb⟩
    refine ⟨?_, ?_, ?_⟩
    · intro b x o hb
      by_cases hbo : b = own a
      · subst hbo
        rw [wv_up_self] at hb
        cases hb
        exact ⟨fun _ => ⟨g6, wv_free.cell g7⟩, g7⟩
      · rw [wv_up_ne hbo] at hb
        by_cases hba : b = a
        · subst hba
          rw [wv_up_self] at hb
          cases hb
          exact ⟨g1, g2⟩
        · rw [wv_up_ne hba] at hb
          exact h3 b x o hb
    · intro b x l hb
      obtain ⟨hba, hb'⟩ := hne hb
      refine ⟨(h4 b x l hb').1, fun hz2 => ?_⟩
      have hoo : own b ≠ own a := fun hq => hba (h5 b a x t l _ hb' ha hz2 hq)
      rw [wv_up_ne hoo, wv_up_ne (hown hb')]
      exact (h4 b x l hb').2 hz2
    · intro b c x x' l l' hb hc
      exact h5 b c x x' l l' (hne hb).2 (hne hc).2
/-- h' is h2 with the list at a put together again (and some things forgotten) -/
def wv_clo (G : wv_G) (h2 h' : wv_H) (a : Nat) : Prop :=
  ∃ (t : wv_T) (md : Int32) (cap arr : Nat) (xs : List Nat), h2 a = some (t, wo_o ciJ2 [.int md, va_rf (some arr), .int (nI xs.length)]) ∧ t.1 ≠ 0 ∧ xs.length ≤ cap ∧ cap ≤ 100000 ∧ h' a = some (t, wo_L md cap xs) ∧ (cap = 0 → arr = G.2.2.2.2 0) ∧ (cap ≠ 0 → arr ≠ a ∧ ∃ (t' : wv_T) (f : Nat → Option Nat), h2 arr = some (t', wo_q (wv_A G 5) cap f) ∧ t'.1 ≠ 0 ∧ (∀ (i x : Nat), xs[i]? = some x → f i = some x)) ∧ ∀ b x, b ≠ a → h' b = some x → h2 b = some x ∧ (cap ≠ 0 → b ≠ arr)
theorem wv_Rep.close (hG : wv_G0 G) {H : Heap} {h2 h' : wv_H} {a : Nat} (hR : wv_Rep G h2 H) (hc : wv_clo G h2 h' a) : wv_Rep G h' H := by
  have hlow := fun {a : Nat} {t : wv_T} {o : wv_O} (ha : h2 a = some (t, o)) (ht : t.1 ≠ 0) => hR.low ha ht
  have hfree := fun {a : Nat} {t : wv_T} {o : wv_O} (ha : h2 a = some (t, o)) (ht : t.1 ≠ 0) => hR.free ha ht
  have hat := fun {a : Nat} {t : wv_T} {e : va_E} (ha : h2 a = some (t, .inl e)) => hR.at ha
  have hemp : G.2.2.2.2 0 < wv_b G := Nat.not_le.mp (wv_emp hG).out
  obtain ⟨h1, h2', own, h3, h4, h5⟩ := hR
  obtain ⟨t, md, cap, arr, xs, c1, c2, c3, c4, c5, c6, c7, c8⟩ := hc
  have hl : wv_lst G arr H a md cap xs := by
    refine ⟨hat c1, c3, c4, fun hz => ⟨c6 hz, by rw [c6 hz]; exact hemp⟩, fun hz => ?_⟩
    obtain ⟨-, t', f, d1, d2, d3⟩ := c7 hz
    exact ⟨hlow d1 d2, f, hat d1, d3⟩
  refine ⟨h1, h2', fun b => if b = a then arr else own b, ?_, ?_, ?_⟩
  · intro b x o hb
    by_cases hba : b = a
    · subst hba
      rw [c5] at hb
      cases hb
      refine ⟨fun _ => ⟨hlow c1 c2, hfree c1 c2⟩, ?_⟩
      show wv_lst G (if b = b then arr else own b) H b md cap xs
      rw [if_pos rfl]
      exact hl
    · obtain ⟨d1, d2⟩ := c8 b _ hba hb
      obtain ⟨e1, e2⟩ := h3 b x o d1
      refine ⟨e1, ?_⟩
      rcases o with e | l | q
      · exact e2
      · show wv_lst G (if b = a then arr else own b) H b _ _ _
        rw [if_neg hba]
        exact e2
      · exact e2
  · intro b x l hb
    by_cases hba : b = a
    · subst hba
      rw [c5] at hb
      cases hb
      refine ⟨c2, fun hz => ?_⟩
      show h' (if b = b then arr else own b) = none
      rw [if_pos rfl]
      cases hq : h' arr with
      | none => rfl
      | some z => exact absurd rfl ((c8 arr z (c7 hz).1 hq).2 hz)
    · obtain ⟨d1, d2⟩ := c8 b _ hba hb
      refine ⟨(h4 b x l d1).1, fun hz => ?_⟩
      show h' (if b = a then arr else own b) = none
      rw [if_neg hba]
      have h6 := (h4 b x l d1).2 hz
      have hoa : own b ≠ a := fun hq => by rw [hq, c1] at h6; cases h6
      cases hq : h' (own b) with
      | none => rfl
      | some z =>
        have h7 := (c8 _ z hoa hq).1
        rw [h6] at h7
        cases h7
  · intro b c x x' l l' hb hc hz hq
    have key : ∀ {b : Nat} {x : wv_T} {l : Int32 × Nat × List Nat}, b ≠ a → h' b = some (x, .inr (.inl l)) → (l.2.1 ≠ 0 ∨ cap ≠ 0) → own b ≠ arr := by
      intro b x l hba hb hz hq
      obtain ⟨d1, d2⟩ := c8 b _ hba hb
      have e2 := (h3 b x _ d1).2
      by_cases hl0 : l.2.1 = 0
      · have hcap : cap ≠ 0 := by
          rcases hz with hz | hz
          · exact absurd hl0 hz
          · exact hz
        have h9 := (e2.2.2.2.1 hl0).2
        have h8 := (hl.2.2.2.2 hcap).1
        have h7 : own b < wv_b G := h9
        omega
      · have h6 := (h4 b x l d1).2 hl0
        have h7 := (e2.2.2.2.2 hl0).1
        by_cases hcap : cap = 0
        · have h8 := (hl.2.2.2.1 hcap).2
          have h7' : wv_b G ≤ own b := h7
          omega
        · obtain ⟨-, t', f, d1', -⟩ := c7 hcap
          rw [hq, d1'] at h6
          cases h6
    have hq2 : (if b = a then arr else own b) = (if c = a then arr else own c) := hq
    by_cases hba : b = a
    · by_cases hca : c = a
      · rw [hba, hca]
      · rw [if_pos hba, if_neg hca] at hq2
        subst hba
        rw [c5] at hb
        cases hb
        exact absurd hq2.symm (key hca hc (Or.inr hz))
    · by_cases hca : c = a
      · rw [if_neg hba, if_pos hca] at hq2
        exact absurd hq2 (key hba hb (Or.inl hz))
      · rw [if_neg hba, if_neg hca] at hq2
        exact h5 b c x x' l l' (c8 b _ hba hb).1 (c8 c _ hca hc).1 hz hq2
end WV13

/-! ROWS: a default method by an interface; Object.equals -/
section WV14
variable {G : wv_G} {p : Program} {e : Env} {R : Room} {s : State} {m : MethodId} {args : Array Value} {below : List Frame} {meth : Method} {c : Code} {fr : Nat} {own : String} {cc : ByteArray} {nL : Nat} {ret : Option FieldType} {nm : String} {tb : List (Nat × Nat × Nat × Nat)}
variable {w : wv_W} {H : Heap} {locs : List Loc} {cells slots : Nat} {Q : State → Prop} {pc : Nat} {ls : Array Slot} {rest : List Value}

theorem wv_callIFD {T : State} {locs : List Loc} {cells slots : Nat} (X : Stand p G.1 e R s m args below meth c T locs cells slots) (hexec : p.tables.exec = Jvm.exec) {own C : String} {index count : Nat} {x y : MethodName} {bytes : ByteArray} {maxL : Nat} {ret : Option FieldType}
    (hown : s.vm.findClass own = some m.cls) (hlink : (Cond.methodLink own index x).before args s = true) (hdecl : (Cond.declares x).before args s = true) (hface : (Cond.interfaceMethod x.cls x.cls x.name x.desc).before args s = true)
    (hsel : (Cond.landsInDefault C x y).before args s = true) (hinst : (Cond.instanceMethod y).before args s = true) (hpub : (Cond.publicMethod y).before args s = true)
    (hcast : (Cond.castable C x.cls).before args s = true) (hcode : (Cond.code y bytes maxL ret).before args s = true) (hx : x.cls ≠ "java/lang/invoke/MethodHandle" ∧ x.cls ≠ "java/lang/invoke/VarHandle")
    {W9 : Nat} {Pre : Pt → Array Value → Prop} {Post : Pt → Array Value → Option Value → Pt → Prop} {PostX : Pt → Array Value → Addr → Pt → Prop} (hK : vx_Back G.1 R p e below s args y 5 W9 Pre Post PostX)
    {b : Addr} {cellB : Cell} {kB : Class} (hcell : T.heap[b]? = some cellB) (hobj : cellB.vm.isStatics = false) (hcls : s.vm.findClass C = some cellB.cls) (hkB : s.vm.classes[cellB.cls]? = some kB)
    {g : JFrame} (hg : g.method = m) (hsize : g.locals.size = c.maxLocals) {argsL rest : List Value} (hlen : ∀ sig, parseMethodDescriptor x.desc = some sig → argsL.length = sig.parameters.length)
    (hstack : g.stack = argsL.reverse ++ .ref b :: rest) (hW : 2 * g.monitorRoom + (rest.map fun v => v.category).sum ≤ W9) (hdg : decode c.code g.pc = .ok (.invokeinterface index count, 5))
    (hpre : ∀ vm₁, s.WarmedH vm₁ → Pre ⟨T.setVm vm₁, locs, cells, slots⟩ (Value.ref b :: argsL).toArray) :
    (∃ (v : Option Value) (vm₁ : Vm) (B : Pt), s.WarmedH vm₁ ∧ Stand p G.1 e R s m args below meth c B.U B.locs B.cells B.slots ∧ Post ⟨T.setVm vm₁, locs, cells, slots⟩ (Value.ref b :: argsL).toArray v B ∧
      ∀ target, Steps p.tables e below (B.U.setTop { g with pc := g.pc + 5, stack := v.toList ++ rest }) target → Steps p.tables e below (T.setTop g) target) ∨
    (∃ (q : Addr) (vm₁ : Vm) (B : Pt), s.WarmedH vm₁ ∧ Stand p G.1 e R s m args below meth c B.U B.locs B.cells B.slots ∧ PostX ⟨T.setVm vm₁, locs, cells, slots⟩ (Value.ref b :: argsL).toArray q B ∧
      Steps p.tables e below (T.setTop g) ((B.U.setTop { g with stack := rest }).pushFrame (.throwing q))) := by
  obtain ⟨r0, r, hn, hrm, hstR, hsigR⟩ := Cond.declares_spec hdecl
  obtain ⟨cL, kL, r1, hcL, hkL, hiL, hfoundL, hn1⟩ := Cond.interfaceMethod_spec hface
  cases hn.symm.trans hn1
  have hr0cls : r0.cls = cL := Option.some.inj ((findClass_of_methodNamed hn).symm.trans hcL)
  obtain ⟨hnameR, hdescR⟩ := name_of_methodNamed hn hrm
  obtain ⟨mk, methM, hnamed, hmethM, -, habM⟩ := Cond.instanceMethod_spec hinst
  obtain ⟨c2, r2, m2, rm, q1, q2, q3, q5, q4, -, q6, -⟩ := Cond.landsInDefault_spec hsel
  cases hcls.symm.trans q1
  cases hfoundL.symm.trans q2
  cases hnamed.symm.trans q3
  cases hrm.symm.trans q5
  have hselP : selectMethod e.platform s.vm cellB.cls r0 = .method mk := by rw [Launch.admits_selectMethod X.admits]; exact q4
  have hpubM : hasFlag methM.accessFlags Acc.public_ = true := Cond.publicMethod_spec hnamed hmethM hpub
  have hway : ((cellB.cls :: s.vm.superclasses cellB.cls).any fun k => (declaredIn s.vm r.name r.desc k).any fun (_, z) => z.isPrivate || z.isStatic) = false := by
    exact q6
  obtain ⟨c3, t3, w1, w2, w3⟩ := Cond.castable_spec hcast
  cases hcls.symm.trans w1
  cases hcL.symm.trans w2
  obtain ⟨vm₁, X₁, hstep₁⟩ := X.invokeinterface hexec hown hlink hn hrm hstR (by rw [hr0cls]; exact hkL) hiL hx (a := b) (cell := cellB) (kcell := kB) hcell
    (fun z h => by rw [h] at hobj; cases hobj) hkB (by rw [hr0cls]; exact w3) hselP hmethM hway hpubM habM (g := g) hg (argsL := argsL) (rest := rest) (hlen _ hsigR) hstack hdg
  rcases hK m meth c ⟨T.setVm vm₁, locs, cells, slots⟩ { g with stack := rest } (.invokeinterface index count) mk (Value.ref b :: argsL).toArray X₁ hg hsize hdg hW (X₁.named hnamed) (hpre vm₁ X₁.warmed) with ⟨v, B, X', hpost, hsteps⟩ | ⟨q, B, X', hpost, hsteps⟩
  · exact Or.inl ⟨v, vm₁, B, X₁.warmed, X', hpost, fun target h => hstep₁ _ fun acts => by rw [doInvoke_state]; exact hsteps.trans h⟩
  · exact Or.inr ⟨q, vm₁, B, X₁.warmed, X', hpost, hstep₁ _ fun acts => by rw [doInvoke_state]; exact hsteps⟩

def wv_faceD (C : String) (x y : MethodName) : Prop := (∀ b0 : Nat, ∀ s : State, (Jvm.Cond.and given_1 narrow_1).before #[Value.ref b0] s = true → (Cond.landsInDefault C x y).before #[Value.ref b0] s = true) ∧ Cond.instanceMethod y ∈ lw_all ∧ Cond.initialized y.cls ∈ lw_all ∧ (∃ b mL rt, Cond.code y b mL rt ∈ lw_all) ∧ wv_ymh y ∧ Cond.declares x ∈ lw_tbl ∧ Cond.interfaceMethod x.cls x.cls x.name x.desc ∈ lw_tbl ∧ Cond.publicMethod y ∈ lw_tbl ∧ Cond.castable C x.cls ∈ lw_tbl
theorem wv_ok.faceD (X : wv_ok G p R s m args meth c fr own cc nL ret nm tb) {C : String} {x y : MethodName} (h : wv_faceD C x y) : (Cond.landsInDefault C x y).before args s = true := by
  obtain ⟨-, -, -, b0, hn, -⟩ := X.hG
  have h1 := h.1 b0 _ hn
  have h2 : (Cond.landsInDefault C x y).before args (G.2.1.setVm s.vm) = true := (Cond.landsInDefault_setVm X.hW.alike (State.methodFound?_setVm X.hW.alike _ _ _)).trans h1
  exact h2
theorem wv_faceAsk : wv_faceD "Weaversgate$NumberedPattern" yX14_isAsked yX14_isAsked := ⟨fun b0 s h => flat_of_before _ h _ (by decide +kernel), q1099, by first | exact q1 | decide +kernel, ⟨_, _, _, q1101⟩, ⟨by decide +kernel, by decide +kernel⟩, q1097, q1096, q1100, by first | exact q1 | decide +kernel⟩
theorem wv_ok.ifaceW (X : wv_ok G p R s m args meth c fr own cc nL ret nm tb) {x : MethodName} (h : Cond.interfaceMethod x.cls x.cls x.name x.desc ∈ lw_tbl) (hd : Cond.declares x ∈ lw_tbl) (hx : wv_ymh x) : (Cond.interfaceMethod x.cls x.cls x.name x.desc).before args s = true := by
  obtain ⟨b0, hb⟩ := X.hG.2.2.1
  obtain ⟨r0, r, hn, -⟩ := Cond.declares_spec (hb _ hd)
  have h2 : (Cond.interfaceMethod x.cls x.cls x.name x.desc).before #[Value.ref b0] (G.2.1.setVm s.vm) = true := (Cond.interfaceMethod_setVm X.hW.alike hn hx).trans (hb _ h)
  exact va_any rfl (show (Cond.interfaceMethod x.cls x.cls x.name x.desc).before #[Value.ref b0] s = true from h2)
theorem wv_ok.pubW (X : wv_ok G p R s m args meth c fr own cc nL ret nm tb) {y : MethodName} (h : Cond.publicMethod y ∈ lw_tbl) : (Cond.publicMethod y).before args s = true := by
  obtain ⟨b0, hb⟩ := X.hG.2.2.1
  have h2 : (Cond.publicMethod y).before #[Value.ref b0] (G.2.1.setVm s.vm) = true := (Cond.publicMethod_setVm X.hW.alike y).trans (hb _ h)
  exact va_any rfl (show (Cond.publicMethod y).before #[Value.ref b0] s = true from h2)
theorem wr_callFD (X : wv_ok G p R s m args meth c fr own cc nL ret nm tb) (S : wv_S G R s w H locs cells slots) {y : MethodName} {index nA fr' kc ks : Nat} {b : Nat} {As st : List Value} {P' : wv_R → wv_H → Prop} (hC : wv_C G y (.ref b :: As) w.1 fr' kc ks P') (hfr : fr' < fr) (hkc : kc ≤ w.2.1) (hks : ks ≤ w.2.2) {C : String} {x : MethodName} {count : Nat} (hb : wv_is G w.1 b C) (hl : Cond.methodLink own index x ∈ lw_all) (hf : wv_faceD C x y) (hxh : wv_ymh x) (hlen : (parseMethodDescriptor x.desc).map (fun d => d.parameters.length) = some nA) (hA : As.length = nA) (hst : st = As.reverse ++ .ref b :: rest) (hW : (rest.map fun v => v.category).sum ≤ 8) (hls : ls.size = nL) (hdg : decode cc pc = .ok (.invokeinterface index count, 5))
    (kk : ∀ (v : Option Value) (h' : wv_H) (H1 : Heap) (locs1 : List Loc) (cells1 slots1 : Nat), P' (.inl v) h' → wv_S G R s (h', w.2.1 - kc, w.2.2 - ks) H1 locs1 cells1 slots1 → W p G.1 e R s m args below meth c H1 locs1 cells1 slots1 Q (F0 m (pc + 5) ls (v.toList ++ rest)))
    (kx : ∀ (E : String) (q : Nat) (h' : wv_H) (H1 : Heap) (locs1 : List Loc) (cells1 slots1 : Nat), P' (.inr (E, q)) h' → wv_S G R s (h', w.2.1 - kc, w.2.2 - ks) H1 locs1 cells1 slots1 → wv_th s H1 E q → vx_W p G.1 e R s m args below meth c H1 locs1 cells1 slots1 Q (F0 m pc ls rest) q) : W p G.1 e R s m args below meth c H locs cells slots Q (F0 m pc ls st) := by
  subst hst
  intro T hT Z
  have g1 := S.2.2.1
  have g2 := S.2.2.2.1
  obtain ⟨hK, cw, bt, mL, rt, hcw, hcb⟩ := hC.back (e := e) (p := p) (R := R) (below := below) (s := s) (sargs := args) (len := 5) (by rw [X.hfr]; exact hfr) (by rw [X.hlo, X.hfr]) X.hts (X.hts _ hf.2.2.1)
  have hpre : ∀ vm₁, s.WarmedH vm₁ → wv_Pre G R kc ks (.ref b :: As) w.1 ⟨T.setVm vm₁, locs, cells, slots⟩ (Value.ref b :: As).toArray := fun vm₁ hW₁ => ⟨show cells + kc ≤ R.cells by omega, show slots + ks ≤ R.slots by omega, rfl, by show wv_Rep G w.1 T.heap; rw [hT]; exact S.1, State.WarmedH.trans X.hW hW₁⟩
  have fin : ((∃ (v : Option Value) (vm₁ : Vm) (B : Pt), s.WarmedH vm₁ ∧ Stand p G.1 e R s m args below meth c B.U B.locs B.cells B.slots ∧ wv_Post G P' kc ks ⟨T.setVm vm₁, locs, cells, slots⟩ (Value.ref b :: As).toArray v B ∧
      ∀ target, Steps p.tables e below (B.U.setTop { (F0 m pc ls (As.reverse ++ .ref b :: rest)) with pc := pc + 5, stack := v.toList ++ rest }) target → Steps p.tables e below (T.setTop (F0 m pc ls (As.reverse ++ .ref b :: rest))) target) ∨
    (∃ (q : Addr) (vm₁ : Vm) (B : Pt), s.WarmedH vm₁ ∧ Stand p G.1 e R s m args below meth c B.U B.locs B.cells B.slots ∧ wv_PostX G P' kc ks ⟨T.setVm vm₁, locs, cells, slots⟩ (Value.ref b :: As).toArray q B ∧
      Steps p.tables e below (T.setTop (F0 m pc ls (As.reverse ++ .ref b :: rest))) ((B.U.setTop { (F0 m pc ls (As.reverse ++ .ref b :: rest)) with stack := rest }).pushFrame (.throwing q)))) → ∃ t, Steps p.tables e below (T.setTop (F0 m pc ls (As.reverse ++ .ref b :: rest))) t ∧ Q t := by
    rintro (⟨v, vm₁, ⟨U', l2, c2, s2⟩, hW₁, X', ⟨h', hP', hRep', L, e1, hL, e2, e3⟩, st⟩ | ⟨q, vm₁, ⟨U', l2, c2, s2⟩, hW₁, X', ⟨h', E, ce, hP', hRep', hce, hcv, hcl, L, e1, hL, e2, e3⟩, st⟩)
    · dsimp only [Pt.U, Pt.locs, Pt.cells, Pt.slots] at X' e1 e2 e3 st hRep'
      subst e1; subst e2; subst e3
      obtain ⟨t, a1, b1⟩ := kk v h' U'.heap (locs ++ L) (cells + kc) (slots + ks) hP' ⟨hRep', wv_locs S.2.1 hL, by show cells + kc + (w.2.1 - kc) = _; omega, by show slots + ks + (w.2.2 - ks) = _; omega, X'.same.2.1⟩ U' rfl X'
      exact ⟨t, st t a1, b1⟩
    · dsimp only [Pt.U, Pt.locs, Pt.cells, Pt.slots] at X' e1 e2 e3 st hRep' hce hcl
      subst e1; subst e2; subst e3
      obtain ⟨t, a1, b1⟩ := kx E q h' U'.heap (locs ++ L) (cells + kc) (slots + ks) hP' ⟨hRep', wv_locs S.2.1 hL, by show cells + kc + (w.2.1 - kc) = _; omega, by show slots + ks + (w.2.2 - ks) = _; omega, X'.same.2.1⟩ ⟨ce, hce, hcv, vx_cls hW₁ hcl⟩ U' rfl X'
      exact ⟨t, st.trans a1, b1⟩
  have hsel := X.faceD hf
  obtain ⟨b9, mL9, rt9, hcode9⟩ := hf.2.2.2.1
  obtain ⟨cellB, hcB, hoB, hclB⟩ := hb.cell X S.1
  obtain ⟨kB, hkB, -⟩ := Vm.findClass_spec hclB
  obtain ⟨b0, hb0⟩ := X.hG.2.2.1
  have hFw : va_Nw (.declares x) s := va_Nw.warmD X.hW (va_Nw.of rfl (hb0 _ hf.2.2.2.2.2.1))
  exact fin (wv_callIFD Z X.hx X.hown (X.hts _ hl) (va_Nw.use rfl hFw) (X.ifaceW hf.2.2.2.2.2.2.1 hf.2.2.2.2.2.1 hxh) hsel (X.hts _ hf.2.1) (X.pubW hf.2.2.2.2.2.2.2.1) (va_Nw.use rfl (X.cast hf.2.2.2.2.2.2.2.2)) (X.hts _ hcode9) hxh hK (by rw [hT]; exact hcB) hoB hclB hkB (g := F0 m pc ls (As.reverse ++ .ref b :: rest)) rfl (by rw [X.hml]; exact hls) (argsL := As) (rest := rest) (wv_len hlen hA) rfl (lv_room hW) (by rw [X.hb]; exact hdg) hpre)

def wv_up9 (C : String) (x y : MethodName) : Prop := Cond.selects C x y ∈ lw_all ∧ Cond.instanceMethod y ∈ lw_all ∧ Cond.initialized y.cls ∈ lw_all ∧ (∃ b mL rt, Cond.code y b mL rt ∈ lw_all) ∧ wv_ymh y ∧ Cond.declares x ∈ lw_tbl ∧ Cond.sameMethod x.cls x.cls x.name x.desc ∈ lw_all
theorem wr_callVU (X : wv_ok G p R s m args meth c fr own cc nL ret nm tb) (S : wv_S G R s w H locs cells slots) {y : MethodName} {index nA fr' kc ks : Nat} {b : Nat} {As st : List Value} {P' : wv_R → wv_H → Prop} (hC : wv_C G y (.ref b :: As) w.1 fr' kc ks P') (hfr : fr' < fr) (hkc : kc ≤ w.2.1) (hks : ks ≤ w.2.2) {C : String} {x : MethodName} (hb : wv_is G w.1 b C) (hl : Cond.methodLink own index x ∈ lw_all) (hf : wv_up9 C x y) (hxh : wv_ymh x) (hlen : (parseMethodDescriptor x.desc).map (fun d => d.parameters.length) = some nA) (hA : As.length = nA) (hst : st = As.reverse ++ .ref b :: rest) (hW : (rest.map fun v => v.category).sum ≤ 8) (hls : ls.size = nL) (hdg : decode cc pc = .ok (.invokevirtual index, 3))
    (kk : ∀ (v : Option Value) (h' : wv_H) (H1 : Heap) (locs1 : List Loc) (cells1 slots1 : Nat), P' (.inl v) h' → wv_S G R s (h', w.2.1 - kc, w.2.2 - ks) H1 locs1 cells1 slots1 → W p G.1 e R s m args below meth c H1 locs1 cells1 slots1 Q (F0 m (pc + 3) ls (v.toList ++ rest)))
    (kx : ∀ (E : String) (q : Nat) (h' : wv_H) (H1 : Heap) (locs1 : List Loc) (cells1 slots1 : Nat), P' (.inr (E, q)) h' → wv_S G R s (h', w.2.1 - kc, w.2.2 - ks) H1 locs1 cells1 slots1 → wv_th s H1 E q → vx_W p G.1 e R s m args below meth c H1 locs1 cells1 slots1 Q (F0 m pc ls rest) q) : W p G.1 e R s m args below meth c H locs cells slots Q (F0 m pc ls st) := by
  subst hst
  intro T hT Z
  have g1 := S.2.2.1
  have g2 := S.2.2.2.1
  obtain ⟨hK, cw, bt, mL, rt, hcw, hcb⟩ := hC.back (e := e) (p := p) (R := R) (below := below) (s := s) (sargs := args) (len := 3) (by rw [X.hfr]; exact hfr) (by rw [X.hlo, X.hfr]) X.hts (X.hts _ hf.2.2.1)
  have hpre : ∀ vm₁, s.WarmedH vm₁ → wv_Pre G R kc ks (.ref b :: As) w.1 ⟨T.setVm vm₁, locs, cells, slots⟩ (Value.ref b :: As).toArray := fun vm₁ hW₁ => ⟨show cells + kc ≤ R.cells by omega, show slots + ks ≤ R.slots by omega, rfl, by show wv_Rep G w.1 T.heap; rw [hT]; exact S.1, State.WarmedH.trans X.hW hW₁⟩
  have fin : ((∃ (v : Option Value) (vm₁ : Vm) (B : Pt), s.WarmedH vm₁ ∧ Stand p G.1 e R s m args below meth c B.U B.locs B.cells B.slots ∧ wv_Post G P' kc ks ⟨T.setVm vm₁, locs, cells, slots⟩ (Value.ref b :: As).toArray v B ∧
      ∀ target, Steps p.tables e below (B.U.setTop { (F0 m pc ls (As.reverse ++ .ref b :: rest)) with pc := pc + 3, stack := v.toList ++ rest }) target → Steps p.tables e below (T.setTop (F0 m pc ls (As.reverse ++ .ref b :: rest))) target) ∨
    (∃ (q : Addr) (vm₁ : Vm) (B : Pt), s.WarmedH vm₁ ∧ Stand p G.1 e R s m args below meth c B.U B.locs B.cells B.slots ∧ wv_PostX G P' kc ks ⟨T.setVm vm₁, locs, cells, slots⟩ (Value.ref b :: As).toArray q B ∧
      Steps p.tables e below (T.setTop (F0 m pc ls (As.reverse ++ .ref b :: rest))) ((B.U.setTop { (F0 m pc ls (As.reverse ++ .ref b :: rest)) with stack := rest }).pushFrame (.throwing q)))) → ∃ t, Steps p.tables e below (T.setTop (F0 m pc ls (As.reverse ++ .ref b :: rest))) t ∧ Q t := by
    rintro (⟨v, vm₁, ⟨U', l2, c2, s2⟩, hW₁, X', ⟨h', hP', hRep', L, e1, hL, e2, e3⟩, st⟩ | ⟨q, vm₁, ⟨U', l2, c2, s2⟩, hW₁, X', ⟨h', E, ce, hP', hRep', hce, hcv, hcl, L, e1, hL, e2, e3⟩, st⟩)
    · dsimp only [Pt.U, Pt.locs, Pt.cells, Pt.slots] at X' e1 e2 e3 st hRep'
      subst e1; subst e2; subst e3
      obtain ⟨t, a1, b1⟩ := kk v h' U'.heap (locs ++ L) (cells + kc) (slots + ks) hP' ⟨hRep', wv_locs S.2.1 hL, by show cells + kc + (w.2.1 - kc) = _; omega, by show slots + ks + (w.2.2 - ks) = _; omega, X'.same.2.1⟩ U' rfl X'
      exact ⟨t, st t a1, b1⟩
    · dsimp only [Pt.U, Pt.locs, Pt.cells, Pt.slots] at X' e1 e2 e3 st hRep' hce hcl
      subst e1; subst e2; subst e3
      obtain ⟨t, a1, b1⟩ := kx E q h' U'.heap (locs ++ L) (cells + kc) (slots + ks) hP' ⟨hRep', wv_locs S.2.1 hL, by show cells + kc + (w.2.1 - kc) = _; omega, by show slots + ks + (w.2.2 - ks) = _; omega, X'.same.2.1⟩ ⟨ce, hce, hcv, vx_cls hW₁ hcl⟩ U' rfl X'
      exact ⟨t, st.trans a1, b1⟩
  obtain ⟨b9, mL9, rt9, hcode9⟩ := hf.2.2.2.1
  obtain ⟨cellB, hcB, hoB, hclB⟩ := hb.cell X S.1
  obtain ⟨b0, hb0⟩ := X.hG.2.2.1
  have hFw : va_Nw (.declares ⟨x.cls, x.name, x.desc⟩) s := va_Nw.warmD X.hW (va_Nw.of rfl (hb0 _ hf.2.2.2.2.2.1))
  exact fin (vx_callVU Z X.hx (C := C) (owner := x.cls) (bytes := b9) (maxL := mL9) (ret := rt9) X.hown (X.hts _ hl) (X.hts _ hf.2.2.2.2.2.2) (va_Decl.abs hFw) hxh (X.hts _ hf.1) (X.hts _ hf.2.1) (X.hts _ hcode9) hK (by rw [hT]; exact hcB) hoB hclB (g := F0 m pc ls (As.reverse ++ .ref b :: rest)) rfl (by rw [X.hml]; exact hls) (argsL := As) (rest := rest) (wv_len hlen hA) rfl (lv_room hW) (by rw [X.hb]; exact hdg) hpre)

def wv_cFD (G : wv_G) (fr : Nat) (x : MethodName) (r : Option Nat) (As : List Value) (w : wv_W) (K : wv_R → wv_W → Prop) : Prop := ∃ (b : Nat) (C : String) (y : MethodName), r = some b ∧ wv_is G w.1 b C ∧ wv_faceD C x y ∧ wv_c0 G fr y (.ref b :: As) w K
def wv_cU (G : wv_G) (fr : Nat) (x : MethodName) (r : Option Nat) (As : List Value) (w : wv_W) (K : wv_R → wv_W → Prop) : Prop := ∃ (b : Nat) (C : String) (y : MethodName), r = some b ∧ wv_is G w.1 b C ∧ wv_up9 C x y ∧ wv_c0 G fr y (.ref b :: As) w K
theorem wq_cFD_I (X : wv_ok G p R s m args meth c fr own cc nL ret nm tb) (S : wv_S G R s w H locs cells slots) {x : MethodName} {index nA : Nat} {r : Option Nat} {As st : List Value} {K : Int32 → wv_W → Prop} {KX : String → Nat → wv_W → Prop} (hv : wv_cFD G fr x r As w (wv_rI K KX)) {count : Nat} (hl : Cond.methodLink own index x ∈ lw_all) (hy : wv_ymh x) (hlen : (parseMethodDescriptor x.desc).map (fun d => d.parameters.length) = some nA) (hA : As.length = nA) (hst : st = As.reverse ++ va_rf r :: rest) (hW : (rest.map fun v => v.category).sum ≤ 8) (hls : ls.size = nL) (hdg : decode cc pc = .ok (.invokeinterface index count, 5))
    (kk : ∀ (x : Int32) (w1 : wv_W) (H1 : Heap) (locs1 : List Loc) (cells1 slots1 : Nat), wv_S G R s w1 H1 locs1 cells1 slots1 → K x w1 → W p G.1 e R s m args below meth c H1 locs1 cells1 slots1 Q (F0 m (pc + 5) ls (.int x :: rest)))
    (kx : ∀ (E : String) (q : Nat) (w1 : wv_W) (H1 : Heap) (locs1 : List Loc) (cells1 slots1 : Nat), wv_S G R s w1 H1 locs1 cells1 slots1 → KX E q w1 → wv_th s H1 E q → vx_W p G.1 e R s m args below meth c H1 locs1 cells1 slots1 Q (F0 m pc ls rest) q) : W p G.1 e R s m args below meth c H locs cells slots Q (F0 m pc ls st) := by
  obtain ⟨b, C9, y9, rfl, hb, hf, fr9, kc, ks, P9, hC, h1, h2, h3, h4⟩ := hv
  refine wr_callFD X S hC h1 h2 h3 hb hl hf hy hlen hA hst hW hls hdg ?_ ?_
  · intro v h' H1 locs1 c1 s1 hP' S1
    rcases h4 _ _ hP' with ⟨z, hz, hK⟩ | ⟨E, q, hz, hK⟩
    · cases hz
      exact kk z _ H1 locs1 c1 s1 S1 hK
    · cases hz
  · intro E q h' H1 locs1 c1 s1 hP' S1 hth
    rcases h4 _ _ hP' with ⟨z, hz, hK⟩ | ⟨E9, q9, hz, hK⟩
    · cases hz
    · cases hz
      exact kx E q _ H1 locs1 c1 s1 S1 hK hth

theorem wq_cU_I (X : wv_ok G p R s m args meth c fr own cc nL ret nm tb) (S : wv_S G R s w H locs cells slots) {x : MethodName} {index nA : Nat} {r : Option Nat} {As st : List Value} {K : Int32 → wv_W → Prop} {KX : String → Nat → wv_W → Prop} (hv : wv_cU G fr x r As w (wv_rI K KX)) (hl : Cond.methodLink own index x ∈ lw_all) (hy : wv_ymh x) (hlen : (parseMethodDescriptor x.desc).map (fun d => d.parameters.length) = some nA) (hA : As.length = nA) (hst : st = As.reverse ++ va_rf r :: rest) (hW : (rest.map fun v => v.category).sum ≤ 8) (hls : ls.size = nL) (hdg : decode cc pc = .ok (.invokevirtual index, 3))
    (kk : ∀ (x : Int32) (w1 : wv_W) (H1 : Heap) (locs1 : List Loc) (cells1 slots1 : Nat), wv_S G R s w1 H1 locs1 cells1 slots1 → K x w1 → W p G.1 e R s m args below meth c H1 locs1 cells1 slots1 Q (F0 m (pc + 3) ls (.int x :: rest)))
    (kx : ∀ (E : String) (q : Nat) (w1 : wv_W) (H1 : Heap) (locs1 : List Loc) (cells1 slots1 : Nat), wv_S G R s w1 H1 locs1 cells1 slots1 → KX E q w1 → wv_th s H1 E q → vx_W p G.1 e R s m args below meth c H1 locs1 cells1 slots1 Q (F0 m pc ls rest) q) : W p G.1 e R s m args below meth c H locs cells slots Q (F0 m pc ls st) := by
  obtain ⟨b, C9, y9, rfl, hb, hf, fr9, kc, ks, P9, hC, h1, h2, h3, h4⟩ := hv
  refine wr_callVU X S hC h1 h2 h3 hb hl hf hy hlen hA hst hW hls hdg ?_ ?_
  · intro v h' H1 locs1 c1 s1 hP' S1
    rcases h4 _ _ hP' with ⟨z, hz, hK⟩ | ⟨E, q, hz, hK⟩
    · cases hz
      exact kk z _ H1 locs1 c1 s1 S1 hK
    · cases hz
  · intro E q h' H1 locs1 c1 s1 hP' S1 hth
    rcases h4 _ _ hP' with ⟨z, hz, hK⟩ | ⟨E9, q9, hz, hK⟩
    · cases hz
    · cases hz
      exact kx E q _ H1 locs1 c1 s1 S1 hK hth

end WV14
