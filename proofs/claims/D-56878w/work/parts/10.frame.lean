def wv_ty (G : Launch × State × va_G × (Nat → ClassId) × (Nat → Nat)) : List (ClassId × FieldType) := [(G.2.2.2.1 0, .int), (G.2.2.2.1 1, .char), (G.2.2.2.1 2, .boolean), (G.2.2.2.1 3, .long), (G.2.2.2.1 4, .double), (G.2.2.2.1 5, .object "java/lang/Object"), (G.2.2.2.1 6, .object "Weaversgate$Advice"), (G.2.2.2.1 7, .object "WeaversgateModel$Body"), (G.2.2.2.1 8, .array .boolean), (G.2.2.2.1 9, .byte)]
/-- the places of the String constants: class, entry -/
def wv_str : List (String × Nat) := [("Weaversgate$Step", 20), ("Weaversgate$Step", 22), ("Weaversgate$Step", 24), ("Weaversgate$Step", 26), ("Weaversgate$Step", 28), ("Weaversgate$Step", 30), ("Weaversgate$Step", 32), ("Weaversgate$Run", 209), ("Weaversgate$Run", 214), ("Weaversgate$Run", 215), ("Weaversgate$Run", 217), ("Weaversgate$Run", 218), ("Weaversgate$Run", 220), ("WeaversgateModel", 133), ("WeaversgateModel", 120), ("WeaversgateModel", 126), ("WeaversgateModel", 131), ("WeaversgateModel", 145), ("WeaversgateModel", 193)]
/-- the constants' terms: 0: the empty array of lists; 1: the cache of Integers; 2: Object[]'s mirror; 100 ..: the cache's boxes; 400 ..: Strings; 450 ..: their bytes -/
def wv_tm (k : Nat) : Option Term :=
  if k = 0 then some (.static "java/util/ArrayList" "DEFAULTCAPACITY_EMPTY_ELEMENTDATA" "[Ljava/lang/Object;")
  else if k = 1 then some (.static "java/lang/Integer$IntegerCache" "cache" "[Ljava/lang/Integer;")
  else if k = 2 then some (.mirror "[Ljava/lang/Object;")
  else if 100 ≤ k ∧ k < 356 then some (.elem (.static "java/lang/Integer$IntegerCache" "cache" "[Ljava/lang/Integer;") (.int (Int32.ofNat (k - 100))))
  else if 400 ≤ k ∧ k < 450 then (wv_str[k - 400]?).map (fun q => .string q.1 q.2)
  else if 450 ≤ k ∧ k < 500 then (wv_str[k - 450]?).map (fun q => .field (.string q.1 q.2) "java/lang/String" "value" "[B")
  else none
/-- what the Statement gives of the start, beside the tables; the constants by their terms -/
def wv_G1 (G : Launch × State × va_G × (Nat → ClassId) × (Nat → Nat)) : Prop := ∃ b0 : Nat, (Jvm.Cond.and given_1 narrow_1).before #[Value.ref b0] G.2.1 = true ∧ ∀ (k : Nat) (tm : Term), wv_tm k = some tm → tm.eval #[Value.ref b0] G.2.1 none [] G.2.1 = some (.ref (G.2.2.2.2 k))
/-! FRAME 1: worlds (own work): an abstract heap, contracts over it, calls -/
section WV1
/-- a mark (ghost): .1 = 0 for a cell that is never written -/
abbrev wv_T : Type := Nat × Nat × Nat × Nat
/-- an object or an array as the kit has it; or an ArrayList as ONE thing: modCount, capacity, elements; or a lambda's object -/
abbrev wv_O : Type := va_E ⊕ ((Int32 × Nat × List Nat) ⊕ (Nat × List Value))
abbrev wo_L (md : Int32) (cap : Nat) (xs : List Nat) : wv_O := .inr (.inl (md, cap, xs))
/-- an object of the class that stands for the j-th lambda, with what it captured -/
abbrev wo_M (j : Nat) (vs : List Value) : wv_O := .inr (.inr (j, vs))
abbrev wv_H : Type := Nat → Option (wv_T × wv_O)
/-- what a call comes to: an answer, or a throw (class, object) -/
abbrev wv_R : Type := Option Value ⊕ (String × Nat)
/-- the launch, the state at the law's start, class numbers and slots, array classes, addresses of constants -/
abbrev wv_G : Type := Launch × State × va_G × (Nat → ClassId) × (Nat → Nat)
abbrev wv_W : Type := wv_H × Nat × Nat
def wv_b (G : wv_G) : Nat := G.2.1.heap.size
def wv_up (h : wv_H) (a : Nat) (x : wv_T × wv_O) : wv_H := fun b => if b = a then some x else h b
theorem wv_up_self {h : wv_H} {a : Nat} {x : wv_T × wv_O} : wv_up h a x a = some x := if_pos rfl
theorem wv_up_ne {h : wv_H} {a b : Nat} {x : wv_T × wv_O} (hn : b ≠ a) : wv_up h a x b = h b := if_neg hn
def wv_del (h : wv_H) (a : Nat) : wv_H := fun b => if b = a then none else h b
theorem wv_del_ne {h : wv_H} {a b : Nat} (hn : b ≠ a) : wv_del h a b = h b := if_neg hn
theorem wv_del_self {h : wv_H} {a : Nat} : wv_del h a a = none := if_pos rfl
/-- an ArrayList's own cell, and its array's -/
def wv_lst (G : wv_G) (arr : Nat) (H : Heap) (a : Nat) (md : Int32) (cap : Nat) (xs : List Nat) : Prop :=
  va_at G.2.2.1 wv_cl (a, .inr (ciJ2, [.int md, .ref arr, .int (nI xs.length)])) H ∧ xs.length ≤ cap ∧ cap ≤ 100000 ∧ (cap = 0 → arr = G.2.2.2.2 0 ∧ arr < wv_b G) ∧
  (cap ≠ 0 → wv_b G ≤ arr ∧ ∃ f : Nat → Option Nat, va_at G.2.2.1 wv_cl (arr, .inl (G.2.2.2.1 5, cap, .inr (.inr (.inr (.inr f))))) H ∧ ∀ (i x : Nat), xs[i]? = some x → f i = some x)
/-- the sites of lambdas -/
def wv_site (j : Nat) : Cond := [siteWord_1_1, siteWord_1_2, siteWord_1_3, siteWord_1_4, siteWord_1_5, siteWord_1_6].getD j .tt
/-- a site's class, and its one object if it captures nothing -/
def wv_lat (G : wv_G) (j : Nat) : Option (ClassId × Option Addr) := match wv_site j with
  | .lambdaSite x pc i sh => G.2.1.lambdaAt? x pc i sh
  | _ => none
def wv_lcls (G : wv_G) (j : Nat) : ClassId := ((wv_lat G j).map (fun q => q.1)).getD 0
def wv_lone (G : wv_G) (j : Nat) : Addr := ((wv_lat G j).bind (fun q => q.2)).getD 0
def wv_lam (G : wv_G) (H : Heap) (a : Nat) (j : Nat) (vs : List Value) : Prop := H[a]? = some { cls := wv_lcls G j, slots := vs.toArray, vm := .none }
def wv_R1 (G : wv_G) (own : Nat → Nat) (H : Heap) (a : Nat) (o : wv_O) : Prop := match o with
  | .inl e => va_at G.2.2.1 wv_cl (a, e) H
  | .inr (.inl l) => wv_lst G (own a) H a l.1 l.2.1 l.2.2
  | .inr (.inr q) => wv_lam G H a q.1 q.2
/-- nobody holds its monitor -/
def wv_free (H : Heap) (a : Nat) : Prop := ∀ cell : Cell, H[a]? = some cell → cell.monitor.owner = none ∧ cell.monitor.count = 0
theorem wv_free.kept {H H1 : Heap} {a : Nat} (h : wv_free H a) (hq : H1[a]? = H[a]?) : wv_free H1 a := fun cell hc => h cell (by rw [← hq]; exact hc)
theorem wv_free.set {H H1 : Heap} {a i : Nat} {cell : Cell} {v : Value} (h : wv_free H a) (h0 : H[a]? = some cell) (h1 : H1[a]? = some (cell.setSlot i v)) : wv_free H1 a := by
  intro c2 hc
  cases h1.symm.trans hc
  exact h cell h0
theorem wv_free.cell {H1 : Heap} {a : Nat} {cA : ClassId} {x : vp_A} (h1 : H1[a]? = some (vp_cell cA x)) : wv_free H1 a := by
  intro c2 hc
  cases h1.symm.trans hc
  obtain ⟨n, x⟩ := x
  rcases x with f | f | f | f | f <;> exact ⟨rfl, rfl⟩
theorem wv_free.blank {H1 : Heap} {a : Nat} {cC : ClassId} {kC : Class} (h1 : H1[a]? = some (blank cC kC)) : wv_free H1 a := by
  intro c2 hc
  cases h1.symm.trans hc
  exact ⟨rfl, rfl⟩
def wv_Rep (G : wv_G) (h : wv_H) (H : Heap) : Prop :=
  wv_b G ≤ H.size ∧ (∀ a : Nat, a < wv_b G → H[a]? = G.2.1.heap[a]?) ∧ ∃ own : Nat → Nat,
    (∀ (a : Nat) (t : wv_T) (o : wv_O), h a = some (t, o) → (t.1 ≠ 0 → wv_b G ≤ a ∧ wv_free H a) ∧ wv_R1 G own H a o) ∧
    (∀ (a : Nat) (t : wv_T) (l : Int32 × Nat × List Nat), h a = some (t, .inr (.inl l)) → t.1 ≠ 0 ∧ (l.2.1 ≠ 0 → h (own a) = none)) ∧
    (∀ (a b : Nat) (t t' : wv_T) (l l' : Int32 × Nat × List Nat), h a = some (t, .inr (.inl l)) → h b = some (t', .inr (.inl l')) → l.2.1 ≠ 0 → own a = own b → a = b)
theorem wv_Rep.at {G : wv_G} {h : wv_H} {H : Heap} (hR : wv_Rep G h H) {a : Nat} {t : wv_T} {e : va_E} (ha : h a = some (t, .inl e)) : va_at G.2.2.1 wv_cl (a, e) H := by
  obtain ⟨-, -, own, h1, -⟩ := hR
  exact (h1 a t _ ha).2
theorem wv_Rep.low {G : wv_G} {h : wv_H} {H : Heap} (hR : wv_Rep G h H) {a : Nat} {t : wv_T} {o : wv_O} (ha : h a = some (t, o)) (ht : t.1 ≠ 0) : wv_b G ≤ a := by
  obtain ⟨-, -, own, h1, -⟩ := hR
  exact ((h1 a t _ ha).1 ht).1
theorem wv_Rep.free {G : wv_G} {h : wv_H} {H : Heap} (hR : wv_Rep G h H) {a : Nat} {t : wv_T} {o : wv_O} (ha : h a = some (t, o)) (ht : t.1 ≠ 0) : wv_free H a := by
  obtain ⟨-, -, own, h1, -⟩ := hR
  exact ((h1 a t _ ha).1 ht).2
theorem wv_Rep.lt {G : wv_G} {h : wv_H} {H : Heap} (hR : wv_Rep G h H) {a : Nat} {t : wv_T} {o : wv_O} (ha : h a = some (t, o)) : a < H.size := by
  obtain ⟨-, -, own, h1, -⟩ := hR
  have h2 := (h1 a t _ ha).2
  rcases o with e | l | q
  · exact va_at.lt h2
  · exact va_at.lt h2.1
  · exact (Array.getElem?_eq_some_iff.mp (show H[a]? = some _ from h2)).1
theorem wv_Rep.fresh {G : wv_G} {h : wv_H} {H : Heap} (hR : wv_Rep G h H) : h H.size = none := by
  cases hc : h H.size with
  | none => rfl
  | some x => exact absurd (hR.lt (t := x.1) (o := x.2) hc) (Nat.lt_irrefl _)
theorem wv_lst.kept {G : wv_G} {arr : Nat} {H H1 : Heap} {a : Nat} {md : Int32} {cap : Nat} {xs : List Nat} (h : wv_lst G arr H a md cap xs) (h1 : H1[a]? = H[a]?) (h2 : H1[arr]? = H[arr]?) : wv_lst G arr H1 a md cap xs := by
  obtain ⟨g1, g2, g3, g4, g5⟩ := h
  refine ⟨va_at.kept g1 h1, g2, g3, g4, fun hz => ?_⟩
  obtain ⟨g6, f, g7, g8⟩ := g5 hz
  exact ⟨g6, f, va_at.kept g7 h2, g8⟩
theorem wv_lst.alt {G : wv_G} {arr : Nat} {H : Heap} {a : Nat} {md : Int32} {cap : Nat} {xs : List Nat} (hb : wv_b G ≤ H.size) (h : wv_lst G arr H a md cap xs) : arr < H.size := by
  obtain ⟨g1, g2, g3, g4, g5⟩ := h
  by_cases hz : cap = 0
  · have := (g4 hz).2
    omega
  · obtain ⟨g6, f, g7, g8⟩ := g5 hz
    exact va_at.lt g7
/-- one written cell -/
theorem wv_Rep.put {G : wv_G} {h : wv_H} {H H1 : Heap} (hR : wv_Rep G h H) {a : Nat} {t t' : wv_T} {e e' : va_E} (ha : h a = some (t, .inl e)) (ht : t.1 ≠ 0) (ht' : t'.1 ≠ 0) (he : va_at G.2.2.1 wv_cl (a, e') H1) (hf : wv_free H1 a) (hs : H1.size = H.size) (ho : ∀ q : Nat, q ≠ a → H1[q]? = H[q]?) : wv_Rep G (wv_up h a (t', .inl e')) H1 := by
  have hl := hR.low ha ht
  obtain ⟨h1, h2, own, h3, h4, h5⟩ := hR
  have hne : ∀ {b : Nat} {x : wv_T} {l : Int32 × Nat × List Nat}, wv_up h a (t', .inl e') b = some (x, .inr (.inl l)) → b ≠ a ∧ h b = some (x, .inr (.inl l)) := by
    intro b x l hb
    by_cases hba : b = a
    · subst hba
      rw [wv_up_self] at hb
      cases hb
    · rw [wv_up_ne hba] at hb
      exact ⟨hba, hb⟩
  refine ⟨by rw [hs]; exact h1, fun q hq => ?_, own, ?_, ?_, ?_⟩
  · rw [ho q (by omega)]
    exact h2 q hq
  · intro b x o hb
    by_cases hba : b = a
    · subst hba
      rw [wv_up_self] at hb
      cases hb
      exact ⟨fun _ => ⟨hl, hf⟩, he⟩
    · rw [wv_up_ne hba] at hb
      obtain ⟨g1, g2⟩ := h3 b x o hb
      refine ⟨fun h9 => ⟨(g1 h9).1, (g1 h9).2.kept (ho b hba)⟩, ?_⟩
      rcases o with e2 | l | q
      · exact va_at.kept g2 (ho b hba)
      · have hoa : own b ≠ a := by
          intro hq
          by_cases hz : l.2.1 = 0
          · have h9 := (g2.2.2.2.1 hz).2
            omega
          · have := (h4 b x l hb).2 hz
            rw [hq, ha] at this
            cases this
        exact wv_lst.kept g2 (ho b hba) (ho _ hoa)
      · exact (ho b hba).trans g2
  · intro b x l hb
    obtain ⟨hba, hb'⟩ := hne hb
    obtain ⟨g1, g2⟩ := h4 b x l hb'
    refine ⟨g1, fun hz => ?_⟩
    have g2 := g2 hz
    have hoa : own b ≠ a := by
      intro hq
      rw [hq, ha] at g2
      cases g2
    rw [wv_up_ne hoa]
    exact g2
  · intro b c x x' l l' hb hc hz hq
    exact h5 b c x x' l l' (hne hb).2 (hne hc).2 hz hq
/-- one new cell -/
theorem wv_Rep.new {G : wv_G} {h : wv_H} {H H1 : Heap} (hR : wv_Rep G h H) {t : wv_T} {e : va_E} (he : va_at G.2.2.1 wv_cl (H.size, e) H1) (hf : wv_free H1 H.size) (hs : H1.size = H.size + 1) (ho : ∀ q : Nat, q < H.size → H1[q]? = H[q]?) : wv_Rep G (wv_up h H.size (t, .inl e)) H1 := by
  have hlt := fun {a : Nat} {t : wv_T} {o : wv_O} (ha : h a = some (t, o)) => hR.lt ha
  obtain ⟨h1, h2, own, h3, h4, h5⟩ := hR
  have hne : ∀ {b : Nat} {x : wv_T} {l : Int32 × Nat × List Nat}, wv_up h H.size (t, .inl e) b = some (x, .inr (.inl l)) → b ≠ H.size ∧ h b = some (x, .inr (.inl l)) := by
    intro b x l hb
    by_cases hba : b = H.size
    · subst hba
      rw [wv_up_self] at hb
      cases hb
    · rw [wv_up_ne hba] at hb
      exact ⟨hba, hb⟩
  refine ⟨by omega, fun q hq => ?_, own, ?_, ?_, ?_⟩
  · rw [ho q (by omega)]
    exact h2 q hq
  · intro b x o hb
    by_cases hba : b = H.size
    · subst hba
      rw [wv_up_self] at hb
      cases hb
      exact ⟨fun _ => ⟨h1, hf⟩, he⟩
    · rw [wv_up_ne hba] at hb
      obtain ⟨g1, g2⟩ := h3 b x o hb
      have hbl := hlt hb
      refine ⟨fun h9 => ⟨(g1 h9).1, (g1 h9).2.kept (ho b hbl)⟩, ?_⟩
      rcases o with e2 | l | q
      · exact va_at.kept g2 (ho b hbl)
      · exact wv_lst.kept g2 (ho b hbl) (ho _ (wv_lst.alt h1 g2))
      · exact (ho b hbl).trans g2
  · intro b x l hb
    obtain ⟨hba, hb'⟩ := hne hb
    obtain ⟨g1, g2⟩ := h4 b x l hb'
    refine ⟨g1, fun hz => ?_⟩
    have hoa : own b ≠ H.size := by
      have := wv_lst.alt h1 (h3 b x _ hb').2
      omega
    rw [wv_up_ne hoa]
    exact g2 hz
  · intro b c x x' l l' hb hc hz hq
    exact h5 b c x x' l l' (hne hb).2 (hne hc).2 hz hq
/-- a method's state: the heap is a picture of h; the tables are the law's start's, warmed -/
def wv_U (G : wv_G) (h : wv_H) (U : State) : Prop := wv_Rep G h U.heap ∧ G.2.1.WarmedH U.vm
def wv_Q (G : wv_G) (P : wv_R → wv_H → Prop) (kc ks : Nat) (st : State) (o : Outcome) (t : State) : Prop :=
  (∃ (v : Option Value) (h' : wv_H), o = .returned v ∧ P (.inl v) h' ∧ wv_Rep G h' t.heap ∧ ∃ L : List Loc, FrameEnd st o t L kc ks ∧ ∀ q ∈ L, wv_b G ≤ q.base) ∨
  (∃ (q : Addr) (h' : wv_H) (E : String) (ce : Cell) (L : List Loc), o = .threw q ∧ P (.inr (E, q)) h' ∧ wv_Rep G h' t.heap ∧ t.heap[q]? = some ce ∧ ce.vm = .none ∧ st.vm.findClass E = some ce.cls ∧ st.WarmedH t.vm ∧ st.sameButNew ({ t with vm := st.vm } : State) L kc ks ∧ ∀ z ∈ L, wv_b G ≤ z.base)
def wv_rm (fr kc ks : Nat) : Room := { frames := fr, cells := kc, slots := ks, locals := 64 * fr }
/-- THE CONTRACT: method y, called with av in the world h, with fr frames, kc cells and ks slots to spare, comes to P -/
def wv_C (G : wv_G) (y : MethodName) (av : List Value) (h : wv_H) (fr kc ks : Nat) (P : wv_R → wv_H → Prop) : Prop :=
  ∃ (cw : Cond) (b : ByteArray) (mL : Nat) (ret : Option FieldType), mL ≤ 40 ∧ (cw = .code y b mL ret ∨ ∃ hh, cw = .codeWith y b mL ret hh) ∧ cw ∈ lw_all ∧
    MetFree G.1 y (headSpec (cw :: lw_all) (wv_rm fr kc ks)) (va_Pc av (wv_U G h)) (fun _ _ _ _ _ => True) (fun _ st o t => wv_Q G P kc ks st o t)
def wv_MQ (G : wv_G) (P : wv_R → wv_H → Prop) (below : List Frame) (s : State) (kc ks : Nat) : State → Prop := fun t =>
  ∃ o, t.status = .running ∧ Ended t below o ∧ wv_Q G P kc ks s o t
theorem wv_Q.mono {G : wv_G} {P P' : wv_R → wv_H → Prop} {kc ks : Nat} {st t : State} {o : Outcome} (hp : ∀ r h', P r h' → P' r h') (h : wv_Q G P kc ks st o t) : wv_Q G P' kc ks st o t := by
  rcases h with ⟨v, h', h1, h2, h3⟩ | ⟨q, h', E, ce, L, h1, h2, h3⟩
  · exact Or.inl ⟨v, h', h1, hp _ _ h2, h3⟩
  · exact Or.inr ⟨q, h', E, ce, L, h1, hp _ _ h2, h3⟩
end WV1
/-! FRAME 2: calls (the laws wv_back, wv_call.. follow vx_back, vx_runV .. of the kit's EXCEPTIONS rows, the thrown object told) -/
section WV2
variable {G : wv_G} {R : Room} {p : Program} {e : Env} {below : List Frame} {s : State} {sargs : Array Value} {y : MethodName}
def wv_Pre (G : wv_G) (R : Room) (kc ks : Nat) (av : List Value) (h : wv_H) : Pt → Array Value → Prop := fun A a => A.cells + kc ≤ R.cells ∧ A.slots + ks ≤ R.slots ∧ a = av.toArray ∧ wv_U G h A.U
def wv_Post (G : wv_G) (P : wv_R → wv_H → Prop) (kc ks : Nat) : Pt → Array Value → Option Value → Pt → Prop := fun A _ v B =>
  ∃ h', P (.inl v) h' ∧ wv_Rep G h' B.U.heap ∧ ∃ L : List Loc, B.locs = A.locs ++ L ∧ (∀ q ∈ L, wv_b G ≤ q.base) ∧ B.cells = A.cells + kc ∧ B.slots = A.slots + ks
def wv_PostX (G : wv_G) (P : wv_R → wv_H → Prop) (kc ks : Nat) : Pt → Array Value → Addr → Pt → Prop := fun A _ q B =>
  ∃ (h' : wv_H) (E : String) (ce : Cell), P (.inr (E, q)) h' ∧ wv_Rep G h' B.U.heap ∧ B.U.heap[q]? = some ce ∧ ce.vm = .none ∧ A.U.vm.findClass E = some ce.cls ∧ ∃ L : List Loc, B.locs = A.locs ++ L ∧ (∀ q ∈ L, wv_b G ≤ q.base) ∧ B.cells = A.cells + kc ∧ B.slots = A.slots + ks
theorem wv_back {len fr kc ks mL : Nat} {ws : List Cond} {av : List Value} {h : wv_H} {P : wv_R → wv_H → Prop}
    (hM : MetFree G.1 y (headSpec ws (wv_rm fr kc ks)) (va_Pc av (wv_U G h)) (fun _ _ _ _ _ => True) (fun _ st o t => wv_Q G P kc ks st o t))
    (hframes : fr + 1 ≤ R.frames) (hlocals : 8 + (mL + 11) + 64 * fr ≤ R.locals)
    (hws : ∀ w ∈ ws, ∀ (a' : Array Value) (U : State), s.WarmedH U.vm → w.before a' U = true)
    (hcode : ∀ (U : State) (mk : MethodId), s.WarmedH U.vm → U.methodNamed? y = some mk → ∃ (methY : Method) (cY : Code), U.vm.method? mk = some methY ∧ methY.code = some cY ∧ cY.maxLocals = mL)
    (hinit : ∀ (a' : Array Value) (U : State), s.WarmedH U.vm → (Cond.initialized y.cls).before a' U = true) :
    vx_Back G.1 R p e below s sargs y len 8 (wv_Pre G R kc ks av h) (wv_Post G P kc ks) (wv_PostX G P kc ks) := by
  intro m meth c A g ig mk a X hg hsize hdg hW hn hp
  have h1 : (headSpec ws (wv_rm fr kc ks)).pre.before a A.U = true := atoms_intro fun w hw => hws w hw _ _ X.warmed
  have h3 : (Cond.initialized y.cls).before a A.U = true := hinit _ _ X.warmed
  have h4 : A.cells + (headSpec ws (wv_rm fr kc ks)).room.cells ≤ R.cells := hp.1
  have h5 : A.slots + (headSpec ws (wv_rm fr kc ks)).room.slots ≤ R.slots := hp.2.1
  have hPc : va_Pc av (wv_U G h) a (A.U.calling g mk a) := ⟨hp.2.2.1, hp.2.2.2⟩
  obtain ⟨methY, cY, hmY, hcY, hlY⟩ := hcode A.U mk X.warmed hn
  obtain ⟨U, Ls, c0, s0⟩ := A
  dsimp only [Pt.U, Pt.locs, Pt.cells, Pt.slots] at h1 h3 h4 h5 X hn hPc hmY ⊢
  obtain ⟨kY, hkY, -⟩ := className_of_methodNamed hn
  have hinitY : kY.init = .initialized := Cond.initialized_spec (findClass_of_methodNamed hn) hkY h3
  have hat : At U g.method c below := by rw [hg]; exact X.here
  have hlocals9 : 8 + (mL + 11) + (headSpec ws (wv_rm fr kc ks)).room.locals ≤ R.locals := hlocals
  have happ : (headSpec ws (wv_rm fr kc ks)).appliesLoose y e.platform (U.calling g mk a) = true :=
    Spec.appliesLoose_calling (g := g) hat hdg hn hkY hinitY
      (X.room_calling (g := g) (R' := (headSpec ws (wv_rm fr kc ks)).room) hsize hmY hcY hframes (by rw [hlY]; omega) h4 h5) h1
  obtain ⟨mid, hmid⟩ := hat.above
  have hfr : (U.setTop g).frames = (.java g :: mid) ++ below := by rw [State.frames_setTop' g hat.top, hmid]; rfl
  obtain ⟨o, s₂, hsteps, -, hend, hq⟩ := Steps.callFree hM p X.admits X.cas X.clock (acts := []) hfr happ hPc trivial
  have hq' : wv_Q G P kc ks (U.calling g mk a) o s₂ := hq
  rw [State.frames_setTop' g hat.top] at hend
  obtain ⟨g₀, hg0⟩ := Option.isSome_iff_exists.mp hat.top
  obtain ⟨r, hr⟩ := State.topJava?_eq_some.mp hg0
  have hr' : (({ U with heap := s₂.heap, slotsUsed := s₂.slotsUsed } : State).setVm s₂.vm).frames = .java g₀ :: r := hr
  rcases hq' with ⟨v, h', rfl, hP', hRep', L, hfe, hL⟩ | ⟨q, h', E, ce, L, rfl, hP', hRep', hce, hcv, hcl, hW₂, hsm, hL⟩
  · obtain ⟨-, hW₂, e2, q2, q3, q4, q5, q6⟩ := id hfe
    have e3 : s₂ = ({ (U.calling g mk a).setFrames s₂.frames with heap := s₂.heap, slotsUsed := s₂.slotsUsed } : State).setVm s₂.vm := by
      have : s₂ = ({ s₂ with vm := (U.calling g mk a).vm } : State).setVm s₂.vm := rfl
      rw [e2] at this
      exact this
    obtain ⟨c₂, i₂, len₂, hc₂, hd₂, hf₂⟩ := hend
    have hW' : U.WarmedH s₂.vm := hW₂
    have hcc : c₂ = c := by
      have h1 : s₂.code? g.method = U.code? g.method := by
        rw [State.code?_eq, State.code?_eq, hW'.alike.method?]
      exact Option.some.inj (hc₂.symm.trans (h1.trans hat.code))
    subst hcc
    have hlen : len₂ = len := by rw [hdg] at hd₂; cases hd₂; rfl
    subst hlen
    have hs₂ : s₂ = (({ U with heap := s₂.heap, slotsUsed := s₂.slotsUsed } : State).setVm s₂.vm).setTop { g with pc := g.pc + len₂, stack := v.toList ++ g.stack } := by
      refine e3.trans ?_
      rw [hf₂, State.calling_eq hat.top, State.setFrames_setFrames, State.setTop_of_frames _ hr', hr]
      rfl
    have hsame : U.sameButNew ({ U with heap := s₂.heap, slotsUsed := s₂.slotsUsed } : State) L kc ks := by
      refine ⟨?_, q2, q3, q4, q5, q6⟩
      obtain ⟨t, ht, -⟩ := State.frames_cons hr
      show ({ U with heap := s₂.heap, slotsUsed := s₂.slotsUsed } : State) = { U.setFrames U.frames with heap := s₂.heap, slotsUsed := s₂.slotsUsed }
      rw [State.setFrames_self ht]
    subst hg
    refine Or.inl ⟨v, ⟨(({ U with heap := s₂.heap, slotsUsed := s₂.slotsUsed } : State).setVm s₂.vm), Ls ++ L, c0 + kc, s0 + ks⟩,
      ⟨X.admits, X.cas, X.clock, X.frames, X.room, X.hears, X.method, X.code, (X.here.setHeapUsed s₂.heap s₂.slotsUsed).setVm hW'.alike, X.tail, State.WarmedH.trans X.warmed hW', X.limits, X.bytes, X.same.trans (hsame.setVm s.vm)⟩,
      ⟨h', hP', hRep', L, rfl, hL, rfl, rfl⟩, ?_⟩
    show Steps p.tables e below _ ((({ U with heap := s₂.heap, slotsUsed := s₂.slotsUsed } : State).setVm s₂.vm).setTop { g with pc := g.pc + len₂, stack := v.toList ++ g.stack })
    rw [← hs₂]
    exact hsteps
  · obtain ⟨e2, q2, q3, q4, q5, q6⟩ := id hsm
    have e3 : s₂ = ({ (U.calling g mk a).setFrames s₂.frames with heap := s₂.heap, slotsUsed := s₂.slotsUsed } : State).setVm s₂.vm := by
      have : s₂ = ({ s₂ with vm := (U.calling g mk a).vm } : State).setVm s₂.vm := rfl
      rw [e2] at this
      exact this
    have hf₂ : s₂.frames = .throwing q :: .java g :: U.frames.tail := hend
    have hW' : U.WarmedH s₂.vm := hW₂
    have hs₂ : s₂ = ((({ U with heap := s₂.heap, slotsUsed := s₂.slotsUsed } : State).setVm s₂.vm).setTop g).pushFrame (.throwing q) := by
      refine e3.trans ?_
      rw [hf₂, State.calling_eq hat.top, State.setFrames_setFrames, State.pushFrame, State.frames_setTop _ hr', State.setTop_of_frames _ hr', State.setFrames_setFrames, hr]
      rfl
    have hsame : U.sameButNew ({ U with heap := s₂.heap, slotsUsed := s₂.slotsUsed } : State) L kc ks := by
      refine ⟨?_, q2, q3, q4, q5, q6⟩
      obtain ⟨t, ht, -⟩ := State.frames_cons hr
      show ({ U with heap := s₂.heap, slotsUsed := s₂.slotsUsed } : State) = { U.setFrames U.frames with heap := s₂.heap, slotsUsed := s₂.slotsUsed }
      rw [State.setFrames_self ht]
    subst hg
    refine Or.inr ⟨q, ⟨(({ U with heap := s₂.heap, slotsUsed := s₂.slotsUsed } : State).setVm s₂.vm), Ls ++ L, c0 + kc, s0 + ks⟩,
      ⟨X.admits, X.cas, X.clock, X.frames, X.room, X.hears, X.method, X.code, (X.here.setHeapUsed s₂.heap s₂.slotsUsed).setVm hW'.alike, X.tail, State.WarmedH.trans X.warmed hW', X.limits, X.bytes, X.same.trans (hsame.setVm s.vm)⟩,
      ⟨h', E, ce, hP', hRep', hce, hcv, hcl, L, rfl, hL, rfl, rfl⟩, ?_⟩
    show Steps p.tables e below _ (((({ U with heap := s₂.heap, slotsUsed := s₂.slotsUsed } : State).setVm s₂.vm).setTop g).pushFrame (.throwing q))
    rw [← hs₂]
    exact hsteps
/-- a contract, at a caller's state -/
theorem wv_C.back {len fr kc ks : Nat} {av : List Value} {h : wv_H} {P : wv_R → wv_H → Prop} (hC : wv_C G y av h fr kc ks P) (hframes : fr + 1 ≤ R.frames) (hlocals : R.locals = 64 * R.frames) (hts : ∀ w ∈ lw_all, w.before sargs s = true)
    (hini : (Cond.initialized y.cls).before sargs s = true) :
    vx_Back G.1 R p e below s sargs y len 8 (wv_Pre G R kc ks av h) (wv_Post G P kc ks) (wv_PostX G P kc ks) ∧
    ∃ (cw : Cond) (b : ByteArray) (mL : Nat) (ret : Option FieldType), (cw = .code y b mL ret ∨ ∃ hh, cw = .codeWith y b mL ret hh) ∧ cw.before sargs s = true := by
  obtain ⟨cw, b, mL, ret, hmL, hcw, hin, hM⟩ := hC
  have hwarm : ∀ w ∈ cw :: lw_all, ∀ (a' : Array Value) (U : State), s.WarmedH U.vm → w.before a' U = true := by
    intro w hw a' U hW
    have hm : w ∈ lw_all := by
      rcases List.mem_cons.mp hw with q | q
      · rw [q]; exact hin
      · exact q
    exact word_at hW (lw_self w hm).2 (hts w hm)
  refine ⟨wv_back (mL := mL) hM hframes (by rw [hlocals]; omega) hwarm ?_ ?_, cw, b, mL, ret, hcw, hts _ hin⟩
  · intro U mk hW hn
    have h2 : cw.before sargs U = true := hwarm cw List.mem_cons_self sargs U hW
    rcases hcw with rfl | ⟨hh, rfl⟩
    · obtain ⟨methY, cY, hmY, hcY, -, hlY, -⟩ := Cond.code_spec hn h2
      exact ⟨methY, cY, hmY, hcY, hlY⟩
    · obtain ⟨m9, methY, cY, hn9, hmY, hcY, -, hlY, -⟩ := Cond.codeWith_spec h2
      cases hn.symm.trans hn9
      exact ⟨methY, cY, hmY, hcY, hlY⟩
  · intro a' U hW
    exact word_at hW (Or.inl (by simp [Cond.onTables, Cond.keeps, Cond.steady])) hini
end WV2
/-! FRAME 3: a walk's state, heap rows, ends -/
section WV3
/-- what is given of the whole run: the flags, the tables' words at the law's start, class numbers, constants -/
def wv_G0 (G : wv_G) : Prop := G.1.stackTraces = false ∧ va_K G.2.2.1 wv_cl (wv_ty G) G.2.1 ∧ (∃ b0 : Nat, (∀ w ∈ lw_tbl, w.before #[Value.ref b0] G.2.1 = true)) ∧ wv_G1 G
def wv_ok (G : wv_G) (p : Program) (R : Room) (s : State) (m : MethodId) (args : Array Value) (meth : Method) (c : Code) (fr : Nat) (own : String) (cc : ByteArray) (nL : Nat) (ret : Option FieldType) (nm : String) (tb : List (Nat × Nat × Nat × Nat)) : Prop :=
  p.tables.exec = Jvm.exec ∧ c.code = cc ∧ c.maxLocals = nL ∧ s.vm.findClass own = some m.cls ∧ (∀ w ∈ lw_all, w.before args s = true) ∧ G.2.1.WarmedH s.vm ∧ meth.locks = false ∧ meth.sig.returnType = ret ∧ meth.name = nm ∧ c.exceptionTable.toList = tableOf tb ∧ R.frames = fr ∧ R.locals = 64 * fr ∧ wv_G0 G ∧ wv_b G ≤ s.heap.size ∧ (∀ a : Nat, a < wv_b G → s.heap[a]? = G.2.1.heap[a]?) ∧ ∃ d : String, s.methodNamed? ⟨own, nm, d⟩ = some m ∧ (Cond.code ⟨own, nm, d⟩ cc nL ret ∈ lw_all ∨ Cond.codeWith ⟨own, nm, d⟩ cc nL ret tb ∈ lw_all)
def wv_S (G : wv_G) (R : Room) (s : State) (w : wv_W) (H : Heap) (locs : List Loc) (cells slots : Nat) : Prop :=
  wv_Rep G w.1 H ∧ (∀ q ∈ locs, wv_b G ≤ q.base) ∧ cells + w.2.1 = R.cells ∧ slots + w.2.2 = R.slots ∧ s.heap.size ≤ H.size
variable {G : wv_G} {p : Program} {e : Env} {R : Room} {s : State} {m : MethodId} {args : Array Value} {below : List Frame} {meth : Method} {c : Code} {fr : Nat} {own : String} {cc : ByteArray} {nL : Nat} {ret : Option FieldType} {nm : String} {tb : List (Nat × Nat × Nat × Nat)}
theorem wv_ok.hx (X : wv_ok G p R s m args meth c fr own cc nL ret nm tb) : p.tables.exec = Jvm.exec := X.1
theorem wv_ok.hb (X : wv_ok G p R s m args meth c fr own cc nL ret nm tb) : c.code = cc := X.2.1
theorem wv_ok.hml (X : wv_ok G p R s m args meth c fr own cc nL ret nm tb) : c.maxLocals = nL := X.2.2.1
theorem wv_ok.hown (X : wv_ok G p R s m args meth c fr own cc nL ret nm tb) : s.vm.findClass own = some m.cls := X.2.2.2.1
theorem wv_ok.hts (X : wv_ok G p R s m args meth c fr own cc nL ret nm tb) : ∀ w ∈ lw_all, w.before args s = true := X.2.2.2.2.1
theorem wv_ok.hW (X : wv_ok G p R s m args meth c fr own cc nL ret nm tb) : G.2.1.WarmedH s.vm := X.2.2.2.2.2.1
theorem wv_ok.hlk (X : wv_ok G p R s m args meth c fr own cc nL ret nm tb) : meth.locks = false := X.2.2.2.2.2.2.1
theorem wv_ok.hr (X : wv_ok G p R s m args meth c fr own cc nL ret nm tb) : meth.sig.returnType = ret := X.2.2.2.2.2.2.2.1
theorem wv_ok.hnm (X : wv_ok G p R s m args meth c fr own cc nL ret nm tb) : meth.name = nm := X.2.2.2.2.2.2.2.2.1
theorem wv_ok.htb (X : wv_ok G p R s m args meth c fr own cc nL ret nm tb) : c.exceptionTable.toList = tableOf tb := X.2.2.2.2.2.2.2.2.2.1
theorem wv_ok.hfr (X : wv_ok G p R s m args meth c fr own cc nL ret nm tb) : R.frames = fr := X.2.2.2.2.2.2.2.2.2.2.1
theorem wv_ok.hlo (X : wv_ok G p R s m args meth c fr own cc nL ret nm tb) : R.locals = 64 * fr := X.2.2.2.2.2.2.2.2.2.2.2.1
theorem wv_ok.hG (X : wv_ok G p R s m args meth c fr own cc nL ret nm tb) : wv_G0 G := X.2.2.2.2.2.2.2.2.2.2.2.2.1
theorem wv_ok.hsz (X : wv_ok G p R s m args meth c fr own cc nL ret nm tb) : wv_b G ≤ s.heap.size := X.2.2.2.2.2.2.2.2.2.2.2.2.2.1
theorem wv_ok.hold (X : wv_ok G p R s m args meth c fr own cc nL ret nm tb) : ∀ a : Nat, a < wv_b G → s.heap[a]? = G.2.1.heap[a]? := X.2.2.2.2.2.2.2.2.2.2.2.2.2.2.1
theorem wv_ok.hnm2 (X : wv_ok G p R s m args meth c fr own cc nL ret nm tb) : ∃ d : String, s.methodNamed? ⟨own, nm, d⟩ = some m ∧ (Cond.code ⟨own, nm, d⟩ cc nL ret ∈ lw_all ∨ Cond.codeWith ⟨own, nm, d⟩ cc nL ret tb ∈ lw_all) := X.2.2.2.2.2.2.2.2.2.2.2.2.2.2.2
theorem wv_ok.K (X : wv_ok G p R s m args meth c fr own cc nL ret nm tb) : va_K G.2.2.1 wv_cl (wv_ty G) s := va_K.moved X.hW.alike X.hG.2.1
/-- a word of the tables that rides by a rule of its own: at the start -/
theorem wv_ok.nw (X : wv_ok G p R s m args meth c fr own cc nL ret nm tb) {w : Cond} (hw : w ∈ lw_tbl) (ho : w.onTables = true) : va_Nw w G.2.1 := by
  obtain ⟨b0, h⟩ := X.hG.2.2.1
  exact va_Nw.of ho (h w hw)
theorem wv_ok.linkF (X : wv_ok G p R s m args meth c fr own cc nL ret nm tb) {a : String} {i : Nat} {b n d h : String} (hw : Cond.fieldLinkNest a i b n d h ∈ lw_tbl) : va_Nw (.fieldLinkNest a i b n d h) s := va_Nw.warmF X.hW (X.nw hw rfl)
theorem wv_ok.linkM (X : wv_ok G p R s m args meth c fr own cc nL ret nm tb) {a : String} {i : Nat} {x : MethodName} {h : String} (hw : Cond.methodLinkNest a i x h ∈ lw_tbl) : va_Nw (.methodLinkNest a i x h) s := va_Nw.warmM X.hW (X.nw hw rfl)
theorem wv_ok.cast (X : wv_ok G p R s m args meth c fr own cc nL ret nm tb) {C T : String} (hw : Cond.castable C T ∈ lw_tbl) : va_Nw (.castable C T) s := va_Nw.warmC X.hW (X.nw hw rfl)
theorem wv_one {h : wv_H} {H : Heap} (hR : wv_Rep G h H) {a : Nat} {t : wv_T} {x : va_E} (ha : h a = some (t, .inl x)) : va_P G.2.2.1 wv_cl [(a, x)] H := by
  intro k q hk
  match k, hk with
  | 0, hk => cases hk; exact hR.at ha
  | k + 1, hk => simp at hk
variable {w : wv_W} {H : Heap} {locs : List Loc} {cells slots : Nat} {Q : State → Prop} {pc : Nat} {ls : Array Slot} {rest : List Value}
theorem wv_loc {b : Nat} {locs : List Loc} (h : ∀ q ∈ locs, b ≤ q.base) {a i : Nat} (ha : b ≤ a) : ∀ q ∈ locs ++ [⟨a, i⟩], b ≤ q.base := by
  intro q hq
  rcases List.mem_append.mp hq with h1 | h1
  · exact h q h1
  · rw [List.mem_singleton] at h1
    subst h1
    exact ha
theorem wv_locs {b : Nat} {locs L : List Loc} (h : ∀ q ∈ locs, b ≤ q.base) (hL : ∀ q ∈ L, b ≤ q.base) : ∀ q ∈ locs ++ L, b ≤ q.base := by
  intro q hq
  rcases List.mem_append.mp hq with h1 | h1
  · exact h q h1
  · exact hL q h1
-- ===== getfield =====
theorem wr_get (X : wv_ok G p R s m args meth c fr own cc nL ret nm tb) (S : wv_S G R s w H locs cells slots) {a : Nat} {t : wv_T} {ci index N k : Nat} {C : String} {T : u_T} {fs : List Value} {v : Value} (ha : w.1 a = some (t, .inl (.inr (ci, fs)))) (hv : fs[k]? = some v) (hc : wv_cl[ci]? = some (C, T, N)) (hin : ∀ x ∈ u_ws C T N, x ∈ lw_all) (hk : k < N) (hlink : Cond.fieldLink own index (T k).1 (T k).2.1 (T k).2.2.1 ∈ lw_all) (hdg : decode cc pc = .ok (.getfield index, 3))
    (kk : W p G.1 e R s m args below meth c H locs cells slots Q (F0 m (pc + 3) ls (v :: rest))) : W p G.1 e R s m args below meth c H locs cells slots Q (F0 m pc ls (.ref a :: rest)) :=
  va_get X.hx X.hb X.hts hin X.hown X.K (wv_one S.1 ha) 0 rfl hc k hk (X.hts _ hlink) (fun _ h => h) hv hdg kk
theorem wr_getS (X : wv_ok G p R s m args meth c fr own cc nL ret nm tb) (S : wv_S G R s w H locs cells slots) {a : Nat} {t : wv_T} {ci index N k : Nat} {C ref : String} {T : u_T} {fs : List Value} {v : Value} (ha : w.1 a = some (t, .inl (.inr (ci, fs)))) (hv : fs[k]? = some v) (hc : wv_cl[ci]? = some (C, T, N)) (hin : ∀ x ∈ u_ws C T N, x ∈ lw_all) (hk : k < N) (hlink : Cond.fieldLink own index ref (T k).2.1 (T k).2.2.1 ∈ lw_all) (hsame : Cond.sameField ref (T k).1 (T k).2.1 (T k).2.2.1 ∈ lw_all) (hdg : decode cc pc = .ok (.getfield index, 3))
    (kk : W p G.1 e R s m args below meth c H locs cells slots Q (F0 m (pc + 3) ls (v :: rest))) : W p G.1 e R s m args below meth c H locs cells slots Q (F0 m pc ls (.ref a :: rest)) :=
  va_get X.hx X.hb X.hts hin X.hown X.K (wv_one S.1 ha) 0 rfl hc k hk (X.hts _ hlink) (fun x h => u_same (X.hts _ hsame) x h) hv hdg kk
theorem wr_getN (X : wv_ok G p R s m args meth c fr own cc nL ret nm tb) (S : wv_S G R s w H locs cells slots) {a : Nat} {t : wv_T} {ci index N k : Nat} {C host : String} {T : u_T} {fs : List Value} {v : Value} (ha : w.1 a = some (t, .inl (.inr (ci, fs)))) (hv : fs[k]? = some v) (hc : wv_cl[ci]? = some (C, T, N)) (hin : ∀ x ∈ u_ws C T N, x ∈ lw_all) (hk : k < N) (hlink : Cond.fieldLinkNest own index (T k).1 (T k).2.1 (T k).2.2.1 host ∈ lw_tbl) (hdg : decode cc pc = .ok (.getfield index, 3))
    (kk : W p G.1 e R s m args below meth c H locs cells slots Q (F0 m (pc + 3) ls (v :: rest))) : W p G.1 e R s m args below meth c H locs cells slots Q (F0 m pc ls (.ref a :: rest)) :=
  va_getN X.hx X.hb X.hts hin X.hown X.K (wv_one S.1 ha) 0 rfl hc k hk (X.linkF hlink) (fun _ h => h) hv hdg kk
-- ===== putfield =====
theorem wv_obj {h : wv_H} (hR : wv_Rep G h H) {a ci N : Nat} {C : String} {T : u_T} {t : wv_T} {fs : List Value} (ha : h a = some (t, .inl (.inr (ci, fs)))) (hc : wv_cl[ci]? = some (C, T, N)) : t_OB a (G.2.2.1.1 ci) N (G.2.2.1.2 ci) H (vp_V fs) := by
  obtain ⟨r, h1, h2⟩ := hR.at ha
  have hr : r = (C, T, N) := Option.some.inj (h1.symm.trans hc)
  subst hr
  exact h2
theorem wr_put (X : wv_ok G p R s m args meth c fr own cc nL ret nm tb) (S : wv_S G R s w H locs cells slots) {a : Nat} {t : wv_T} {ci index N k : Nat} {C : String} {T : u_T} {fs : List Value} {v : Value} {ty : FieldType} (ty0 : Nat → FieldType) (hty : ∀ k, k < N → parseFieldDescriptor (T k).2.2.1 = some (ty0 k)) (hnm : ∀ a, a < N → ∀ b, b < N → a ≠ b → (T a).2.1 ≠ (T b).2.1) (ha : w.1 a = some (t, .inl (.inr (ci, fs)))) (ht : t.1 ≠ 0) (hl : k < fs.length) (hc : wv_cl[ci]? = some (C, T, N)) (hin : ∀ x ∈ u_ws C T N, x ∈ lw_all) (hk : k < N) (hlink : Cond.fieldLink own index (T k).1 (T k).2.1 (T k).2.2.1 ∈ lw_all) (hfin : (T k).2.2.2 = false) (hd : ty0 k = ty) (hn : narrow ty v = v) (hfit : fits ty v = true) (hdg : decode cc pc = .ok (.putfield index, 3))
    (kk : ∀ (H1 : Heap) (locs1 : List Loc), wv_S G R s (wv_up w.1 a (t, .inl (.inr (ci, fs.set k v))), w.2) H1 locs1 cells slots → W p G.1 e R s m args below meth c H1 locs1 cells slots Q (F0 m (pc + 3) ls rest)) : W p G.1 e R s m args below meth c H locs cells slots Q (F0 m pc ls (v :: .ref a :: rest)) := by
  have hK := X.K
  have hap := va_apart (own := own) X.hts hin ty0 hty hnm hK hc
  obtain ⟨cell, q1, q2, q3, q4⟩ := wv_obj S.1 ha hc
  obtain ⟨hS, hfc, kC, hkC, hkind⟩ := hK.1 ci _ hc
  obtain ⟨cf, kf, fi, f, hi, hsl⟩ := hS k hk
  have hlay := X.hts _ (hin _ (u_in_lay hk))
  unfold u_lay at hlay
  rw [if_neg (by rw [hfin]; decide)] at hlay
  have hst := (u_facts hfc hkC (u_lays X.hts hin hk) hi).1
  have h6 := u_store hfc hkC hkind hlay hi ((hty k hk).trans (by rw [hd])) hn hfit
  refine W.putK X.hx X.hb (f := f) ⟨X.hown, X.hts _ hlink, ⟨_, _, _, hi⟩, hst⟩ (by rw [q2]; exact h6) q1 q3 (by rw [hsl]; exact k2_hasslot (q4 k hk)) rfl rfl hdg fun H' e1 e2 e3 => ?_
  rw [hsl] at e1 ⊢
  refine kk H' _ ⟨wv_Rep.put S.1 ha ht ht ⟨_, hc, t_OB.to (V := updV (vp_V fs) k v) ⟨_, e1, q2, q3, t_set q4 hap hk v⟩ (fun j _ => vp_updV_set hl v j)⟩ ((S.1.free ha ht).set q1 e1) e2 e3, wv_loc S.2.1 (S.1.low ha ht), S.2.2.1, S.2.2.2.1, by rw [e2]; exact S.2.2.2.2⟩
theorem wr_putF (X : wv_ok G p R s m args meth c fr own cc nL ret "<init>" tb) (S : wv_S G R s w H locs cells slots) {a : Nat} {t : wv_T} {ci index N k : Nat} {C : String} {T : u_T} {fs : List Value} {v : Value} {ty : FieldType} (ty0 : Nat → FieldType) (hty : ∀ k, k < N → parseFieldDescriptor (T k).2.2.1 = some (ty0 k)) (hnm : ∀ a, a < N → ∀ b, b < N → a ≠ b → (T a).2.1 ≠ (T b).2.1) (ha : w.1 a = some (t, .inl (.inr (ci, fs)))) (ht : t.1 ≠ 0) (hl : k < fs.length) (hc : wv_cl[ci]? = some (C, T, N)) (hin : ∀ x ∈ u_ws C T N, x ∈ lw_all) (hk : k < N) (hlink : Cond.fieldLink own index (T k).1 (T k).2.1 (T k).2.2.1 ∈ lw_all) (hfin : (T k).2.2.2 = true) (hdecl : (T k).1 = own) (hd : ty0 k = ty) (hn : narrow ty v = v) (hfit : fits ty v = true) (hdg : decode cc pc = .ok (.putfield index, 3))
    (kk : ∀ (H1 : Heap) (locs1 : List Loc), wv_S G R s (wv_up w.1 a (t, .inl (.inr (ci, fs.set k v))), w.2) H1 locs1 cells slots → W p G.1 e R s m args below meth c H1 locs1 cells slots Q (F0 m (pc + 3) ls rest)) : W p G.1 e R s m args below meth c H locs cells slots Q (F0 m pc ls (v :: .ref a :: rest)) := by
  have hK := X.K
  have hap := va_apart (own := own) X.hts hin ty0 hty hnm hK hc
  obtain ⟨cell, q1, q2, q3, q4⟩ := wv_obj S.1 ha hc
  obtain ⟨hS, hfc, kC, hkC, hkind⟩ := hK.1 ci _ hc
  obtain ⟨cf, kf, fi, f, hi, hsl⟩ := hS k hk
  have hlay := X.hts _ (hin _ (u_in_lay hk))
  unfold u_lay at hlay
  rw [if_pos hfin] at hlay
  have hst := (u_facts hfc hkC (u_lays X.hts hin hk) hi).1
  have hcf : m.cls = cf := by
    obtain ⟨_, _, c', _, _, _, -, -, hf', -, -, -, hown2, -⟩ := Cond.laysFinal_spec hlay
    have e1 : c' = cf := by have := hi.symm.trans hf'; simp at this; exact this.1.symm
    rw [hdecl] at hown2
    rw [← e1]; exact Option.some.inj (X.hown.symm.trans hown2)
  have h6 := u_fits hfc hkC hkind (Or.inr hlay) hi ((hty k hk).trans (by rw [hd])) hn hfit
  refine W.putFinK X.hx X.hb X.hown (X.hts _ hlink) hi hst hcf X.hnm (by rw [q2]; exact h6) q1 q3 (by rw [hsl]; exact k2_hasslot (q4 k hk)) rfl rfl hdg fun H' e1 e2 e3 => ?_
  rw [hsl] at e1 ⊢
  refine kk H' _ ⟨wv_Rep.put S.1 ha ht ht ⟨_, hc, t_OB.to (V := updV (vp_V fs) k v) ⟨_, e1, q2, q3, t_set q4 hap hk v⟩ (fun j _ => vp_updV_set hl v j)⟩ ((S.1.free ha ht).set q1 e1) e2 e3, wv_loc S.2.1 (S.1.low ha ht), S.2.2.1, S.2.2.2.1, by rw [e2]; exact S.2.2.2.2⟩
theorem wr_putN (X : wv_ok G p R s m args meth c fr own cc nL ret nm tb) (S : wv_S G R s w H locs cells slots) {a : Nat} {t : wv_T} {ci index N k : Nat} {C host : String} {T : u_T} {fs : List Value} {v : Value} {ty : FieldType} (ty0 : Nat → FieldType) (hty : ∀ k, k < N → parseFieldDescriptor (T k).2.2.1 = some (ty0 k)) (hnm : ∀ a, a < N → ∀ b, b < N → a ≠ b → (T a).2.1 ≠ (T b).2.1) (ha : w.1 a = some (t, .inl (.inr (ci, fs)))) (ht : t.1 ≠ 0) (hl : k < fs.length) (hc : wv_cl[ci]? = some (C, T, N)) (hin : ∀ x ∈ u_ws C T N, x ∈ lw_all) (hk : k < N) (hlink : Cond.fieldLinkNest own index (T k).1 (T k).2.1 (T k).2.2.1 host ∈ lw_tbl) (hfin : (T k).2.2.2 = false) (hd : ty0 k = ty) (hn : narrow ty v = v) (hfit : fits ty v = true) (hdg : decode cc pc = .ok (.putfield index, 3))
    (kk : ∀ (H1 : Heap) (locs1 : List Loc), wv_S G R s (wv_up w.1 a (t, .inl (.inr (ci, fs.set k v))), w.2) H1 locs1 cells slots → W p G.1 e R s m args below meth c H1 locs1 cells slots Q (F0 m (pc + 3) ls rest)) : W p G.1 e R s m args below meth c H locs cells slots Q (F0 m pc ls (v :: .ref a :: rest)) := by
  have hK := X.K
  have hap := va_apart (own := own) X.hts hin ty0 hty hnm hK hc
  obtain ⟨cell, q1, q2, q3, q4⟩ := wv_obj S.1 ha hc
  obtain ⟨hS, hfc, kC, hkC, hkind⟩ := hK.1 ci _ hc
  obtain ⟨cf, kf, fi, f, hi, hsl⟩ := hS k hk
  have hlay := X.hts _ (hin _ (u_in_lay hk))
  unfold u_lay at hlay
  rw [if_neg (by rw [hfin]; decide)] at hlay
  have hst := (u_facts hfc hkC (u_lays X.hts hin hk) hi).1
  have h6 := u_store hfc hkC hkind hlay hi ((hty k hk).trans (by rw [hd])) hn hfit
  have hlinkA : (Cond.fieldLinkNest own index (T k).1 (T k).2.1 (T k).2.2.1 host).before args s = true := va_Nw.use rfl (X.linkF hlink)
  refine va_WputK X.hx X.hb X.hown hlinkA hi hst (by rw [q2]; exact h6) q1 q3 (by rw [hsl]; exact k2_hasslot (q4 k hk)) rfl rfl hdg fun H' e1 e2 e3 => ?_
  rw [hsl] at e1 ⊢
  refine kk H' _ ⟨wv_Rep.put S.1 ha ht ht ⟨_, hc, t_OB.to (V := updV (vp_V fs) k v) ⟨_, e1, q2, q3, t_set q4 hap hk v⟩ (fun j _ => vp_updV_set hl v j)⟩ ((S.1.free ha ht).set q1 e1) e2 e3, wv_loc S.2.1 (S.1.low ha ht), S.2.2.1, S.2.2.2.1, by rw [e2]; exact S.2.2.2.2⟩
end WV3
