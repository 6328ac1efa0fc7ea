/-! FRAME 4: verification conditions (their words), their rows, entry, loops -/
section WV7
theorem wv_rfc (r : Option Nat) : (va_rf r).category = 1 := by cases r <;> rfl
theorem wv_kI (x : Int32) : (Value.int x).category = 1 := rfl
theorem wv_kJ (x : Int64) : (Value.long x).category = 2 := rfl
theorem wv_kF (x : UInt32) : (Value.float x).category = 1 := rfl
theorem wv_kD (x : UInt64) : (Value.double x).category = 2 := rfl
variable {G : wv_G} {p : Program} {e : Env} {R : Room} {s : State} {m : MethodId} {args : Array Value} {below : List Frame} {meth : Method} {c : Code} {fr : Nat} {own : String} {cc : ByteArray} {nL : Nat} {ret : Option FieldType} {nm : String} {tb : List (Nat × Nat × Nat × Nat)}
variable {w : wv_W} {H : Heap} {locs : List Loc} {cells slots : Nat} {Q : State → Prop} {pc : Nat} {ls : Array Slot} {rest : List Value}
/-- at pc, with the locals lv and the stack st, the walk comes to its end -/
def wv_J (G : wv_G) (p : Program) (e : Env) (R : Room) (s : State) (m : MethodId) (args : Array Value) (below : List Frame) (meth : Method) (c : Code) (nL : Nat) (P : wv_R → wv_H → Prop) (w : wv_W) (pc : Nat) (lv : List (Nat × Value)) (st : List Value) : Prop :=
  ∀ (H : Heap) (locs : List Loc) (cells slots : Nat) (ls : Array Slot), wv_S G R s w H locs cells slots → lv_has ls nL lv → W p G.1 e R s m args below meth c H locs cells slots (wv_MQ G P below s R.cells R.slots) (F0 m pc ls st)
theorem wv_enter {y : MethodName} {av : List Value} {h : wv_H} {kc ks : Nat} {P : wv_R → wv_H → Prop} {lv : List (Nat × Value)} (hG : wv_G0 G) (hy : plainName y.cls = true) (hcode : Cond.code y cc nL ret ∈ lw_all) (hnL : nL ≤ 40) (hlen : (lg_sl av).length ≤ nL) (hlv : lv_args 0 av = lv)
    (body : ∀ (p : Program) (e : Env) (R : Room) (s : State) (m : MethodId) (args : Array Value) (below : List Frame) (meth : Method) (c : Code), wv_ok G p R s m args meth c fr y.cls cc nL ret y.name [] → wv_J G p e R s m args below meth c nL P (h, kc, ks) 0 lv []) : wv_C G y av h fr kc ks P := by
  refine ⟨.code y cc nL ret, cc, nL, ret, hnL, Or.inl rfl, hcode, ?_⟩
  refine MetFree.of_bodyS (code := cc) (maxLocals := nL) (ret := ret) hy ?_ ?_
  · intro args s m h hn
    obtain ⟨meth, c, h1, h2, h3, h4, h5, h6, -, -⟩ := Cond.code_spec hn (atoms_spec (ws := .code y cc nL ret :: lw_all) h _ List.mem_cons_self)
    exact ⟨meth, c, h1, h2, h3, h4, h5, h6⟩
  · intro p e s m args below meth c s₁ B hml hP _
    obtain ⟨rfl, hU⟩ := hP
    have hh0 : s₁.heap = s.heap := by rw [B.state]; rfl
    have hts := atoms_spec (ws := .code y cc nL ret :: lw_all) B.pre
    have ht : c.exceptionTable.toList = tableOf [] := by
      obtain ⟨meth9, c9, h1, h2, -, -, -, -, h7, -⟩ := Cond.code_spec B.named (hts _ List.mem_cons_self)
      cases Option.some.inj (h1.symm.trans B.method)
      cases Option.some.inj (h2.symm.trans (Stand.of_body B).code)
      rw [Array.isEmpty_iff.mp h7]
      rfl
    have hl := lv_entry av (n := nL) hlen
    rw [hlv] at hl
    have k1 := body p e (wv_rm fr kc ks) s m av.toArray below meth c ⟨B.exec, B.bytes, hml, findClass_of_methodNamed B.named, fun w hw => hts w (List.mem_cons_of_mem _ hw), hU.2, B.notSynchronized, B.returns, (name_of_methodNamed B.named B.method).1, ht, rfl, rfl, hG, hU.1.1, hU.1.2.1, y.desc, B.named, Or.inl hcode⟩ s.heap [] 0 0 _ ⟨hU.1, (fun q hq => by cases hq), Nat.zero_add _, Nat.zero_add _, Nat.le_refl _⟩ hl
    obtain ⟨t, a1, o, b1, b2, b3⟩ := k1 s₁ hh0 (Stand.of_body B)
    refine ⟨t, o, ?_, b1, b2, b3⟩
    rw [lg_entry_eq]
    exact a1
theorem wv_enterW {y : MethodName} {av : List Value} {h : wv_H} {kc ks : Nat} {P : wv_R → wv_H → Prop} {lv : List (Nat × Value)} (hG : wv_G0 G) (hy : plainName y.cls = true) (hcode : Cond.codeWith y cc nL ret tb ∈ lw_all) (hnL : nL ≤ 40) (hlen : (lg_sl av).length ≤ nL) (hlv : lv_args 0 av = lv)
    (body : ∀ (p : Program) (e : Env) (R : Room) (s : State) (m : MethodId) (args : Array Value) (below : List Frame) (meth : Method) (c : Code), wv_ok G p R s m args meth c fr y.cls cc nL ret y.name tb → wv_J G p e R s m args below meth c nL P (h, kc, ks) 0 lv []) : wv_C G y av h fr kc ks P := by
  refine ⟨.codeWith y cc nL ret tb, cc, nL, ret, hnL, Or.inr ⟨tb, rfl⟩, hcode, ?_⟩
  refine MetFree.of_bodyS (code := cc) (maxLocals := nL) (ret := ret) hy ?_ ?_
  · intro args s m h hn
    obtain ⟨m9, meth, c, hn9, h1, h2, h3, h4, -, h5, h6, -⟩ := Cond.codeWith_spec (atoms_spec (ws := .codeWith y cc nL ret tb :: lw_all) h _ List.mem_cons_self)
    cases hn.symm.trans hn9
    exact ⟨meth, c, h1, h2, h3, h4, h5, h6⟩
  · intro p e s m args below meth c s₁ B hml hP _
    obtain ⟨rfl, hU⟩ := hP
    have hh0 : s₁.heap = s.heap := by rw [B.state]; rfl
    have hts := atoms_spec (ws := .codeWith y cc nL ret tb :: lw_all) B.pre
    have ht : c.exceptionTable.toList = tableOf tb := vx_table (x := y) B (hts _ List.mem_cons_self)
    have hl := lv_entry av (n := nL) hlen
    rw [hlv] at hl
    have k1 := body p e (wv_rm fr kc ks) s m av.toArray below meth c ⟨B.exec, B.bytes, hml, findClass_of_methodNamed B.named, fun w hw => hts w (List.mem_cons_of_mem _ hw), hU.2, B.notSynchronized, B.returns, (name_of_methodNamed B.named B.method).1, ht, rfl, rfl, hG, hU.1.1, hU.1.2.1, y.desc, B.named, Or.inr hcode⟩ s.heap [] 0 0 _ ⟨hU.1, (fun q hq => by cases hq), Nat.zero_add _, Nat.zero_add _, Nat.le_refl _⟩ hl
    obtain ⟨t, a1, o, b1, b2, b3⟩ := k1 s₁ hh0 (Stand.of_body B)
    refine ⟨t, o, ?_, b1, b2, b3⟩
    rw [lg_entry_eq]
    exact a1
/-- a loop: by an invariant and a measure -/
def wv_L {A : Type} (F : (A → wv_W → Prop) → A → wv_W → Prop) (a : A) (w : wv_W) : Prop := ∃ (I : A → wv_W → Prop) (μ : A → wv_W → Nat), I a w ∧ ∀ a w, I a w → F (fun a' w' => I a' w' ∧ μ a' w' < μ a w) a w
theorem wv_loop {A : Type} {F : (A → wv_W → Prop) → A → wv_W → Prop} (J : A → wv_W → Prop) (hF : ∀ K : A → wv_W → Prop, (∀ a w, K a w → J a w) → ∀ a w, F K a w → J a w) {a : A} {w : wv_W} (hv : wv_L F a w) : J a w := by
  obtain ⟨I, μ, h0, hs⟩ := hv
  have key : ∀ n : Nat, ∀ a w, μ a w < n → I a w → J a w := by
    intro n
    induction n with
    | zero => intro a w h; omega
    | succ n ih =>
      intro a w hn hi
      exact hF _ (fun a' w' h' => ih a' w' (by omega) h'.1) a w (hs a w hi)
  exact key (μ a w + 1) a w (Nat.lt_succ_self _) h0
-- ===== reads and writes =====
def wv_gI (w : wv_W) (r : Option Nat) (ci k : Nat) (K : Int32 → Prop) : Prop := ∃ (a : Nat) (t : wv_T) (fs : List Value) (x : Int32), r = some a ∧ w.1 a = some (t, wo_o ci fs) ∧ fs[k]? = some (.int x) ∧ K x
def wv_gA (w : wv_W) (r : Option Nat) (ci k : Nat) (K : Option Nat → Prop) : Prop := ∃ (a : Nat) (t : wv_T) (fs : List Value) (x : Option Nat), r = some a ∧ w.1 a = some (t, wo_o ci fs) ∧ fs[k]? = some (va_rf x) ∧ K x
def wv_pt (w : wv_W) (r : Option Nat) (ci k : Nat) (v : Value) (K : wv_W → Prop) : Prop := ∃ (a : Nat) (t : wv_T) (fs : List Value), r = some a ∧ w.1 a = some (t, wo_o ci fs) ∧ t.1 ≠ 0 ∧ k < fs.length ∧ K (wv_up w.1 a (t, wo_o ci (fs.set k v)), w.2)
/-- what a small field keeps whole -/
def wv_fit (ty : FieldType) (x : Int32) : Prop := narrow ty (.int x) = .int x ∧ fits ty (.int x) = true
def wv_no (G : wv_G) (w : wv_W) (o : wv_O) (n : Nat) (K : Nat → wv_W → Prop) : Prop := 1 ≤ w.2.1 ∧ n ≤ w.2.2 ∧ ∀ a : Nat, w.1 a = none → wv_b G ≤ a → ∃ t : wv_T, K a (wv_up w.1 a (t, o), w.2.1 - 1, w.2.2 - n)
def wv_na (G : wv_G) (w : wv_W) (n : Int32) (o : Nat → wv_O) (K : Nat → wv_W → Prop) : Prop := ∃ N : Nat, n = nI N ∧ N ≤ 100000 ∧ wv_no G w (o N) N K
def wv_li (G : wv_G) (kk : Nat) (w : wv_W) (r : Option Nat) (i : Int32) (K : Int32 → Prop) : Prop := ∃ (a : Nat) (t : wv_T) (n : Nat) (f : Nat → Int32), r = some a ∧ w.1 a = some (t, wo_i (wv_A G kk) n f) ∧ vp_in i n ∧ K (f i.toNatClampNeg)
def wv_ll (G : wv_G) (w : wv_W) (r : Option Nat) (i : Int32) (K : Int64 → Prop) : Prop := ∃ (a : Nat) (t : wv_T) (n : Nat) (f : Nat → Int64), r = some a ∧ w.1 a = some (t, wo_l (wv_A G 3) n f) ∧ vp_in i n ∧ K (f i.toNatClampNeg)
def wv_ld (G : wv_G) (w : wv_W) (r : Option Nat) (i : Int32) (K : UInt64 → Prop) : Prop := ∃ (a : Nat) (t : wv_T) (n : Nat) (f : Nat → UInt64), r = some a ∧ w.1 a = some (t, wo_d (wv_A G 4) n f) ∧ vp_in i n ∧ K (f i.toNatClampNeg)
def wv_lq (G : wv_G) (kk : Nat) (w : wv_W) (r : Option Nat) (i : Int32) (K : Option Nat → Prop) : Prop := ∃ (a : Nat) (t : wv_T) (n : Nat) (f : Nat → Option Nat), r = some a ∧ w.1 a = some (t, wo_q (wv_A G kk) n f) ∧ vp_in i n ∧ K (f i.toNatClampNeg)
def wv_lenI (G : wv_G) (kk : Nat) (w : wv_W) (r : Option Nat) (K : Int32 → Prop) : Prop := ∃ (a : Nat) (t : wv_T) (n : Nat) (f : Nat → Int32), r = some a ∧ w.1 a = some (t, wo_i (wv_A G kk) n f) ∧ K (nI n)
def wv_lenQ (G : wv_G) (kk : Nat) (w : wv_W) (r : Option Nat) (K : Int32 → Prop) : Prop := ∃ (a : Nat) (t : wv_T) (n : Nat) (f : Nat → Option Nat), r = some a ∧ w.1 a = some (t, wo_q (wv_A G kk) n f) ∧ K (nI n)
def wv_si (G : wv_G) (kk : Nat) (w : wv_W) (r : Option Nat) (i x : Int32) (K : wv_W → Prop) : Prop := ∃ (a : Nat) (t : wv_T) (n : Nat) (f : Nat → Int32), r = some a ∧ w.1 a = some (t, wo_i (wv_A G kk) n f) ∧ t.1 ≠ 0 ∧ vp_in i n ∧ K (wv_up w.1 a (t, wo_i (wv_A G kk) n (upd f i.toNatClampNeg x)), w.2)
def wv_sl (G : wv_G) (w : wv_W) (r : Option Nat) (i : Int32) (x : Int64) (K : wv_W → Prop) : Prop := ∃ (a : Nat) (t : wv_T) (n : Nat) (f : Nat → Int64), r = some a ∧ w.1 a = some (t, wo_l (wv_A G 3) n f) ∧ t.1 ≠ 0 ∧ vp_in i n ∧ K (wv_up w.1 a (t, wo_l (wv_A G 3) n (vp_updL f i.toNatClampNeg x)), w.2)
def wv_sd (G : wv_G) (w : wv_W) (r : Option Nat) (i : Int32) (x : UInt64) (K : wv_W → Prop) : Prop := ∃ (a : Nat) (t : wv_T) (n : Nat) (f : Nat → UInt64), r = some a ∧ w.1 a = some (t, wo_d (wv_A G 4) n f) ∧ t.1 ≠ 0 ∧ vp_in i n ∧ K (wv_up w.1 a (t, wo_d (wv_A G 4) n (vf_upd f i.toNatClampNeg x)), w.2)
def wv_sq (G : wv_G) (kk : Nat) (E : String) (w : wv_W) (r : Option Nat) (i : Int32) (v : Option Nat) (K : wv_W → Prop) : Prop := ∃ (a : Nat) (t : wv_T) (n : Nat) (f : Nat → Option Nat), r = some a ∧ w.1 a = some (t, wo_q (wv_A G kk) n f) ∧ t.1 ≠ 0 ∧ vp_in i n ∧ (∀ b, v = some b → ∃ C, wv_is G w.1 b C ∧ (C = E ∧ C ≠ "java/lang/Object" ∨ Cond.castable C E ∈ lw_tbl)) ∧ K (wv_up w.1 a (t, wo_q (wv_A G kk) n (va_up f i.toNatClampNeg v)), w.2)
def wv_cc (G : wv_G) (w : wv_W) (r : Option Nat) (C : String) (K : Prop) : Prop := (∀ a, r = some a → ∃ C', wv_is G w.1 a C' ∧ (C' = C ∨ Cond.castable C' C ∈ lw_tbl)) ∧ K
-- ===== calls =====
def wv_c0 (G : wv_G) (fr : Nat) (y : MethodName) (av : List Value) (w : wv_W) (K : wv_R → wv_W → Prop) : Prop := ∃ (fr' kc ks : Nat) (P : wv_R → wv_H → Prop), wv_C G y av w.1 fr' kc ks P ∧ fr' < fr ∧ kc ≤ w.2.1 ∧ ks ≤ w.2.2 ∧ ∀ r h', P r h' → K r (h', w.2.1 - kc, w.2.2 - ks)
def wv_cV (G : wv_G) (fr : Nat) (y : MethodName) (r : Option Nat) (As : List Value) (w : wv_W) (K : wv_R → wv_W → Prop) : Prop := ∃ b, r = some b ∧ wv_is G w.1 b y.cls ∧ wv_c0 G fr y (.ref b :: As) w K
def wv_cI (G : wv_G) (fr : Nat) (y : MethodName) (r : Option Nat) (As : List Value) (w : wv_W) (K : wv_R → wv_W → Prop) : Prop := ∃ b, r = some b ∧ wv_c0 G fr y (.ref b :: As) w K
def wv_cF (G : wv_G) (fr : Nat) (x : MethodName) (r : Option Nat) (As : List Value) (w : wv_W) (K : wv_R → wv_W → Prop) : Prop := ∃ (b : Nat) (C : String) (y : MethodName), r = some b ∧ wv_is G w.1 b C ∧ wv_face C x y ∧ wv_c0 G fr y (.ref b :: As) w K
def wv_rI (K : Int32 → wv_W → Prop) (KX : String → Nat → wv_W → Prop) (r : wv_R) (w : wv_W) : Prop := (∃ x : Int32, r = .inl (some (.int x)) ∧ K x w) ∨ (∃ E q, r = .inr (E, q) ∧ KX E q w)
def wv_rJ (K : Int64 → wv_W → Prop) (KX : String → Nat → wv_W → Prop) (r : wv_R) (w : wv_W) : Prop := (∃ x : Int64, r = .inl (some (.long x)) ∧ K x w) ∨ (∃ E q, r = .inr (E, q) ∧ KX E q w)
def wv_rF (K : UInt32 → wv_W → Prop) (KX : String → Nat → wv_W → Prop) (r : wv_R) (w : wv_W) : Prop := (∃ x : UInt32, r = .inl (some (.float x)) ∧ K x w) ∨ (∃ E q, r = .inr (E, q) ∧ KX E q w)
def wv_rD (K : UInt64 → wv_W → Prop) (KX : String → Nat → wv_W → Prop) (r : wv_R) (w : wv_W) : Prop := (∃ x : UInt64, r = .inl (some (.double x)) ∧ K x w) ∨ (∃ E q, r = .inr (E, q) ∧ KX E q w)
def wv_rA (K : Option Nat → wv_W → Prop) (KX : String → Nat → wv_W → Prop) (r : wv_R) (w : wv_W) : Prop := (∃ x : Option Nat, r = .inl (some (va_rf x)) ∧ K x w) ∨ (∃ E q, r = .inr (E, q) ∧ KX E q w)
def wv_rV (K : wv_W → Prop) (KX : String → Nat → wv_W → Prop) (r : wv_R) (w : wv_W) : Prop := (r = .inl none ∧ K w) ∨ (∃ E q, r = .inr (E, q) ∧ KX E q w)
/-- not caught here -/
def wv_pr (P : wv_R → wv_H → Prop) : String → Nat → wv_W → Prop := fun E q w => P (.inr (E, q)) w.1
/-- a throw of the object r -/
def wv_at (w : wv_W) (r : Option Nat) (KX : String → Nat → wv_W → Prop) : Prop := ∃ (a : Nat) (t : wv_T) (ci : Nat) (fs : List Value) (q : vw_C), r = some a ∧ w.1 a = some (t, wo_o ci fs) ∧ wv_cl[ci]? = some q ∧ KX q.1 a w

theorem wq_gI (X : wv_ok G p R s m args meth c fr own cc nL ret nm tb) (S : wv_S G R s w H locs cells slots) {ci index N k : Nat} {C : String} {T : u_T} {r : Option Nat} {K : Int32 → Prop} (hv : wv_gI w r ci k K) (hc : wv_cl[ci]? = some (C, T, N)) (hin : ∀ x ∈ u_ws C T N, x ∈ lw_all) (hk : k < N) (hlink : Cond.fieldLink own index (T k).1 (T k).2.1 (T k).2.2.1 ∈ lw_all) (hdg : decode cc pc = .ok (.getfield index, 3))
    (kk : ∀ x : Int32, K x → W p G.1 e R s m args below meth c H locs cells slots Q (F0 m (pc + 3) ls (.int x :: rest))) : W p G.1 e R s m args below meth c H locs cells slots Q (F0 m pc ls (va_rf r :: rest)) := by
  obtain ⟨a, t, fs, x, rfl, h1, h2, h3⟩ := hv
  exact wr_get X S h1 h2 hc hin hk hlink hdg (kk x h3)
theorem wq_gA (X : wv_ok G p R s m args meth c fr own cc nL ret nm tb) (S : wv_S G R s w H locs cells slots) {ci index N k : Nat} {C : String} {T : u_T} {r : Option Nat} {K : Option Nat → Prop} (hv : wv_gA w r ci k K) (hc : wv_cl[ci]? = some (C, T, N)) (hin : ∀ x ∈ u_ws C T N, x ∈ lw_all) (hk : k < N) (hlink : Cond.fieldLink own index (T k).1 (T k).2.1 (T k).2.2.1 ∈ lw_all) (hdg : decode cc pc = .ok (.getfield index, 3))
    (kk : ∀ x : Option Nat, K x → W p G.1 e R s m args below meth c H locs cells slots Q (F0 m (pc + 3) ls (va_rf x :: rest))) : W p G.1 e R s m args below meth c H locs cells slots Q (F0 m pc ls (va_rf r :: rest)) := by
  obtain ⟨a, t, fs, x, rfl, h1, h2, h3⟩ := hv
  exact wr_get X S h1 h2 hc hin hk hlink hdg (kk x h3)
theorem wq_gIN (X : wv_ok G p R s m args meth c fr own cc nL ret nm tb) (S : wv_S G R s w H locs cells slots) {ci index N k : Nat} {C : String} {T : u_T} {r : Option Nat} {host : String} {K : Int32 → Prop} (hv : wv_gI w r ci k K) (hc : wv_cl[ci]? = some (C, T, N)) (hin : ∀ x ∈ u_ws C T N, x ∈ lw_all) (hk : k < N) (hlink : Cond.fieldLinkNest own index (T k).1 (T k).2.1 (T k).2.2.1 host ∈ lw_tbl) (hdg : decode cc pc = .ok (.getfield index, 3))
    (kk : ∀ x : Int32, K x → W p G.1 e R s m args below meth c H locs cells slots Q (F0 m (pc + 3) ls (.int x :: rest))) : W p G.1 e R s m args below meth c H locs cells slots Q (F0 m pc ls (va_rf r :: rest)) := by
  obtain ⟨a, t, fs, x, rfl, h1, h2, h3⟩ := hv
  exact wr_getN X S h1 h2 hc hin hk hlink hdg (kk x h3)
theorem wq_gAN (X : wv_ok G p R s m args meth c fr own cc nL ret nm tb) (S : wv_S G R s w H locs cells slots) {ci index N k : Nat} {C : String} {T : u_T} {r : Option Nat} {host : String} {K : Option Nat → Prop} (hv : wv_gA w r ci k K) (hc : wv_cl[ci]? = some (C, T, N)) (hin : ∀ x ∈ u_ws C T N, x ∈ lw_all) (hk : k < N) (hlink : Cond.fieldLinkNest own index (T k).1 (T k).2.1 (T k).2.2.1 host ∈ lw_tbl) (hdg : decode cc pc = .ok (.getfield index, 3))
    (kk : ∀ x : Option Nat, K x → W p G.1 e R s m args below meth c H locs cells slots Q (F0 m (pc + 3) ls (va_rf x :: rest))) : W p G.1 e R s m args below meth c H locs cells slots Q (F0 m pc ls (va_rf r :: rest)) := by
  obtain ⟨a, t, fs, x, rfl, h1, h2, h3⟩ := hv
  exact wr_getN X S h1 h2 hc hin hk hlink hdg (kk x h3)
theorem wq_gIS (X : wv_ok G p R s m args meth c fr own cc nL ret nm tb) (S : wv_S G R s w H locs cells slots) {ci index N k : Nat} {C : String} {T : u_T} {r : Option Nat} {ref : String} {K : Int32 → Prop} (hv : wv_gI w r ci k K) (hc : wv_cl[ci]? = some (C, T, N)) (hin : ∀ x ∈ u_ws C T N, x ∈ lw_all) (hk : k < N) (hlink : Cond.fieldLink own index ref (T k).2.1 (T k).2.2.1 ∈ lw_all) (hsame : Cond.sameField ref (T k).1 (T k).2.1 (T k).2.2.1 ∈ lw_all) (hdg : decode cc pc = .ok (.getfield index, 3))
    (kk : ∀ x : Int32, K x → W p G.1 e R s m args below meth c H locs cells slots Q (F0 m (pc + 3) ls (.int x :: rest))) : W p G.1 e R s m args below meth c H locs cells slots Q (F0 m pc ls (va_rf r :: rest)) := by
  obtain ⟨a, t, fs, x, rfl, h1, h2, h3⟩ := hv
  exact wr_getS X S h1 h2 hc hin hk hlink hsame hdg (kk x h3)
theorem wq_pt (X : wv_ok G p R s m args meth c fr own cc nL ret nm tb) (S : wv_S G R s w H locs cells slots) {ci index N k : Nat} {C : String} {T : u_T} {r : Option Nat} {v : Value} {ty : FieldType} {K : wv_W → Prop} (hv : wv_pt w r ci k v K) (ty0 : Nat → FieldType) (hty : ∀ k, k < N → parseFieldDescriptor (T k).2.2.1 = some (ty0 k)) (hnm : ∀ a, a < N → ∀ b, b < N → a ≠ b → (T a).2.1 ≠ (T b).2.1) (hc : wv_cl[ci]? = some (C, T, N)) (hin : ∀ x ∈ u_ws C T N, x ∈ lw_all) (hk : k < N) (hlink : Cond.fieldLink own index (T k).1 (T k).2.1 (T k).2.2.1 ∈ lw_all) (hfin : (T k).2.2.2 = false) (hd : ty0 k = ty) (hn : narrow ty v = v) (hfit : fits ty v = true) (hdg : decode cc pc = .ok (.putfield index, 3))
    (kk : ∀ (w1 : wv_W) (H1 : Heap) (locs1 : List Loc), wv_S G R s w1 H1 locs1 cells slots → K w1 → W p G.1 e R s m args below meth c H1 locs1 cells slots Q (F0 m (pc + 3) ls rest)) : W p G.1 e R s m args below meth c H locs cells slots Q (F0 m pc ls (v :: va_rf r :: rest)) := by
  obtain ⟨a, t, fs, rfl, h1, h2, h3, h4⟩ := hv
  exact wr_put X S ty0 hty hnm h1 h2 h3 hc hin hk hlink hfin hd hn hfit hdg (fun H1 locs1 S1 => kk _ H1 locs1 S1 h4)
theorem wq_ptF (X : wv_ok G p R s m args meth c fr own cc nL ret "<init>" tb) (S : wv_S G R s w H locs cells slots) {ci index N k : Nat} {C : String} {T : u_T} {r : Option Nat} {v : Value} {ty : FieldType} {K : wv_W → Prop} (hv : wv_pt w r ci k v K) (ty0 : Nat → FieldType) (hty : ∀ k, k < N → parseFieldDescriptor (T k).2.2.1 = some (ty0 k)) (hnm : ∀ a, a < N → ∀ b, b < N → a ≠ b → (T a).2.1 ≠ (T b).2.1) (hc : wv_cl[ci]? = some (C, T, N)) (hin : ∀ x ∈ u_ws C T N, x ∈ lw_all) (hk : k < N) (hlink : Cond.fieldLink own index (T k).1 (T k).2.1 (T k).2.2.1 ∈ lw_all) (hfin : (T k).2.2.2 = true) (hdecl : (T k).1 = own) (hd : ty0 k = ty) (hn : narrow ty v = v) (hfit : fits ty v = true) (hdg : decode cc pc = .ok (.putfield index, 3))
    (kk : ∀ (w1 : wv_W) (H1 : Heap) (locs1 : List Loc), wv_S G R s w1 H1 locs1 cells slots → K w1 → W p G.1 e R s m args below meth c H1 locs1 cells slots Q (F0 m (pc + 3) ls rest)) : W p G.1 e R s m args below meth c H locs cells slots Q (F0 m pc ls (v :: va_rf r :: rest)) := by
  obtain ⟨a, t, fs, rfl, h1, h2, h3, h4⟩ := hv
  exact wr_putF X S ty0 hty hnm h1 h2 h3 hc hin hk hlink hfin hdecl hd hn hfit hdg (fun H1 locs1 S1 => kk _ H1 locs1 S1 h4)
theorem wq_ptN (X : wv_ok G p R s m args meth c fr own cc nL ret nm tb) (S : wv_S G R s w H locs cells slots) {ci index N k : Nat} {C : String} {T : u_T} {r : Option Nat} {host : String} {v : Value} {ty : FieldType} {K : wv_W → Prop} (hv : wv_pt w r ci k v K) (ty0 : Nat → FieldType) (hty : ∀ k, k < N → parseFieldDescriptor (T k).2.2.1 = some (ty0 k)) (hnm : ∀ a, a < N → ∀ b, b < N → a ≠ b → (T a).2.1 ≠ (T b).2.1) (hc : wv_cl[ci]? = some (C, T, N)) (hin : ∀ x ∈ u_ws C T N, x ∈ lw_all) (hk : k < N) (hlink : Cond.fieldLinkNest own index (T k).1 (T k).2.1 (T k).2.2.1 host ∈ lw_tbl) (hfin : (T k).2.2.2 = false) (hd : ty0 k = ty) (hn : narrow ty v = v) (hfit : fits ty v = true) (hdg : decode cc pc = .ok (.putfield index, 3))
    (kk : ∀ (w1 : wv_W) (H1 : Heap) (locs1 : List Loc), wv_S G R s w1 H1 locs1 cells slots → K w1 → W p G.1 e R s m args below meth c H1 locs1 cells slots Q (F0 m (pc + 3) ls rest)) : W p G.1 e R s m args below meth c H locs cells slots Q (F0 m pc ls (v :: va_rf r :: rest)) := by
  obtain ⟨a, t, fs, rfl, h1, h2, h3, h4⟩ := hv
  exact wr_putN X S ty0 hty hnm h1 h2 h3 hc hin hk hlink hfin hd hn hfit hdg (fun H1 locs1 S1 => kk _ H1 locs1 S1 h4)
theorem wv_fnA {ty : FieldType} {r : Option Nat} (h : (∃ n, ty = .object n) ∨ ∃ t, ty = .array t) : narrow ty (va_rf r) = va_rf r ∧ fits ty (va_rf r) = true := by
  rcases h with ⟨n, rfl⟩ | ⟨t, rfl⟩ <;> cases r <;> exact ⟨rfl, rfl⟩
theorem wq_new (X : wv_ok G p R s m args meth c fr own cc nL ret nm tb) (S : wv_S G R s w H locs cells slots) {ci index N : Nat} {C : String} {T : u_T} {fs : List Value} {K : Nat → wv_W → Prop} (hv : wv_no G w (wo_o ci fs) N K) (ty : Nat → FieldType) (hty : ∀ k, k < N → parseFieldDescriptor (T k).2.2.1 = some (ty k)) (hc : wv_cl[ci]? = some (C, T, N)) (hin : ∀ x ∈ u_ws C T N, x ∈ lw_all) (hcl : Cond.classLink own index C ∈ lw_all) (hinst : Cond.instantiable C N ∈ lw_all) (hini : Cond.initialized C ∈ lw_all) (hfs : ∀ j, j < N → defaultValue (ty j) = vp_V fs j) (hdg : decode cc pc = .ok (.new index, 3))
    (kk : ∀ (a : Nat) (w1 : wv_W) (H1 : Heap) (cells1 slots1 : Nat), wv_S G R s w1 H1 locs cells1 slots1 → K a w1 → W p G.1 e R s m args below meth c H1 locs cells1 slots1 Q (F0 m (pc + 3) ls (va_rf (some a) :: rest))) : W p G.1 e R s m args below meth c H locs cells slots Q (F0 m pc ls rest) := by
  obtain ⟨h1, h2, h3⟩ := hv
  obtain ⟨t, h4⟩ := h3 H.size S.1.fresh S.1.1
  exact wr_new X S ty hty t hc hin hcl hinst hini hfs h1 h2 hdg (fun H1 S1 => kk _ _ H1 _ _ S1 h4)
theorem wq_nwi (X : wv_ok G p R s m args meth c fr own cc nL ret nm tb) (S : wv_S G R s w H locs cells slots) {n : Int32} {K : Nat → wv_W → Prop} (hv : wv_na G w n (fun N => wo_i (wv_A G 0) N (fun _ => 0)) K) (harr : Cond.arrayClass (newarray.typeOf .int) ∈ lw_all) (hdg : decode cc pc = .ok (.newarray .int, 2))
    (kk : ∀ (a : Nat) (w1 : wv_W) (H1 : Heap) (cells1 slots1 : Nat), wv_S G R s w1 H1 locs cells1 slots1 → K a w1 → W p G.1 e R s m args below meth c H1 locs cells1 slots1 Q (F0 m (pc + 2) ls (va_rf (some a) :: rest))) : W p G.1 e R s m args below meth c H locs cells slots Q (F0 m pc ls (.int n :: rest)) := by
  obtain ⟨N, hN, hN2, h1, h2, h3⟩ := hv
  obtain ⟨t, h4⟩ := h3 H.size S.1.fresh S.1.1
  exact wr_nwi X S N t harr hN hN2 h1 h2 hdg (fun H1 S1 => kk _ _ H1 _ _ S1 h4)
theorem wq_nwc (X : wv_ok G p R s m args meth c fr own cc nL ret nm tb) (S : wv_S G R s w H locs cells slots) {n : Int32} {K : Nat → wv_W → Prop} (hv : wv_na G w n (fun N => wo_i (wv_A G 1) N (fun _ => 0)) K) (harr : Cond.arrayClass (newarray.typeOf .char) ∈ lw_all) (hdg : decode cc pc = .ok (.newarray .char, 2))
    (kk : ∀ (a : Nat) (w1 : wv_W) (H1 : Heap) (cells1 slots1 : Nat), wv_S G R s w1 H1 locs cells1 slots1 → K a w1 → W p G.1 e R s m args below meth c H1 locs cells1 slots1 Q (F0 m (pc + 2) ls (va_rf (some a) :: rest))) : W p G.1 e R s m args below meth c H locs cells slots Q (F0 m pc ls (.int n :: rest)) := by
  obtain ⟨N, hN, hN2, h1, h2, h3⟩ := hv
  obtain ⟨t, h4⟩ := h3 H.size S.1.fresh S.1.1
  exact wr_nwc X S N t harr hN hN2 h1 h2 hdg (fun H1 S1 => kk _ _ H1 _ _ S1 h4)
theorem wq_nwz (X : wv_ok G p R s m args meth c fr own cc nL ret nm tb) (S : wv_S G R s w H locs cells slots) {n : Int32} {K : Nat → wv_W → Prop} (hv : wv_na G w n (fun N => wo_i (wv_A G 2) N (fun _ => 0)) K) (harr : Cond.arrayClass (newarray.typeOf .boolean) ∈ lw_all) (hdg : decode cc pc = .ok (.newarray .boolean, 2))
    (kk : ∀ (a : Nat) (w1 : wv_W) (H1 : Heap) (cells1 slots1 : Nat), wv_S G R s w1 H1 locs cells1 slots1 → K a w1 → W p G.1 e R s m args below meth c H1 locs cells1 slots1 Q (F0 m (pc + 2) ls (va_rf (some a) :: rest))) : W p G.1 e R s m args below meth c H locs cells slots Q (F0 m pc ls (.int n :: rest)) := by
  obtain ⟨N, hN, hN2, h1, h2, h3⟩ := hv
  obtain ⟨t, h4⟩ := h3 H.size S.1.fresh S.1.1
  exact wr_nwz X S N t harr hN hN2 h1 h2 hdg (fun H1 S1 => kk _ _ H1 _ _ S1 h4)
theorem wq_nwl (X : wv_ok G p R s m args meth c fr own cc nL ret nm tb) (S : wv_S G R s w H locs cells slots) {n : Int32} {K : Nat → wv_W → Prop} (hv : wv_na G w n (fun N => wo_l (wv_A G 3) N (fun _ => 0)) K) (harr : Cond.arrayClass (newarray.typeOf .long) ∈ lw_all) (hdg : decode cc pc = .ok (.newarray .long, 2))
    (kk : ∀ (a : Nat) (w1 : wv_W) (H1 : Heap) (cells1 slots1 : Nat), wv_S G R s w1 H1 locs cells1 slots1 → K a w1 → W p G.1 e R s m args below meth c H1 locs cells1 slots1 Q (F0 m (pc + 2) ls (va_rf (some a) :: rest))) : W p G.1 e R s m args below meth c H locs cells slots Q (F0 m pc ls (.int n :: rest)) := by
  obtain ⟨N, hN, hN2, h1, h2, h3⟩ := hv
  obtain ⟨t, h4⟩ := h3 H.size S.1.fresh S.1.1
  exact wr_nwl X S N t harr hN hN2 h1 h2 hdg (fun H1 S1 => kk _ _ H1 _ _ S1 h4)
theorem wq_nwd (X : wv_ok G p R s m args meth c fr own cc nL ret nm tb) (S : wv_S G R s w H locs cells slots) {n : Int32} {K : Nat → wv_W → Prop} (hv : wv_na G w n (fun N => wo_d (wv_A G 4) N (fun _ => 0)) K) (harr : Cond.arrayClass (newarray.typeOf .double) ∈ lw_all) (hdg : decode cc pc = .ok (.newarray .double, 2))
    (kk : ∀ (a : Nat) (w1 : wv_W) (H1 : Heap) (cells1 slots1 : Nat), wv_S G R s w1 H1 locs cells1 slots1 → K a w1 → W p G.1 e R s m args below meth c H1 locs cells1 slots1 Q (F0 m (pc + 2) ls (va_rf (some a) :: rest))) : W p G.1 e R s m args below meth c H locs cells slots Q (F0 m pc ls (.int n :: rest)) := by
  obtain ⟨N, hN, hN2, h1, h2, h3⟩ := hv
  obtain ⟨t, h4⟩ := h3 H.size S.1.fresh S.1.1
  exact wr_nwd X S N t harr hN hN2 h1 h2 hdg (fun H1 S1 => kk _ _ H1 _ _ S1 h4)
theorem wq_nwq5 (X : wv_ok G p R s m args meth c fr own cc nL ret nm tb) (S : wv_S G R s w H locs cells slots) {n : Int32} {index : Nat} {K : Nat → wv_W → Prop} (hv : wv_na G w n (fun N => wo_q (wv_A G 5) N (fun _ => none)) K) (hcl : Cond.classLink own index "java/lang/Object" ∈ lw_all) (hov : Cond.arrayOver (.object "java/lang/Object") ∈ lw_tbl) (hdg : decode cc pc = .ok (.anewarray index, 3))
    (kk : ∀ (a : Nat) (w1 : wv_W) (H1 : Heap) (cells1 slots1 : Nat), wv_S G R s w1 H1 locs cells1 slots1 → K a w1 → W p G.1 e R s m args below meth c H1 locs cells1 slots1 Q (F0 m (pc + 3) ls (va_rf (some a) :: rest))) : W p G.1 e R s m args below meth c H locs cells slots Q (F0 m pc ls (.int n :: rest)) := by
  obtain ⟨N, hN, hN2, h1, h2, h3⟩ := hv
  obtain ⟨t, h4⟩ := h3 H.size S.1.fresh S.1.1
  exact wr_nwq5 X S N t hcl hov hN (by omega) h1 h2 hdg (fun H1 S1 => kk _ _ H1 _ _ S1 h4)
theorem wq_lq5 (X : wv_ok G p R s m args meth c fr own cc nL ret nm tb) (S : wv_S G R s w H locs cells slots) {r : Option Nat} {i : Int32} {K : Option Nat → Prop} (hv : wv_lq G 5 w r i K) (hdg : decode cc pc = .ok (.aaload, 1))
    (kk : ∀ x : Option Nat, K x → W p G.1 e R s m args below meth c H locs cells slots Q (F0 m (pc + 1) ls (va_rf x :: rest))) : W p G.1 e R s m args below meth c H locs cells slots Q (F0 m pc ls (.int i :: va_rf r :: rest)) := by
  obtain ⟨a, t, n, f, rfl, h1, h2, h3⟩ := hv
  exact wr_qld5 X S h1 h2 hdg (kk _ h3)
theorem wq_sq5 (X : wv_ok G p R s m args meth c fr own cc nL ret nm tb) (S : wv_S G R s w H locs cells slots) {r v : Option Nat} {i : Int32} {K : wv_W → Prop} (hv : wv_sq G 5 "java/lang/Object" w r i v K) (hdg : decode cc pc = .ok (.aastore, 1))
    (kk : ∀ (w1 : wv_W) (H1 : Heap) (locs1 : List Loc), wv_S G R s w1 H1 locs1 cells slots → K w1 → W p G.1 e R s m args below meth c H1 locs1 cells slots Q (F0 m (pc + 1) ls rest)) : W p G.1 e R s m args below meth c H locs cells slots Q (F0 m pc ls (va_rf v :: .int i :: va_rf r :: rest)) := by
  obtain ⟨a, t, n, f, rfl, h1, h2, h3, h4, h5⟩ := hv
  cases v with
  | none => exact wr_qnull5 X S h1 h2 h3 hdg (fun H1 locs1 S1 => kk _ H1 locs1 S1 h5)
  | some b =>
    obtain ⟨C, g1, g2⟩ := h4 b rfl
    exact wr_qst5 X S h1 h2 h3 g1 g2 hdg (fun H1 locs1 S1 => kk _ H1 locs1 S1 h5)
theorem wq_nwq6 (X : wv_ok G p R s m args meth c fr own cc nL ret nm tb) (S : wv_S G R s w H locs cells slots) {n : Int32} {index : Nat} {K : Nat → wv_W → Prop} (hv : wv_na G w n (fun N => wo_q (wv_A G 6) N (fun _ => none)) K) (hcl : Cond.classLink own index "Weaversgate$Advice" ∈ lw_all) (hov : Cond.arrayOver (.object "Weaversgate$Advice") ∈ lw_tbl) (hdg : decode cc pc = .ok (.anewarray index, 3))
    (kk : ∀ (a : Nat) (w1 : wv_W) (H1 : Heap) (cells1 slots1 : Nat), wv_S G R s w1 H1 locs cells1 slots1 → K a w1 → W p G.1 e R s m args below meth c H1 locs cells1 slots1 Q (F0 m (pc + 3) ls (va_rf (some a) :: rest))) : W p G.1 e R s m args below meth c H locs cells slots Q (F0 m pc ls (.int n :: rest)) := by
  obtain ⟨N, hN, hN2, h1, h2, h3⟩ := hv
  obtain ⟨t, h4⟩ := h3 H.size S.1.fresh S.1.1
  exact wr_nwq6 X S N t hcl hov hN (by omega) h1 h2 hdg (fun H1 S1 => kk _ _ H1 _ _ S1 h4)
theorem wq_lq6 (X : wv_ok G p R s m args meth c fr own cc nL ret nm tb) (S : wv_S G R s w H locs cells slots) {r : Option Nat} {i : Int32} {K : Option Nat → Prop} (hv : wv_lq G 6 w r i K) (hdg : decode cc pc = .ok (.aaload, 1))
    (kk : ∀ x : Option Nat, K x → W p G.1 e R s m args below meth c H locs cells slots Q (F0 m (pc + 1) ls (va_rf x :: rest))) : W p G.1 e R s m args below meth c H locs cells slots Q (F0 m pc ls (.int i :: va_rf r :: rest)) := by
  obtain ⟨a, t, n, f, rfl, h1, h2, h3⟩ := hv
  exact wr_qld6 X S h1 h2 hdg (kk _ h3)
theorem wq_sq6 (X : wv_ok G p R s m args meth c fr own cc nL ret nm tb) (S : wv_S G R s w H locs cells slots) {r v : Option Nat} {i : Int32} {K : wv_W → Prop} (hv : wv_sq G 6 "Weaversgate$Advice" w r i v K) (hdg : decode cc pc = .ok (.aastore, 1))
    (kk : ∀ (w1 : wv_W) (H1 : Heap) (locs1 : List Loc), wv_S G R s w1 H1 locs1 cells slots → K w1 → W p G.1 e R s m args below meth c H1 locs1 cells slots Q (F0 m (pc + 1) ls rest)) : W p G.1 e R s m args below meth c H locs cells slots Q (F0 m pc ls (va_rf v :: .int i :: va_rf r :: rest)) := by
  obtain ⟨a, t, n, f, rfl, h1, h2, h3, h4, h5⟩ := hv
  cases v with
  | none => exact wr_qnull6 X S h1 h2 h3 hdg (fun H1 locs1 S1 => kk _ H1 locs1 S1 h5)
  | some b =>
    obtain ⟨C, g1, g2⟩ := h4 b rfl
    exact wr_qst6 X S h1 h2 h3 g1 g2 hdg (fun H1 locs1 S1 => kk _ H1 locs1 S1 h5)
theorem wq_nwq7 (X : wv_ok G p R s m args meth c fr own cc nL ret nm tb) (S : wv_S G R s w H locs cells slots) {n : Int32} {index : Nat} {K : Nat → wv_W → Prop} (hv : wv_na G w n (fun N => wo_q (wv_A G 7) N (fun _ => none)) K) (hcl : Cond.classLink own index "WeaversgateModel$Body" ∈ lw_all) (hov : Cond.arrayOver (.object "WeaversgateModel$Body") ∈ lw_tbl) (hdg : decode cc pc = .ok (.anewarray index, 3))
    (kk : ∀ (a : Nat) (w1 : wv_W) (H1 : Heap) (cells1 slots1 : Nat), wv_S G R s w1 H1 locs cells1 slots1 → K a w1 → W p G.1 e R s m args below meth c H1 locs cells1 slots1 Q (F0 m (pc + 3) ls (va_rf (some a) :: rest))) : W p G.1 e R s m args below meth c H locs cells slots Q (F0 m pc ls (.int n :: rest)) := by
  obtain ⟨N, hN, hN2, h1, h2, h3⟩ := hv
  obtain ⟨t, h4⟩ := h3 H.size S.1.fresh S.1.1
  exact wr_nwq7 X S N t hcl hov hN (by omega) h1 h2 hdg (fun H1 S1 => kk _ _ H1 _ _ S1 h4)
theorem wq_lq7 (X : wv_ok G p R s m args meth c fr own cc nL ret nm tb) (S : wv_S G R s w H locs cells slots) {r : Option Nat} {i : Int32} {K : Option Nat → Prop} (hv : wv_lq G 7 w r i K) (hdg : decode cc pc = .ok (.aaload, 1))
    (kk : ∀ x : Option Nat, K x → W p G.1 e R s m args below meth c H locs cells slots Q (F0 m (pc + 1) ls (va_rf x :: rest))) : W p G.1 e R s m args below meth c H locs cells slots Q (F0 m pc ls (.int i :: va_rf r :: rest)) := by
  obtain ⟨a, t, n, f, rfl, h1, h2, h3⟩ := hv
  exact wr_qld7 X S h1 h2 hdg (kk _ h3)
theorem wq_sq7 (X : wv_ok G p R s m args meth c fr own cc nL ret nm tb) (S : wv_S G R s w H locs cells slots) {r v : Option Nat} {i : Int32} {K : wv_W → Prop} (hv : wv_sq G 7 "WeaversgateModel$Body" w r i v K) (hdg : decode cc pc = .ok (.aastore, 1))
    (kk : ∀ (w1 : wv_W) (H1 : Heap) (locs1 : List Loc), wv_S G R s w1 H1 locs1 cells slots → K w1 → W p G.1 e R s m args below meth c H1 locs1 cells slots Q (F0 m (pc + 1) ls rest)) : W p G.1 e R s m args below meth c H locs cells slots Q (F0 m pc ls (va_rf v :: .int i :: va_rf r :: rest)) := by
  obtain ⟨a, t, n, f, rfl, h1, h2, h3, h4, h5⟩ := hv
  cases v with
  | none => exact wr_qnull7 X S h1 h2 h3 hdg (fun H1 locs1 S1 => kk _ H1 locs1 S1 h5)
  | some b =>
    obtain ⟨C, g1, g2⟩ := h4 b rfl
    exact wr_qst7 X S h1 h2 h3 g1 g2 hdg (fun H1 locs1 S1 => kk _ H1 locs1 S1 h5)
theorem wq_li0 (X : wv_ok G p R s m args meth c fr own cc nL ret nm tb) (S : wv_S G R s w H locs cells slots) {r : Option Nat} {i : Int32} {K : Int32 → Prop} (hv : wv_li G 0 w r i K) (hdg : decode cc pc = .ok (.iaload, 1))
    (kk : ∀ x : Int32, K x → W p G.1 e R s m args below meth c H locs cells slots Q (F0 m (pc + 1) ls (.int x :: rest))) : W p G.1 e R s m args below meth c H locs cells slots Q (F0 m pc ls (.int i :: va_rf r :: rest)) := by
  obtain ⟨a, t, n, f, rfl, h1, h2, h3⟩ := hv
  exact wr_ild X S h1 h2 hdg (kk _ h3)
theorem wq_li1 (X : wv_ok G p R s m args meth c fr own cc nL ret nm tb) (S : wv_S G R s w H locs cells slots) {r : Option Nat} {i : Int32} {K : Int32 → Prop} (hv : wv_li G 1 w r i K) (hdg : decode cc pc = .ok (.caload, 1))
    (kk : ∀ x : Int32, K x → W p G.1 e R s m args below meth c H locs cells slots Q (F0 m (pc + 1) ls (.int x :: rest))) : W p G.1 e R s m args below meth c H locs cells slots Q (F0 m pc ls (.int i :: va_rf r :: rest)) := by
  obtain ⟨a, t, n, f, rfl, h1, h2, h3⟩ := hv
  exact wr_cld X S h1 h2 hdg (kk _ h3)
theorem wq_li2 (X : wv_ok G p R s m args meth c fr own cc nL ret nm tb) (S : wv_S G R s w H locs cells slots) {r : Option Nat} {i : Int32} {K : Int32 → Prop} (hv : wv_li G 2 w r i K) (hdg : decode cc pc = .ok (.baload, 1))
    (kk : ∀ x : Int32, K x → W p G.1 e R s m args below meth c H locs cells slots Q (F0 m (pc + 1) ls (.int x :: rest))) : W p G.1 e R s m args below meth c H locs cells slots Q (F0 m pc ls (.int i :: va_rf r :: rest)) := by
  obtain ⟨a, t, n, f, rfl, h1, h2, h3⟩ := hv
  exact wr_zld X S h1 h2 hdg (kk _ h3)
theorem wq_li9 (X : wv_ok G p R s m args meth c fr own cc nL ret nm tb) (S : wv_S G R s w H locs cells slots) {r : Option Nat} {i : Int32} {K : Int32 → Prop} (hv : wv_li G 9 w r i K) (hdg : decode cc pc = .ok (.baload, 1))
    (kk : ∀ x : Int32, K x → W p G.1 e R s m args below meth c H locs cells slots Q (F0 m (pc + 1) ls (.int x :: rest))) : W p G.1 e R s m args below meth c H locs cells slots Q (F0 m pc ls (.int i :: va_rf r :: rest)) := by
  obtain ⟨a, t, n, f, rfl, h1, h2, h3⟩ := hv
  exact wr_bld X S h1 h2 hdg (kk _ h3)
theorem wq_ll (X : wv_ok G p R s m args meth c fr own cc nL ret nm tb) (S : wv_S G R s w H locs cells slots) {r : Option Nat} {i : Int32} {K : Int64 → Prop} (hv : wv_ll G w r i K) (hdg : decode cc pc = .ok (.laload, 1))
    (kk : ∀ x : Int64, K x → W p G.1 e R s m args below meth c H locs cells slots Q (F0 m (pc + 1) ls (.long x :: rest))) : W p G.1 e R s m args below meth c H locs cells slots Q (F0 m pc ls (.int i :: va_rf r :: rest)) := by
  obtain ⟨a, t, n, f, rfl, h1, h2, h3⟩ := hv
  exact wr_lld X S h1 h2 hdg (kk _ h3)
theorem wq_ld (X : wv_ok G p R s m args meth c fr own cc nL ret nm tb) (S : wv_S G R s w H locs cells slots) {r : Option Nat} {i : Int32} {K : UInt64 → Prop} (hv : wv_ld G w r i K) (hdg : decode cc pc = .ok (.daload, 1))
    (kk : ∀ x : UInt64, K x → W p G.1 e R s m args below meth c H locs cells slots Q (F0 m (pc + 1) ls (.double x :: rest))) : W p G.1 e R s m args below meth c H locs cells slots Q (F0 m pc ls (.int i :: va_rf r :: rest)) := by
  obtain ⟨a, t, n, f, rfl, h1, h2, h3⟩ := hv
  exact wr_dld X S h1 h2 hdg (kk _ h3)
theorem wq_si0 (X : wv_ok G p R s m args meth c fr own cc nL ret nm tb) (S : wv_S G R s w H locs cells slots) {r : Option Nat} {i : Int32} {x : Int32} {K : wv_W → Prop} (hv : wv_si G 0 w r i x K) (hdg : decode cc pc = .ok (.iastore, 1))
    (kk : ∀ (w1 : wv_W) (H1 : Heap) (locs1 : List Loc), wv_S G R s w1 H1 locs1 cells slots → K w1 → W p G.1 e R s m args below meth c H1 locs1 cells slots Q (F0 m (pc + 1) ls rest)) : W p G.1 e R s m args below meth c H locs cells slots Q (F0 m pc ls (.int x :: .int i :: va_rf r :: rest)) := by
  obtain ⟨a, t, n, f, rfl, h1, h2, h3, h4⟩ := hv
  exact wr_ist X S h1 h2 h3 hdg (fun H1 locs1 S1 => kk _ H1 locs1 S1 h4)
theorem wq_si1 (X : wv_ok G p R s m args meth c fr own cc nL ret nm tb) (S : wv_S G R s w H locs cells slots) {r : Option Nat} {i : Int32} {x : Int32} {K : wv_W → Prop} (hv : wv_si G 1 w r i (vp_nar .char x) K) (hdg : decode cc pc = .ok (.castore, 1))
    (kk : ∀ (w1 : wv_W) (H1 : Heap) (locs1 : List Loc), wv_S G R s w1 H1 locs1 cells slots → K w1 → W p G.1 e R s m args below meth c H1 locs1 cells slots Q (F0 m (pc + 1) ls rest)) : W p G.1 e R s m args below meth c H locs cells slots Q (F0 m pc ls (.int x :: .int i :: va_rf r :: rest)) := by
  obtain ⟨a, t, n, f, rfl, h1, h2, h3, h4⟩ := hv
  exact wr_cst X S h1 h2 h3 hdg (fun H1 locs1 S1 => kk _ H1 locs1 S1 h4)
theorem wq_si2 (X : wv_ok G p R s m args meth c fr own cc nL ret nm tb) (S : wv_S G R s w H locs cells slots) {r : Option Nat} {i : Int32} {x : Int32} {K : wv_W → Prop} (hv : wv_si G 2 w r i (vp_nar .boolean x) K) (hdg : decode cc pc = .ok (.bastore, 1))
    (kk : ∀ (w1 : wv_W) (H1 : Heap) (locs1 : List Loc), wv_S G R s w1 H1 locs1 cells slots → K w1 → W p G.1 e R s m args below meth c H1 locs1 cells slots Q (F0 m (pc + 1) ls rest)) : W p G.1 e R s m args below meth c H locs cells slots Q (F0 m pc ls (.int x :: .int i :: va_rf r :: rest)) := by
  obtain ⟨a, t, n, f, rfl, h1, h2, h3, h4⟩ := hv
  exact wr_zst X S h1 h2 h3 hdg (fun H1 locs1 S1 => kk _ H1 locs1 S1 h4)
theorem wq_sl (X : wv_ok G p R s m args meth c fr own cc nL ret nm tb) (S : wv_S G R s w H locs cells slots) {r : Option Nat} {i : Int32} {x : Int64} {K : wv_W → Prop} (hv : wv_sl G w r i x K) (hdg : decode cc pc = .ok (.lastore, 1))
    (kk : ∀ (w1 : wv_W) (H1 : Heap) (locs1 : List Loc), wv_S G R s w1 H1 locs1 cells slots → K w1 → W p G.1 e R s m args below meth c H1 locs1 cells slots Q (F0 m (pc + 1) ls rest)) : W p G.1 e R s m args below meth c H locs cells slots Q (F0 m pc ls (.long x :: .int i :: va_rf r :: rest)) := by
  obtain ⟨a, t, n, f, rfl, h1, h2, h3, h4⟩ := hv
  exact wr_lst X S h1 h2 h3 hdg (fun H1 locs1 S1 => kk _ H1 locs1 S1 h4)
theorem wq_sd (X : wv_ok G p R s m args meth c fr own cc nL ret nm tb) (S : wv_S G R s w H locs cells slots) {r : Option Nat} {i : Int32} {x : UInt64} {K : wv_W → Prop} (hv : wv_sd G w r i x K) (hdg : decode cc pc = .ok (.dastore, 1))
    (kk : ∀ (w1 : wv_W) (H1 : Heap) (locs1 : List Loc), wv_S G R s w1 H1 locs1 cells slots → K w1 → W p G.1 e R s m args below meth c H1 locs1 cells slots Q (F0 m (pc + 1) ls rest)) : W p G.1 e R s m args below meth c H locs cells slots Q (F0 m pc ls (.double x :: .int i :: va_rf r :: rest)) := by
  obtain ⟨a, t, n, f, rfl, h1, h2, h3, h4⟩ := hv
  exact wr_dst X S h1 h2 h3 hdg (fun H1 locs1 S1 => kk _ H1 locs1 S1 h4)
theorem wq_len0 (X : wv_ok G p R s m args meth c fr own cc nL ret nm tb) (S : wv_S G R s w H locs cells slots) {r : Option Nat} {K : Int32 → Prop} (hv : wv_lenI G 0 w r K) (hdg : decode cc pc = .ok (.arraylength, 1))
    (kk : ∀ x : Int32, K x → W p G.1 e R s m args below meth c H locs cells slots Q (F0 m (pc + 1) ls (.int x :: rest))) : W p G.1 e R s m args below meth c H locs cells slots Q (F0 m pc ls (va_rf r :: rest)) := by
  obtain ⟨a, t, n, f, rfl, h1, h3⟩ := hv
  exact wr_len0 X S h1 hdg (kk _ h3)
theorem wq_len5 (X : wv_ok G p R s m args meth c fr own cc nL ret nm tb) (S : wv_S G R s w H locs cells slots) {r : Option Nat} {K : Int32 → Prop} (hv : wv_lenQ G 5 w r K) (hdg : decode cc pc = .ok (.arraylength, 1))
    (kk : ∀ x : Int32, K x → W p G.1 e R s m args below meth c H locs cells slots Q (F0 m (pc + 1) ls (.int x :: rest))) : W p G.1 e R s m args below meth c H locs cells slots Q (F0 m pc ls (va_rf r :: rest)) := by
  obtain ⟨a, t, n, f, rfl, h1, h3⟩ := hv
  exact wr_len5 X S h1 hdg (kk _ h3)
theorem wq_len7 (X : wv_ok G p R s m args meth c fr own cc nL ret nm tb) (S : wv_S G R s w H locs cells slots) {r : Option Nat} {K : Int32 → Prop} (hv : wv_lenQ G 7 w r K) (hdg : decode cc pc = .ok (.arraylength, 1))
    (kk : ∀ x : Int32, K x → W p G.1 e R s m args below meth c H locs cells slots Q (F0 m (pc + 1) ls (.int x :: rest))) : W p G.1 e R s m args below meth c H locs cells slots Q (F0 m pc ls (va_rf r :: rest)) := by
  obtain ⟨a, t, n, f, rfl, h1, h3⟩ := hv
  exact wr_len7 X S h1 hdg (kk _ h3)
theorem wq_len9 (X : wv_ok G p R s m args meth c fr own cc nL ret nm tb) (S : wv_S G R s w H locs cells slots) {r : Option Nat} {K : Int32 → Prop} (hv : wv_lenI G 9 w r K) (hdg : decode cc pc = .ok (.arraylength, 1))
    (kk : ∀ x : Int32, K x → W p G.1 e R s m args below meth c H locs cells slots Q (F0 m (pc + 1) ls (.int x :: rest))) : W p G.1 e R s m args below meth c H locs cells slots Q (F0 m pc ls (va_rf r :: rest)) := by
  obtain ⟨a, t, n, f, rfl, h1, h3⟩ := hv
  exact wr_len9 X S h1 hdg (kk _ h3)
theorem wq_cc (X : wv_ok G p R s m args meth c fr own cc nL ret nm tb) (S : wv_S G R s w H locs cells slots) {r : Option Nat} {index : Nat} {C : String} {K : Prop} (hv : wv_cc G w r C K) (hl : Cond.classLink own index C ∈ lw_all) (hdg : decode cc pc = .ok (.checkcast index, 3))
    (kk : K → W p G.1 e R s m args below meth c H locs cells slots Q (F0 m (pc + 3) ls (va_rf r :: rest))) : W p G.1 e R s m args below meth c H locs cells slots Q (F0 m pc ls (va_rf r :: rest)) := wr_cc X S hl hv.1 hdg (kk hv.2)
theorem wq_null (X : wv_ok G p R s m args meth c fr own cc nL ret nm tb) (S : wv_S G R s w H locs cells slots) {k : Nat} (hdg : decode cc pc = .ok (.aconst_null, 1)) (kk : W p G.1 e R s m args below meth c H locs cells slots Q (F0 m (pc + 1) ls (va_rf none :: rest))) : W p G.1 e R s m args below meth c H locs cells slots Q (F0 m pc ls rest) := lv_null X.hx X.hb hdg kk
theorem wq_aload_n (X : wv_ok G p R s m args meth c fr own cc nL ret nm tb) {k : Fin 4} {i : Nat} {r : Option Nat} (hdg : decode cc pc = .ok (.aload_n k, 1)) (hi : (k : Nat) = i) (hl : ls[i]? = some (.val (va_rf r))) (kk : W p G.1 e R s m args below meth c H locs cells slots Q (F0 m (pc + 1) ls (va_rf r :: rest))) : W p G.1 e R s m args below meth c H locs cells slots Q (F0 m pc ls rest) := by
  cases r with
  | none => exact lv_aload_nN X.hx X.hb hdg hi hl kk
  | some a => exact lv_aload_n X.hx X.hb hdg hi hl kk
theorem wq_aload (X : wv_ok G p R s m args meth c fr own cc nL ret nm tb) {i : Nat} {r : Option Nat} (hdg : decode cc pc = .ok (.aload i, 2)) (hl : ls[i]? = some (.val (va_rf r))) (kk : W p G.1 e R s m args below meth c H locs cells slots Q (F0 m (pc + 2) ls (va_rf r :: rest))) : W p G.1 e R s m args below meth c H locs cells slots Q (F0 m pc ls rest) := by
  cases r with
  | none => exact lv_aloadN X.hx X.hb hdg hl kk
  | some a => exact lv_aload X.hx X.hb hdg hl kk
theorem wv_lf {lv lv' : List (Nat × Value)} {i : Nat} {v v' : Value} (h : (i, v) :: lv.filter (fun q => !(q.1 == i) && !(q.1 + 1 == i && q.2.category == 2)) = lv') (hv : v = v') : (i, v') :: lv.filter (fun q => !(q.1 == i) && !(q.1 + 1 == i && q.2.category == 2)) = lv' := by
  rw [← hv]; exact h
theorem wq_astore_n (X : wv_ok G p R s m args meth c fr own cc nL ret nm tb) {k : Fin 4} {i : Nat} {r : Option Nat} {lv lv' : List (Nat × Value)} (hdg : decode cc pc = .ok (.astore_n k, 1)) (hi : (k : Nat) = i) (h : lv_has ls nL lv) (hn : i < nL) (hl : (i, va_rf r) :: lv.filter (fun q => !(q.1 == i) && !(q.1 + 1 == i && q.2.category == 2)) = lv')
    (kk : ∀ ls' : Array Slot, lv_has ls' nL lv' → W p G.1 e R s m args below meth c H locs cells slots Q (F0 m (pc + 1) ls' rest)) : W p G.1 e R s m args below meth c H locs cells slots Q (F0 m pc ls (va_rf r :: rest)) := by
  cases r with
  | none => exact lv_astore_nN X.hx X.hb hdg hi h hn hl kk
  | some a => exact lv_astore_n X.hx X.hb hdg hi h hn hl kk
theorem wq_astore (X : wv_ok G p R s m args meth c fr own cc nL ret nm tb) {i : Nat} {r : Option Nat} {lv lv' : List (Nat × Value)} (hdg : decode cc pc = .ok (.astore i, 2)) (h : lv_has ls nL lv) (hn : i < nL) (hl : (i, va_rf r) :: lv.filter (fun q => !(q.1 == i) && !(q.1 + 1 == i && q.2.category == 2)) = lv')
    (kk : ∀ ls' : Array Slot, lv_has ls' nL lv' → W p G.1 e R s m args below meth c H locs cells slots Q (F0 m (pc + 2) ls' rest)) : W p G.1 e R s m args below meth c H locs cells slots Q (F0 m pc ls (va_rf r :: rest)) := by
  cases r with
  | none => exact lv_astoreN X.hx X.hb hdg h hn hl kk
  | some a => exact lv_astore X.hx X.hb hdg h hn hl kk
theorem wq_ifnull (X : wv_ok G p R s m args meth c fr own cc nL ret nm tb) {r : Option Nat} {off : Int} {tgt : Nat} (hdg : decode cc pc = .ok (.ifnull off, 3)) (ht : (pc : Int) + off = (tgt : Int)) (kt : r = none → W p G.1 e R s m args below meth c H locs cells slots Q (F0 m tgt ls rest)) (kf : ¬ r = none → W p G.1 e R s m args below meth c H locs cells slots Q (F0 m (pc + 3) ls rest)) : W p G.1 e R s m args below meth c H locs cells slots Q (F0 m pc ls (va_rf r :: rest)) := by
  cases r with
  | none => exact lv_ifnullN X.hx X.hb hdg ht (kt rfl)
  | some a => exact lv_ifnull X.hx X.hb hdg (kf (fun h => by cases h))
theorem wq_ifnonnull (X : wv_ok G p R s m args meth c fr own cc nL ret nm tb) {r : Option Nat} {off : Int} {tgt : Nat} (hdg : decode cc pc = .ok (.ifnonnull off, 3)) (ht : (pc : Int) + off = (tgt : Int)) (kt : ¬ r = none → W p G.1 e R s m args below meth c H locs cells slots Q (F0 m tgt ls rest)) (kf : r = none → W p G.1 e R s m args below meth c H locs cells slots Q (F0 m (pc + 3) ls rest)) : W p G.1 e R s m args below meth c H locs cells slots Q (F0 m pc ls (va_rf r :: rest)) := by
  cases r with
  | none => exact lv_ifnonnullN X.hx X.hb hdg (kf rfl)
  | some a => exact lv_ifnonnull X.hx X.hb hdg ht (kt (fun h => by cases h))
theorem wq_objInit (X : wv_ok G p R s m args meth c fr own cc nL ret nm tb) {idx : Nat} {r : Option Nat} {a : Nat} (hr : r = some a) (hl : Cond.methodLink own idx Lib.objectInit ∈ lw_all) (hi : Cond.instanceMethod Lib.objectInit ∈ lw_all) (hcd : Cond.code Lib.objectInit ⟨#[0xb1]⟩ 1 none ∈ lw_all) (hfr : 1 ≤ fr) (hW : (rest.map fun v => v.category).sum ≤ 8) (hls : ls.size = nL) (hdg : decode cc pc = .ok (.invokespecial idx, 3)) (kk : W p G.1 e R s m args below meth c H locs cells slots Q (F0 m (pc + 3) ls rest)) : W p G.1 e R s m args below meth c H locs cells slots Q (F0 m pc ls (va_rf r :: rest)) := by
  subst hr
  have hlo := X.hlo
  have hf := X.hfr
  refine W.objInit X.hx X.hb X.hown (X.hts _ hl) (X.hts _ hi) (X.hts _ hcd) rfl (by rw [X.hml]; exact hls) rfl hdg (by omega) ?_ kk
  have := lv_room (m := m) (pc := pc) (ls := ls) (rest := va_rf (some a) :: rest) hW
  omega
theorem wq_cV_I (X : wv_ok G p R s m args meth c fr own cc nL ret nm tb) (S : wv_S G R s w H locs cells slots) {y : MethodName} {index nA : Nat} {r : Option Nat} {As st : List Value} {K : Int32 → wv_W → Prop} {KX : String → Nat → wv_W → Prop} (hv : wv_cV G fr y r As w (wv_rI K KX)) (hl : Cond.methodLink own index y ∈ lw_all) (hin : Cond.instanceMethod y ∈ lw_all) (hse : Cond.selects y.cls y y ∈ lw_all) (hini : Cond.initialized y.cls ∈ lw_all) (hy : wv_ymh y) (hlen : (parseMethodDescriptor y.desc).map (fun d => d.parameters.length) = some nA) (hA : As.length = nA) (hst : st = As.reverse ++ va_rf r :: rest) (hW : (rest.map fun v => v.category).sum ≤ 8) (hls : ls.size = nL) (hdg : decode cc pc = .ok (.invokevirtual index, 3))
    (kk : ∀ (x : Int32) (w1 : wv_W) (H1 : Heap) (locs1 : List Loc) (cells1 slots1 : Nat), wv_S G R s w1 H1 locs1 cells1 slots1 → K x w1 → W p G.1 e R s m args below meth c H1 locs1 cells1 slots1 Q (F0 m (pc + 3) ls (.int x :: rest)))
    (kx : ∀ (E : String) (q : Nat) (w1 : wv_W) (H1 : Heap) (locs1 : List Loc) (cells1 slots1 : Nat), wv_S G R s w1 H1 locs1 cells1 slots1 → KX E q w1 → wv_th s H1 E q → vx_W p G.1 e R s m args below meth c H1 locs1 cells1 slots1 Q (F0 m pc ls rest) q) : W p G.1 e R s m args below meth c H locs cells slots Q (F0 m pc ls st) := by
  obtain ⟨b, rfl, hb, fr9, kc, ks, P9, hC, h1, h2, h3, h4⟩ := hv
  refine wr_callV X S hC h1 h2 h3 hb hl hin hse hini hy hlen hA hst hW hls hdg ?_ ?_
  · intro v h' H1 locs1 c1 s1 hP' S1
    rcases h4 _ _ hP' with ⟨z, hz, hK⟩ | ⟨E, q, hz, hK⟩
    · cases hz
      exact kk z _ H1 locs1 c1 s1 S1 hK
    · cases hz
  · intro E q h' H1 locs1 c1 s1 hP' S1 hth
    rcases h4 _ _ hP' with ⟨z, hz, hK⟩ | ⟨E9, q9, hz, hK⟩
    · cases hz
    · cases hz
      exact kx E q _ H1 locs1 c1 s1 S1 hK hth
theorem wq_cV_A (X : wv_ok G p R s m args meth c fr own cc nL ret nm tb) (S : wv_S G R s w H locs cells slots) {y : MethodName} {index nA : Nat} {r : Option Nat} {As st : List Value} {K : Option Nat → wv_W → Prop} {KX : String → Nat → wv_W → Prop} (hv : wv_cV G fr y r As w (wv_rA K KX)) (hl : Cond.methodLink own index y ∈ lw_all) (hin : Cond.instanceMethod y ∈ lw_all) (hse : Cond.selects y.cls y y ∈ lw_all) (hini : Cond.initialized y.cls ∈ lw_all) (hy : wv_ymh y) (hlen : (parseMethodDescriptor y.desc).map (fun d => d.parameters.length) = some nA) (hA : As.length = nA) (hst : st = As.reverse ++ va_rf r :: rest) (hW : (rest.map fun v => v.category).sum ≤ 8) (hls : ls.size = nL) (hdg : decode cc pc = .ok (.invokevirtual index, 3))
    (kk : ∀ (x : Option Nat) (w1 : wv_W) (H1 : Heap) (locs1 : List Loc) (cells1 slots1 : Nat), wv_S G R s w1 H1 locs1 cells1 slots1 → K x w1 → W p G.1 e R s m args below meth c H1 locs1 cells1 slots1 Q (F0 m (pc + 3) ls (va_rf x :: rest)))
    (kx : ∀ (E : String) (q : Nat) (w1 : wv_W) (H1 : Heap) (locs1 : List Loc) (cells1 slots1 : Nat), wv_S G R s w1 H1 locs1 cells1 slots1 → KX E q w1 → wv_th s H1 E q → vx_W p G.1 e R s m args below meth c H1 locs1 cells1 slots1 Q (F0 m pc ls rest) q) : W p G.1 e R s m args below meth c H locs cells slots Q (F0 m pc ls st) := by
  obtain ⟨b, rfl, hb, fr9, kc, ks, P9, hC, h1, h2, h3, h4⟩ := hv
  refine wr_callV X S hC h1 h2 h3 hb hl hin hse hini hy hlen hA hst hW hls hdg ?_ ?_
  · intro v h' H1 locs1 c1 s1 hP' S1
    rcases h4 _ _ hP' with ⟨z, hz, hK⟩ | ⟨E, q, hz, hK⟩
    · cases hz
      exact kk z _ H1 locs1 c1 s1 S1 hK
    · cases hz
  · intro E q h' H1 locs1 c1 s1 hP' S1 hth
    rcases h4 _ _ hP' with ⟨z, hz, hK⟩ | ⟨E9, q9, hz, hK⟩
    · cases hz
    · cases hz
      exact kx E q _ H1 locs1 c1 s1 S1 hK hth
theorem wq_cV_V (X : wv_ok G p R s m args meth c fr own cc nL ret nm tb) (S : wv_S G R s w H locs cells slots) {y : MethodName} {index nA : Nat} {r : Option Nat} {As st : List Value} {K : wv_W → Prop} {KX : String → Nat → wv_W → Prop} (hv : wv_cV G fr y r As w (wv_rV K KX)) (hl : Cond.methodLink own index y ∈ lw_all) (hin : Cond.instanceMethod y ∈ lw_all) (hse : Cond.selects y.cls y y ∈ lw_all) (hini : Cond.initialized y.cls ∈ lw_all) (hy : wv_ymh y) (hlen : (parseMethodDescriptor y.desc).map (fun d => d.parameters.length) = some nA) (hA : As.length = nA) (hst : st = As.reverse ++ va_rf r :: rest) (hW : (rest.map fun v => v.category).sum ≤ 8) (hls : ls.size = nL) (hdg : decode cc pc = .ok (.invokevirtual index, 3))
    (kk : ∀ (w1 : wv_W) (H1 : Heap) (locs1 : List Loc) (cells1 slots1 : Nat), wv_S G R s w1 H1 locs1 cells1 slots1 → K w1 → W p G.1 e R s m args below meth c H1 locs1 cells1 slots1 Q (F0 m (pc + 3) ls rest))
    (kx : ∀ (E : String) (q : Nat) (w1 : wv_W) (H1 : Heap) (locs1 : List Loc) (cells1 slots1 : Nat), wv_S G R s w1 H1 locs1 cells1 slots1 → KX E q w1 → wv_th s H1 E q → vx_W p G.1 e R s m args below meth c H1 locs1 cells1 slots1 Q (F0 m pc ls rest) q) : W p G.1 e R s m args below meth c H locs cells slots Q (F0 m pc ls st) := by
  obtain ⟨b, rfl, hb, fr9, kc, ks, P9, hC, h1, h2, h3, h4⟩ := hv
  refine wr_callV X S hC h1 h2 h3 hb hl hin hse hini hy hlen hA hst hW hls hdg ?_ ?_
  · intro v h' H1 locs1 c1 s1 hP' S1
    rcases h4 _ _ hP' with ⟨hz, hK⟩ | ⟨E, q, hz, hK⟩
    · cases hz
      exact kk _ H1 locs1 c1 s1 S1 hK
    · cases hz
  · intro E q h' H1 locs1 c1 s1 hP' S1 hth
    rcases h4 _ _ hP' with ⟨hz, hK⟩ | ⟨E9, q9, hz, hK⟩
    · cases hz
    · cases hz
      exact kx E q _ H1 locs1 c1 s1 S1 hK hth
theorem wq_cV_J (X : wv_ok G p R s m args meth c fr own cc nL ret nm tb) (S : wv_S G R s w H locs cells slots) {y : MethodName} {index nA : Nat} {r : Option Nat} {As st : List Value} {K : Int64 → wv_W → Prop} {KX : String → Nat → wv_W → Prop} (hv : wv_cV G fr y r As w (wv_rJ K KX)) (hl : Cond.methodLink own index y ∈ lw_all) (hin : Cond.instanceMethod y ∈ lw_all) (hse : Cond.selects y.cls y y ∈ lw_all) (hini : Cond.initialized y.cls ∈ lw_all) (hy : wv_ymh y) (hlen : (parseMethodDescriptor y.desc).map (fun d => d.parameters.length) = some nA) (hA : As.length = nA) (hst : st = As.reverse ++ va_rf r :: rest) (hW : (rest.map fun v => v.category).sum ≤ 8) (hls : ls.size = nL) (hdg : decode cc pc = .ok (.invokevirtual index, 3))
    (kk : ∀ (x : Int64) (w1 : wv_W) (H1 : Heap) (locs1 : List Loc) (cells1 slots1 : Nat), wv_S G R s w1 H1 locs1 cells1 slots1 → K x w1 → W p G.1 e R s m args below meth c H1 locs1 cells1 slots1 Q (F0 m (pc + 3) ls (.long x :: rest)))
    (kx : ∀ (E : String) (q : Nat) (w1 : wv_W) (H1 : Heap) (locs1 : List Loc) (cells1 slots1 : Nat), wv_S G R s w1 H1 locs1 cells1 slots1 → KX E q w1 → wv_th s H1 E q → vx_W p G.1 e R s m args below meth c H1 locs1 cells1 slots1 Q (F0 m pc ls rest) q) : W p G.1 e R s m args below meth c H locs cells slots Q (F0 m pc ls st) := by
  obtain ⟨b, rfl, hb, fr9, kc, ks, P9, hC, h1, h2, h3, h4⟩ := hv
  refine wr_callV X S hC h1 h2 h3 hb hl hin hse hini hy hlen hA hst hW hls hdg ?_ ?_
  · intro v h' H1 locs1 c1 s1 hP' S1
    rcases h4 _ _ hP' with ⟨z, hz, hK⟩ | ⟨E, q, hz, hK⟩
    · cases hz
      exact kk z _ H1 locs1 c1 s1 S1 hK
    · cases hz
  · intro E q h' H1 locs1 c1 s1 hP' S1 hth
    rcases h4 _ _ hP' with ⟨z, hz, hK⟩ | ⟨E9, q9, hz, hK⟩
    · cases hz
    · cases hz
      exact kx E q _ H1 locs1 c1 s1 S1 hK hth
theorem wq_cV_F (X : wv_ok G p R s m args meth c fr own cc nL ret nm tb) (S : wv_S G R s w H locs cells slots) {y : MethodName} {index nA : Nat} {r : Option Nat} {As st : List Value} {K : UInt32 → wv_W → Prop} {KX : String → Nat → wv_W → Prop} (hv : wv_cV G fr y r As w (wv_rF K KX)) (hl : Cond.methodLink own index y ∈ lw_all) (hin : Cond.instanceMethod y ∈ lw_all) (hse : Cond.selects y.cls y y ∈ lw_all) (hini : Cond.initialized y.cls ∈ lw_all) (hy : wv_ymh y) (hlen : (parseMethodDescriptor y.desc).map (fun d => d.parameters.length) = some nA) (hA : As.length = nA) (hst : st = As.reverse ++ va_rf r :: rest) (hW : (rest.map fun v => v.category).sum ≤ 8) (hls : ls.size = nL) (hdg : decode cc pc = .ok (.invokevirtual index, 3))
    (kk : ∀ (x : UInt32) (w1 : wv_W) (H1 : Heap) (locs1 : List Loc) (cells1 slots1 : Nat), wv_S G R s w1 H1 locs1 cells1 slots1 → K x w1 → W p G.1 e R s m args below meth c H1 locs1 cells1 slots1 Q (F0 m (pc + 3) ls (.float x :: rest)))
    (kx : ∀ (E : String) (q : Nat) (w1 : wv_W) (H1 : Heap) (locs1 : List Loc) (cells1 slots1 : Nat), wv_S G R s w1 H1 locs1 cells1 slots1 → KX E q w1 → wv_th s H1 E q → vx_W p G.1 e R s m args below meth c H1 locs1 cells1 slots1 Q (F0 m pc ls rest) q) : W p G.1 e R s m args below meth c H locs cells slots Q (F0 m pc ls st) := by
  obtain ⟨b, rfl, hb, fr9, kc, ks, P9, hC, h1, h2, h3, h4⟩ := hv
  refine wr_callV X S hC h1 h2 h3 hb hl hin hse hini hy hlen hA hst hW hls hdg ?_ ?_
  · intro v h' H1 locs1 c1 s1 hP' S1
    rcases h4 _ _ hP' with ⟨z, hz, hK⟩ | ⟨E, q, hz, hK⟩
    · cases hz
      exact kk z _ H1 locs1 c1 s1 S1 hK
    · cases hz
  · intro E q h' H1 locs1 c1 s1 hP' S1 hth
    rcases h4 _ _ hP' with ⟨z, hz, hK⟩ | ⟨E9, q9, hz, hK⟩
    · cases hz
    · cases hz
      exact kx E q _ H1 locs1 c1 s1 S1 hK hth
theorem wq_cV_D (X : wv_ok G p R s m args meth c fr own cc nL ret nm tb) (S : wv_S G R s w H locs cells slots) {y : MethodName} {index nA : Nat} {r : Option Nat} {As st : List Value} {K : UInt64 → wv_W → Prop} {KX : String → Nat → wv_W → Prop} (hv : wv_cV G fr y r As w (wv_rD K KX)) (hl : Cond.methodLink own index y ∈ lw_all) (hin : Cond.instanceMethod y ∈ lw_all) (hse : Cond.selects y.cls y y ∈ lw_all) (hini : Cond.initialized y.cls ∈ lw_all) (hy : wv_ymh y) (hlen : (parseMethodDescriptor y.desc).map (fun d => d.parameters.length) = some nA) (hA : As.length = nA) (hst : st = As.reverse ++ va_rf r :: rest) (hW : (rest.map fun v => v.category).sum ≤ 8) (hls : ls.size = nL) (hdg : decode cc pc = .ok (.invokevirtual index, 3))
    (kk : ∀ (x : UInt64) (w1 : wv_W) (H1 : Heap) (locs1 : List Loc) (cells1 slots1 : Nat), wv_S G R s w1 H1 locs1 cells1 slots1 → K x w1 → W p G.1 e R s m args below meth c H1 locs1 cells1 slots1 Q (F0 m (pc + 3) ls (.double x :: rest)))
    (kx : ∀ (E : String) (q : Nat) (w1 : wv_W) (H1 : Heap) (locs1 : List Loc) (cells1 slots1 : Nat), wv_S G R s w1 H1 locs1 cells1 slots1 → KX E q w1 → wv_th s H1 E q → vx_W p G.1 e R s m args below meth c H1 locs1 cells1 slots1 Q (F0 m pc ls rest) q) : W p G.1 e R s m args below meth c H locs cells slots Q (F0 m pc ls st) := by
  obtain ⟨b, rfl, hb, fr9, kc, ks, P9, hC, h1, h2, h3, h4⟩ := hv
  refine wr_callV X S hC h1 h2 h3 hb hl hin hse hini hy hlen hA hst hW hls hdg ?_ ?_
  · intro v h' H1 locs1 c1 s1 hP' S1
    rcases h4 _ _ hP' with ⟨z, hz, hK⟩ | ⟨E, q, hz, hK⟩
    · cases hz
      exact kk z _ H1 locs1 c1 s1 S1 hK
    · cases hz
  · intro E q h' H1 locs1 c1 s1 hP' S1 hth
    rcases h4 _ _ hP' with ⟨z, hz, hK⟩ | ⟨E9, q9, hz, hK⟩
    · cases hz
    · cases hz
      exact kx E q _ H1 locs1 c1 s1 S1 hK hth
theorem wq_cVN_I (X : wv_ok G p R s m args meth c fr own cc nL ret nm tb) (S : wv_S G R s w H locs cells slots) {y : MethodName} {index nA : Nat} {r : Option Nat} {As st : List Value} {K : Int32 → wv_W → Prop} {KX : String → Nat → wv_W → Prop} (hv : wv_cV G fr y r As w (wv_rI K KX)) {host : String} (hl : Cond.methodLinkNest own index y host ∈ lw_tbl) (hin : Cond.instanceMethod y ∈ lw_all) (hse : Cond.selects y.cls y y ∈ lw_all) {b2 : ByteArray} {mL2 : Nat} {rt2 : Option FieldType} (hcode : Cond.code y b2 mL2 rt2 ∈ lw_all) (hini : Cond.initialized y.cls ∈ lw_all) (hy : wv_ymh y) (hlen : (parseMethodDescriptor y.desc).map (fun d => d.parameters.length) = some nA) (hA : As.length = nA) (hst : st = As.reverse ++ va_rf r :: rest) (hW : (rest.map fun v => v.category).sum ≤ 8) (hls : ls.size = nL) (hdg : decode cc pc = .ok (.invokevirtual index, 3))
    (kk : ∀ (x : Int32) (w1 : wv_W) (H1 : Heap) (locs1 : List Loc) (cells1 slots1 : Nat), wv_S G R s w1 H1 locs1 cells1 slots1 → K x w1 → W p G.1 e R s m args below meth c H1 locs1 cells1 slots1 Q (F0 m (pc + 3) ls (.int x :: rest)))
    (kx : ∀ (E : String) (q : Nat) (w1 : wv_W) (H1 : Heap) (locs1 : List Loc) (cells1 slots1 : Nat), wv_S G R s w1 H1 locs1 cells1 slots1 → KX E q w1 → wv_th s H1 E q → vx_W p G.1 e R s m args below meth c H1 locs1 cells1 slots1 Q (F0 m pc ls rest) q) : W p G.1 e R s m args below meth c H locs cells slots Q (F0 m pc ls st) := by
  obtain ⟨b, rfl, hb, fr9, kc, ks, P9, hC, h1, h2, h3, h4⟩ := hv
  refine wr_callVN X S hC h1 h2 h3 hb hl hin hse hcode hini hy hlen hA hst hW hls hdg ?_ ?_
  · intro v h' H1 locs1 c1 s1 hP' S1
    rcases h4 _ _ hP' with ⟨z, hz, hK⟩ | ⟨E, q, hz, hK⟩
    · cases hz
      exact kk z _ H1 locs1 c1 s1 S1 hK
    · cases hz
  · intro E q h' H1 locs1 c1 s1 hP' S1 hth
    rcases h4 _ _ hP' with ⟨z, hz, hK⟩ | ⟨E9, q9, hz, hK⟩
    · cases hz
    · cases hz
      exact kx E q _ H1 locs1 c1 s1 S1 hK hth
theorem wq_cVN_A (X : wv_ok G p R s m args meth c fr own cc nL ret nm tb) (S : wv_S G R s w H locs cells slots) {y : MethodName} {index nA : Nat} {r : Option Nat} {As st : List Value} {K : Option Nat → wv_W → Prop} {KX : String → Nat → wv_W → Prop} (hv : wv_cV G fr y r As w (wv_rA K KX)) {host : String} (hl : Cond.methodLinkNest own index y host ∈ lw_tbl) (hin : Cond.instanceMethod y ∈ lw_all) (hse : Cond.selects y.cls y y ∈ lw_all) {b2 : ByteArray} {mL2 : Nat} {rt2 : Option FieldType} (hcode : Cond.code y b2 mL2 rt2 ∈ lw_all) (hini : Cond.initialized y.cls ∈ lw_all) (hy : wv_ymh y) (hlen : (parseMethodDescriptor y.desc).map (fun d => d.parameters.length) = some nA) (hA : As.length = nA) (hst : st = As.reverse ++ va_rf r :: rest) (hW : (rest.map fun v => v.category).sum ≤ 8) (hls : ls.size = nL) (hdg : decode cc pc = .ok (.invokevirtual index, 3))
    (kk : ∀ (x : Option Nat) (w1 : wv_W) (H1 : Heap) (locs1 : List Loc) (cells1 slots1 : Nat), wv_S G R s w1 H1 locs1 cells1 slots1 → K x w1 → W p G.1 e R s m args below meth c H1 locs1 cells1 slots1 Q (F0 m (pc + 3) ls (va_rf x :: rest)))
    (kx : ∀ (E : String) (q : Nat) (w1 : wv_W) (H1 : Heap) (locs1 : List Loc) (cells1 slots1 : Nat), wv_S G R s w1 H1 locs1 cells1 slots1 → KX E q w1 → wv_th s H1 E q → vx_W p G.1 e R s m args below meth c H1 locs1 cells1 slots1 Q (F0 m pc ls rest) q) : W p G.1 e R s m args below meth c H locs cells slots Q (F0 m pc ls st) := by
  obtain ⟨b, rfl, hb, fr9, kc, ks, P9, hC, h1, h2, h3, h4⟩ := hv
  refine wr_callVN X S hC h1 h2 h3 hb hl hin hse hcode hini hy hlen hA hst hW hls hdg ?_ ?_
  · intro v h' H1 locs1 c1 s1 hP' S1
    rcases h4 _ _ hP' with ⟨z, hz, hK⟩ | ⟨E, q, hz, hK⟩
    · cases hz
      exact kk z _ H1 locs1 c1 s1 S1 hK
    · cases hz
  · intro E q h' H1 locs1 c1 s1 hP' S1 hth
    rcases h4 _ _ hP' with ⟨z, hz, hK⟩ | ⟨E9, q9, hz, hK⟩
    · cases hz
    · cases hz
      exact kx E q _ H1 locs1 c1 s1 S1 hK hth
theorem wq_cVN_V (X : wv_ok G p R s m args meth c fr own cc nL ret nm tb) (S : wv_S G R s w H locs cells slots) {y : MethodName} {index nA : Nat} {r : Option Nat} {As st : List Value} {K : wv_W → Prop} {KX : String → Nat → wv_W → Prop} (hv : wv_cV G fr y r As w (wv_rV K KX)) {host : String} (hl : Cond.methodLinkNest own index y host ∈ lw_tbl) (hin : Cond.instanceMethod y ∈ lw_all) (hse : Cond.selects y.cls y y ∈ lw_all) {b2 : ByteArray} {mL2 : Nat} {rt2 : Option FieldType} (hcode : Cond.code y b2 mL2 rt2 ∈ lw_all) (hini : Cond.initialized y.cls ∈ lw_all) (hy : wv_ymh y) (hlen : (parseMethodDescriptor y.desc).map (fun d => d.parameters.length) = some nA) (hA : As.length = nA) (hst : st = As.reverse ++ va_rf r :: rest) (hW : (rest.map fun v => v.category).sum ≤ 8) (hls : ls.size = nL) (hdg : decode cc pc = .ok (.invokevirtual index, 3))
    (kk : ∀ (w1 : wv_W) (H1 : Heap) (locs1 : List Loc) (cells1 slots1 : Nat), wv_S G R s w1 H1 locs1 cells1 slots1 → K w1 → W p G.1 e R s m args below meth c H1 locs1 cells1 slots1 Q (F0 m (pc + 3) ls rest))
    (kx : ∀ (E : String) (q : Nat) (w1 : wv_W) (H1 : Heap) (locs1 : List Loc) (cells1 slots1 : Nat), wv_S G R s w1 H1 locs1 cells1 slots1 → KX E q w1 → wv_th s H1 E q → vx_W p G.1 e R s m args below meth c H1 locs1 cells1 slots1 Q (F0 m pc ls rest) q) : W p G.1 e R s m args below meth c H locs cells slots Q (F0 m pc ls st) := by
  obtain ⟨b, rfl, hb, fr9, kc, ks, P9, hC, h1, h2, h3, h4⟩ := hv
  refine wr_callVN X S hC h1 h2 h3 hb hl hin hse hcode hini hy hlen hA hst hW hls hdg ?_ ?_
  · intro v h' H1 locs1 c1 s1 hP' S1
    rcases h4 _ _ hP' with ⟨hz, hK⟩ | ⟨E, q, hz, hK⟩
    · cases hz
      exact kk _ H1 locs1 c1 s1 S1 hK
    · cases hz
  · intro E q h' H1 locs1 c1 s1 hP' S1 hth
    rcases h4 _ _ hP' with ⟨hz, hK⟩ | ⟨E9, q9, hz, hK⟩
    · cases hz
    · cases hz
      exact kx E q _ H1 locs1 c1 s1 S1 hK hth
theorem wq_cVN_J (X : wv_ok G p R s m args meth c fr own cc nL ret nm tb) (S : wv_S G R s w H locs cells slots) {y : MethodName} {index nA : Nat} {r : Option Nat} {As st : List Value} {K : Int64 → wv_W → Prop} {KX : String → Nat → wv_W → Prop} (hv : wv_cV G fr y r As w (wv_rJ K KX)) {host : String} (hl : Cond.methodLinkNest own index y host ∈ lw_tbl) (hin : Cond.instanceMethod y ∈ lw_all) (hse : Cond.selects y.cls y y ∈ lw_all) {b2 : ByteArray} {mL2 : Nat} {rt2 : Option FieldType} (hcode : Cond.code y b2 mL2 rt2 ∈ lw_all) (hini : Cond.initialized y.cls ∈ lw_all) (hy : wv_ymh y) (hlen : (parseMethodDescriptor y.desc).map (fun d => d.parameters.length) = some nA) (hA : As.length = nA) (hst : st = As.reverse ++ va_rf r :: rest) (hW : (rest.map fun v => v.category).sum ≤ 8) (hls : ls.size = nL) (hdg : decode cc pc = .ok (.invokevirtual index, 3))
    (kk : ∀ (x : Int64) (w1 : wv_W) (H1 : Heap) (locs1 : List Loc) (cells1 slots1 : Nat), wv_S G R s w1 H1 locs1 cells1 slots1 → K x w1 → W p G.1 e R s m args below meth c H1 locs1 cells1 slots1 Q (F0 m (pc + 3) ls (.long x :: rest)))
    (kx : ∀ (E : String) (q : Nat) (w1 : wv_W) (H1 : Heap) (locs1 : List Loc) (cells1 slots1 : Nat), wv_S G R s w1 H1 locs1 cells1 slots1 → KX E q w1 → wv_th s H1 E q → vx_W p G.1 e R s m args below meth c H1 locs1 cells1 slots1 Q (F0 m pc ls rest) q) : W p G.1 e R s m args below meth c H locs cells slots Q (F0 m pc ls st) := by
  obtain ⟨b, rfl, hb, fr9, kc, ks, P9, hC, h1, h2, h3, h4⟩ := hv
  refine wr_callVN X S hC h1 h2 h3 hb hl hin hse hcode hini hy hlen hA hst hW hls hdg ?_ ?_
  · intro v h' H1 locs1 c1 s1 hP' S1
    rcases h4 _ _ hP' with ⟨z, hz, hK⟩ | ⟨E, q, hz, hK⟩
    · cases hz
      exact kk z _ H1 locs1 c1 s1 S1 hK
    · cases hz
  · intro E q h' H1 locs1 c1 s1 hP' S1 hth
    rcases h4 _ _ hP' with ⟨z, hz, hK⟩ | ⟨E9, q9, hz, hK⟩
    · cases hz
    · cases hz
      exact kx E q _ H1 locs1 c1 s1 S1 hK hth
theorem wq_cVN_F (X : wv_ok G p R s m args meth c fr own cc nL ret nm tb) (S : wv_S G R s w H locs cells slots) {y : MethodName} {index nA : Nat} {r : Option Nat} {As st : List Value} {K : UInt32 → wv_W → Prop} {KX : String → Nat → wv_W → Prop} (hv : wv_cV G fr y r As w (wv_rF K KX)) {host : String} (hl : Cond.methodLinkNest own index y host ∈ lw_tbl) (hin : Cond.instanceMethod y ∈ lw_all) (hse : Cond.selects y.cls y y ∈ lw_all) {b2 : ByteArray} {mL2 : Nat} {rt2 : Option FieldType} (hcode : Cond.code y b2 mL2 rt2 ∈ lw_all) (hini : Cond.initialized y.cls ∈ lw_all) (hy : wv_ymh y) (hlen : (parseMethodDescriptor y.desc).map (fun d => d.parameters.length) = some nA) (hA : As.length = nA) (hst : st = As.reverse ++ va_rf r :: rest) (hW : (rest.map fun v => v.category).sum ≤ 8) (hls : ls.size = nL) (hdg : decode cc pc = .ok (.invokevirtual index, 3))
    (kk : ∀ (x : UInt32) (w1 : wv_W) (H1 : Heap) (locs1 : List Loc) (cells1 slots1 : Nat), wv_S G R s w1 H1 locs1 cells1 slots1 → K x w1 → W p G.1 e R s m args below meth c H1 locs1 cells1 slots1 Q (F0 m (pc + 3) ls (.float x :: rest)))
    (kx : ∀ (E : String) (q : Nat) (w1 : wv_W) (H1 : Heap) (locs1 : List Loc) (cells1 slots1 : Nat), wv_S G R s w1 H1 locs1 cells1 slots1 → KX E q w1 → wv_th s H1 E q → vx_W p G.1 e R s m args below meth c H1 locs1 cells1 slots1 Q (F0 m pc ls rest) q) : W p G.1 e R s m args below meth c H locs cells slots Q (F0 m pc ls st) := by
  obtain ⟨b, rfl, hb, fr9, kc, ks, P9, hC, h1, h2, h3, h4⟩ := hv
  refine wr_callVN X S hC h1 h2 h3 hb hl hin hse hcode hini hy hlen hA hst hW hls hdg ?_ ?_
  · intro v h' H1 locs1 c1 s1 hP' S1
    rcases h4 _ _ hP' with ⟨z, hz, hK⟩ | ⟨E, q, hz, hK⟩
    · cases hz
      exact kk z _ H1 locs1 c1 s1 S1 hK
    · cases hz
  · intro E q h' H1 locs1 c1 s1 hP' S1 hth
    rcases h4 _ _ hP' with ⟨z, hz, hK⟩ | ⟨E9, q9, hz, hK⟩
    · cases hz
    · cases hz
      exact kx E q _ H1 locs1 c1 s1 S1 hK hth
theorem wq_cVN_D (X : wv_ok G p R s m args meth c fr own cc nL ret nm tb) (S : wv_S G R s w H locs cells slots) {y : MethodName} {index nA : Nat} {r : Option Nat} {As st : List Value} {K : UInt64 → wv_W → Prop} {KX : String → Nat → wv_W → Prop} (hv : wv_cV G fr y r As w (wv_rD K KX)) {host : String} (hl : Cond.methodLinkNest own index y host ∈ lw_tbl) (hin : Cond.instanceMethod y ∈ lw_all) (hse : Cond.selects y.cls y y ∈ lw_all) {b2 : ByteArray} {mL2 : Nat} {rt2 : Option FieldType} (hcode : Cond.code y b2 mL2 rt2 ∈ lw_all) (hini : Cond.initialized y.cls ∈ lw_all) (hy : wv_ymh y) (hlen : (parseMethodDescriptor y.desc).map (fun d => d.parameters.length) = some nA) (hA : As.length = nA) (hst : st = As.reverse ++ va_rf r :: rest) (hW : (rest.map fun v => v.category).sum ≤ 8) (hls : ls.size = nL) (hdg : decode cc pc = .ok (.invokevirtual index, 3))
    (kk : ∀ (x : UInt64) (w1 : wv_W) (H1 : Heap) (locs1 : List Loc) (cells1 slots1 : Nat), wv_S G R s w1 H1 locs1 cells1 slots1 → K x w1 → W p G.1 e R s m args below meth c H1 locs1 cells1 slots1 Q (F0 m (pc + 3) ls (.double x :: rest)))
    (kx : ∀ (E : String) (q : Nat) (w1 : wv_W) (H1 : Heap) (locs1 : List Loc) (cells1 slots1 : Nat), wv_S G R s w1 H1 locs1 cells1 slots1 → KX E q w1 → wv_th s H1 E q → vx_W p G.1 e R s m args below meth c H1 locs1 cells1 slots1 Q (F0 m pc ls rest) q) : W p G.1 e R s m args below meth c H locs cells slots Q (F0 m pc ls st) := by
  obtain ⟨b, rfl, hb, fr9, kc, ks, P9, hC, h1, h2, h3, h4⟩ := hv
  refine wr_callVN X S hC h1 h2 h3 hb hl hin hse hcode hini hy hlen hA hst hW hls hdg ?_ ?_
  · intro v h' H1 locs1 c1 s1 hP' S1
    rcases h4 _ _ hP' with ⟨z, hz, hK⟩ | ⟨E, q, hz, hK⟩
    · cases hz
      exact kk z _ H1 locs1 c1 s1 S1 hK
    · cases hz
  · intro E q h' H1 locs1 c1 s1 hP' S1 hth
    rcases h4 _ _ hP' with ⟨z, hz, hK⟩ | ⟨E9, q9, hz, hK⟩
    · cases hz
    · cases hz
      exact kx E q _ H1 locs1 c1 s1 S1 hK hth
theorem wq_cS_I (X : wv_ok G p R s m args meth c fr own cc nL ret nm tb) (S : wv_S G R s w H locs cells slots) {y : MethodName} {index nA : Nat} {As st : List Value} {K : Int32 → wv_W → Prop} {KX : String → Nat → wv_W → Prop} (hv : wv_c0 G fr y As w (wv_rI K KX)) (hl : Cond.methodLink own index y ∈ lw_all) (hstt : Cond.static y ∈ lw_all) (hini : Cond.initialized y.cls ∈ lw_all) (hy : wv_ymh y) (hlen : (parseMethodDescriptor y.desc).map (fun d => d.parameters.length) = some nA) (hA : As.length = nA) (hst : st = As.reverse ++ rest) (hW : (rest.map fun v => v.category).sum ≤ 8) (hls : ls.size = nL) (hdg : decode cc pc = .ok (.invokestatic index, 3))
    (kk : ∀ (x : Int32) (w1 : wv_W) (H1 : Heap) (locs1 : List Loc) (cells1 slots1 : Nat), wv_S G R s w1 H1 locs1 cells1 slots1 → K x w1 → W p G.1 e R s m args below meth c H1 locs1 cells1 slots1 Q (F0 m (pc + 3) ls (.int x :: rest)))
    (kx : ∀ (E : String) (q : Nat) (w1 : wv_W) (H1 : Heap) (locs1 : List Loc) (cells1 slots1 : Nat), wv_S G R s w1 H1 locs1 cells1 slots1 → KX E q w1 → wv_th s H1 E q → vx_W p G.1 e R s m args below meth c H1 locs1 cells1 slots1 Q (F0 m pc ls rest) q) : W p G.1 e R s m args below meth c H locs cells slots Q (F0 m pc ls st) := by
  obtain ⟨fr9, kc, ks, P9, hC, h1, h2, h3, h4⟩ := hv
  refine wr_callS X S hC h1 h2 h3 hl hstt hini hy hlen hA hst hW hls hdg ?_ ?_
  · intro v h' H1 locs1 c1 s1 hP' S1
    rcases h4 _ _ hP' with ⟨z, hz, hK⟩ | ⟨E, q, hz, hK⟩
    · cases hz
      exact kk z _ H1 locs1 c1 s1 S1 hK
    · cases hz
  · intro E q h' H1 locs1 c1 s1 hP' S1 hth
    rcases h4 _ _ hP' with ⟨z, hz, hK⟩ | ⟨E9, q9, hz, hK⟩
    · cases hz
    · cases hz
      exact kx E q _ H1 locs1 c1 s1 S1 hK hth
theorem wq_cS_A (X : wv_ok G p R s m args meth c fr own cc nL ret nm tb) (S : wv_S G R s w H locs cells slots) {y : MethodName} {index nA : Nat} {As st : List Value} {K : Option Nat → wv_W → Prop} {KX : String → Nat → wv_W → Prop} (hv : wv_c0 G fr y As w (wv_rA K KX)) (hl : Cond.methodLink own index y ∈ lw_all) (hstt : Cond.static y ∈ lw_all) (hini : Cond.initialized y.cls ∈ lw_all) (hy : wv_ymh y) (hlen : (parseMethodDescriptor y.desc).map (fun d => d.parameters.length) = some nA) (hA : As.length = nA) (hst : st = As.reverse ++ rest) (hW : (rest.map fun v => v.category).sum ≤ 8) (hls : ls.size = nL) (hdg : decode cc pc = .ok (.invokestatic index, 3))
    (kk : ∀ (x : Option Nat) (w1 : wv_W) (H1 : Heap) (locs1 : List Loc) (cells1 slots1 : Nat), wv_S G R s w1 H1 locs1 cells1 slots1 → K x w1 → W p G.1 e R s m args below meth c H1 locs1 cells1 slots1 Q (F0 m (pc + 3) ls (va_rf x :: rest)))
    (kx : ∀ (E : String) (q : Nat) (w1 : wv_W) (H1 : Heap) (locs1 : List Loc) (cells1 slots1 : Nat), wv_S G R s w1 H1 locs1 cells1 slots1 → KX E q w1 → wv_th s H1 E q → vx_W p G.1 e R s m args below meth c H1 locs1 cells1 slots1 Q (F0 m pc ls rest) q) : W p G.1 e R s m args below meth c H locs cells slots Q (F0 m pc ls st) := by
  obtain ⟨fr9, kc, ks, P9, hC, h1, h2, h3, h4⟩ := hv
  refine wr_callS X S hC h1 h2 h3 hl hstt hini hy hlen hA hst hW hls hdg ?_ ?_
  · intro v h' H1 locs1 c1 s1 hP' S1
    rcases h4 _ _ hP' with ⟨z, hz, hK⟩ | ⟨E, q, hz, hK⟩
    · cases hz
      exact kk z _ H1 locs1 c1 s1 S1 hK
    · cases hz
  · intro E q h' H1 locs1 c1 s1 hP' S1 hth
    rcases h4 _ _ hP' with ⟨z, hz, hK⟩ | ⟨E9, q9, hz, hK⟩
    · cases hz
    · cases hz
      exact kx E q _ H1 locs1 c1 s1 S1 hK hth
theorem wq_cS_V (X : wv_ok G p R s m args meth c fr own cc nL ret nm tb) (S : wv_S G R s w H locs cells slots) {y : MethodName} {index nA : Nat} {As st : List Value} {K : wv_W → Prop} {KX : String → Nat → wv_W → Prop} (hv : wv_c0 G fr y As w (wv_rV K KX)) (hl : Cond.methodLink own index y ∈ lw_all) (hstt : Cond.static y ∈ lw_all) (hini : Cond.initialized y.cls ∈ lw_all) (hy : wv_ymh y) (hlen : (parseMethodDescriptor y.desc).map (fun d => d.parameters.length) = some nA) (hA : As.length = nA) (hst : st = As.reverse ++ rest) (hW : (rest.map fun v => v.category).sum ≤ 8) (hls : ls.size = nL) (hdg : decode cc pc = .ok (.invokestatic index, 3))
    (kk : ∀ (w1 : wv_W) (H1 : Heap) (locs1 : List Loc) (cells1 slots1 : Nat), wv_S G R s w1 H1 locs1 cells1 slots1 → K w1 → W p G.1 e R s m args below meth c H1 locs1 cells1 slots1 Q (F0 m (pc + 3) ls rest))
    (kx : ∀ (E : String) (q : Nat) (w1 : wv_W) (H1 : Heap) (locs1 : List Loc) (cells1 slots1 : Nat), wv_S G R s w1 H1 locs1 cells1 slots1 → KX E q w1 → wv_th s H1 E q → vx_W p G.1 e R s m args below meth c H1 locs1 cells1 slots1 Q (F0 m pc ls rest) q) : W p G.1 e R s m args below meth c H locs cells slots Q (F0 m pc ls st) := by
  obtain ⟨fr9, kc, ks, P9, hC, h1, h2, h3, h4⟩ := hv
  refine wr_callS X S hC h1 h2 h3 hl hstt hini hy hlen hA hst hW hls hdg ?_ ?_
  · intro v h' H1 locs1 c1 s1 hP' S1
    rcases h4 _ _ hP' with ⟨hz, hK⟩ | ⟨E, q, hz, hK⟩
    · cases hz
      exact kk _ H1 locs1 c1 s1 S1 hK
    · cases hz
  · intro E q h' H1 locs1 c1 s1 hP' S1 hth
    rcases h4 _ _ hP' with ⟨hz, hK⟩ | ⟨E9, q9, hz, hK⟩
    · cases hz
    · cases hz
      exact kx E q _ H1 locs1 c1 s1 S1 hK hth
theorem wq_cS_J (X : wv_ok G p R s m args meth c fr own cc nL ret nm tb) (S : wv_S G R s w H locs cells slots) {y : MethodName} {index nA : Nat} {As st : List Value} {K : Int64 → wv_W → Prop} {KX : String → Nat → wv_W → Prop} (hv : wv_c0 G fr y As w (wv_rJ K KX)) (hl : Cond.methodLink own index y ∈ lw_all) (hstt : Cond.static y ∈ lw_all) (hini : Cond.initialized y.cls ∈ lw_all) (hy : wv_ymh y) (hlen : (parseMethodDescriptor y.desc).map (fun d => d.parameters.length) = some nA) (hA : As.length = nA) (hst : st = As.reverse ++ rest) (hW : (rest.map fun v => v.category).sum ≤ 8) (hls : ls.size = nL) (hdg : decode cc pc = .ok (.invokestatic index, 3))
    (kk : ∀ (x : Int64) (w1 : wv_W) (H1 : Heap) (locs1 : List Loc) (cells1 slots1 : Nat), wv_S G R s w1 H1 locs1 cells1 slots1 → K x w1 → W p G.1 e R s m args below meth c H1 locs1 cells1 slots1 Q (F0 m (pc + 3) ls (.long x :: rest)))
    (kx : ∀ (E : String) (q : Nat) (w1 : wv_W) (H1 : Heap) (locs1 : List Loc) (cells1 slots1 : Nat), wv_S G R s w1 H1 locs1 cells1 slots1 → KX E q w1 → wv_th s H1 E q → vx_W p G.1 e R s m args below meth c H1 locs1 cells1 slots1 Q (F0 m pc ls rest) q) : W p G.1 e R s m args below meth c H locs cells slots Q (F0 m pc ls st) := by
  obtain ⟨fr9, kc, ks, P9, hC, h1, h2, h3, h4⟩ := hv
  refine wr_callS X S hC h1 h2 h3 hl hstt hini hy hlen hA hst hW hls hdg ?_ ?_
  · intro v h' H1 locs1 c1 s1 hP' S1
    rcases h4 _ _ hP' with ⟨z, hz, hK⟩ | ⟨E, q, hz, hK⟩
    · cases hz
      exact kk z _ H1 locs1 c1 s1 S1 hK
    · cases hz
  · intro E q h' H1 locs1 c1 s1 hP' S1 hth
    rcases h4 _ _ hP' with ⟨z, hz, hK⟩ | ⟨E9, q9, hz, hK⟩
    · cases hz
    · cases hz
      exact kx E q _ H1 locs1 c1 s1 S1 hK hth
theorem wq_cS_F (X : wv_ok G p R s m args meth c fr own cc nL ret nm tb) (S : wv_S G R s w H locs cells slots) {y : MethodName} {index nA : Nat} {As st : List Value} {K : UInt32 → wv_W → Prop} {KX : String → Nat → wv_W → Prop} (hv : wv_c0 G fr y As w (wv_rF K KX)) (hl : Cond.methodLink own index y ∈ lw_all) (hstt : Cond.static y ∈ lw_all) (hini : Cond.initialized y.cls ∈ lw_all) (hy : wv_ymh y) (hlen : (parseMethodDescriptor y.desc).map (fun d => d.parameters.length) = some nA) (hA : As.length = nA) (hst : st = As.reverse ++ rest) (hW : (rest.map fun v => v.category).sum ≤ 8) (hls : ls.size = nL) (hdg : decode cc pc = .ok (.invokestatic index, 3))
    (kk : ∀ (x : UInt32) (w1 : wv_W) (H1 : Heap) (locs1 : List Loc) (cells1 slots1 : Nat), wv_S G R s w1 H1 locs1 cells1 slots1 → K x w1 → W p G.1 e R s m args below meth c H1 locs1 cells1 slots1 Q (F0 m (pc + 3) ls (.float x :: rest)))
    (kx : ∀ (E : String) (q : Nat) (w1 : wv_W) (H1 : Heap) (locs1 : List Loc) (cells1 slots1 : Nat), wv_S G R s w1 H1 locs1 cells1 slots1 → KX E q w1 → wv_th s H1 E q → vx_W p G.1 e R s m args below meth c H1 locs1 cells1 slots1 Q (F0 m pc ls rest) q) : W p G.1 e R s m args below meth c H locs cells slots Q (F0 m pc ls st) := by
  obtain ⟨fr9, kc, ks, P9, hC, h1, h2, h3, h4⟩ := hv
  refine wr_callS X S hC h1 h2 h3 hl hstt hini hy hlen hA hst hW hls hdg ?_ ?_
  · intro v h' H1 locs1 c1 s1 hP' S1
    rcases h4 _ _ hP' with ⟨z, hz, hK⟩ | ⟨E, q, hz, hK⟩
    · cases hz
      exact kk z _ H1 locs1 c1 s1 S1 hK
    · cases hz
  · intro E q h' H1 locs1 c1 s1 hP' S1 hth
    rcases h4 _ _ hP' with ⟨z, hz, hK⟩ | ⟨E9, q9, hz, hK⟩
    · cases hz
    · cases hz
      exact kx E q _ H1 locs1 c1 s1 S1 hK hth
theorem wq_cS_D (X : wv_ok G p R s m args meth c fr own cc nL ret nm tb) (S : wv_S G R s w H locs cells slots) {y : MethodName} {index nA : Nat} {As st : List Value} {K : UInt64 → wv_W → Prop} {KX : String → Nat → wv_W → Prop} (hv : wv_c0 G fr y As w (wv_rD K KX)) (hl : Cond.methodLink own index y ∈ lw_all) (hstt : Cond.static y ∈ lw_all) (hini : Cond.initialized y.cls ∈ lw_all) (hy : wv_ymh y) (hlen : (parseMethodDescriptor y.desc).map (fun d => d.parameters.length) = some nA) (hA : As.length = nA) (hst : st = As.reverse ++ rest) (hW : (rest.map fun v => v.category).sum ≤ 8) (hls : ls.size = nL) (hdg : decode cc pc = .ok (.invokestatic index, 3))
    (kk : ∀ (x : UInt64) (w1 : wv_W) (H1 : Heap) (locs1 : List Loc) (cells1 slots1 : Nat), wv_S G R s w1 H1 locs1 cells1 slots1 → K x w1 → W p G.1 e R s m args below meth c H1 locs1 cells1 slots1 Q (F0 m (pc + 3) ls (.double x :: rest)))
    (kx : ∀ (E : String) (q : Nat) (w1 : wv_W) (H1 : Heap) (locs1 : List Loc) (cells1 slots1 : Nat), wv_S G R s w1 H1 locs1 cells1 slots1 → KX E q w1 → wv_th s H1 E q → vx_W p G.1 e R s m args below meth c H1 locs1 cells1 slots1 Q (F0 m pc ls rest) q) : W p G.1 e R s m args below meth c H locs cells slots Q (F0 m pc ls st) := by
  obtain ⟨fr9, kc, ks, P9, hC, h1, h2, h3, h4⟩ := hv
  refine wr_callS X S hC h1 h2 h3 hl hstt hini hy hlen hA hst hW hls hdg ?_ ?_
  · intro v h' H1 locs1 c1 s1 hP' S1
    rcases h4 _ _ hP' with ⟨z, hz, hK⟩ | ⟨E, q, hz, hK⟩
    · cases hz
      exact kk z _ H1 locs1 c1 s1 S1 hK
    · cases hz
  · intro E q h' H1 locs1 c1 s1 hP' S1 hth
    rcases h4 _ _ hP' with ⟨z, hz, hK⟩ | ⟨E9, q9, hz, hK⟩
    · cases hz
    · cases hz
      exact kx E q _ H1 locs1 c1 s1 S1 hK hth
theorem wq_cI_V (X : wv_ok G p R s m args meth c fr own cc nL ret nm tb) (S : wv_S G R s w H locs cells slots) {y : MethodName} {index nA : Nat} {r : Option Nat} {As st : List Value} {K : wv_W → Prop} {KX : String → Nat → wv_W → Prop} (hv : wv_cI G fr y r As w (wv_rV K KX)) (hy1 : y.name = "<init>") (hl : Cond.methodLink own index y ∈ lw_all) (hin : Cond.instanceMethod y ∈ lw_all) {b2 : ByteArray} {mL2 : Nat} (hcode : Cond.code y b2 mL2 none ∈ lw_all) (hini : Cond.initialized y.cls ∈ lw_all) (hy : wv_ymh y) (hlen : (parseMethodDescriptor y.desc).map (fun d => d.parameters.length) = some nA) (hA : As.length = nA) (hst : st = As.reverse ++ va_rf r :: rest) (hW : (rest.map fun v => v.category).sum ≤ 8) (hls : ls.size = nL) (hdg : decode cc pc = .ok (.invokespecial index, 3))
    (kk : ∀ (w1 : wv_W) (H1 : Heap) (locs1 : List Loc) (cells1 slots1 : Nat), wv_S G R s w1 H1 locs1 cells1 slots1 → K w1 → W p G.1 e R s m args below meth c H1 locs1 cells1 slots1 Q (F0 m (pc + 3) ls rest))
    (kx : ∀ (E : String) (q : Nat) (w1 : wv_W) (H1 : Heap) (locs1 : List Loc) (cells1 slots1 : Nat), wv_S G R s w1 H1 locs1 cells1 slots1 → KX E q w1 → wv_th s H1 E q → vx_W p G.1 e R s m args below meth c H1 locs1 cells1 slots1 Q (F0 m pc ls rest) q) : W p G.1 e R s m args below meth c H locs cells slots Q (F0 m pc ls st) := by
  obtain ⟨b, rfl, fr9, kc, ks, P9, hC, h1, h2, h3, h4⟩ := hv
  refine wr_callI X S hC h1 h2 h3 hy1 hl hin hcode hini hy hlen hA hst hW hls hdg ?_ ?_
  · intro v h' H1 locs1 c1 s1 hP' S1
    rcases h4 _ _ hP' with ⟨hz, hK⟩ | ⟨E, q, hz, hK⟩
    · cases hz
      exact kk _ H1 locs1 c1 s1 S1 hK
    · cases hz
  · intro E q h' H1 locs1 c1 s1 hP' S1 hth
    rcases h4 _ _ hP' with ⟨hz, hK⟩ | ⟨E9, q9, hz, hK⟩
    · cases hz
    · cases hz
      exact kx E q _ H1 locs1 c1 s1 S1 hK hth
theorem wq_cIN_V (X : wv_ok G p R s m args meth c fr own cc nL ret nm tb) (S : wv_S G R s w H locs cells slots) {y : MethodName} {index nA : Nat} {r : Option Nat} {As st : List Value} {K : wv_W → Prop} {KX : String → Nat → wv_W → Prop} (hv : wv_cI G fr y r As w (wv_rV K KX)) {host : String} (hy1 : y.name = "<init>") (hl : Cond.methodLinkNest own index y host ∈ lw_tbl) (hin : Cond.instanceMethod y ∈ lw_all) {b2 : ByteArray} {mL2 : Nat} (hcode : Cond.code y b2 mL2 none ∈ lw_all) (hini : Cond.initialized y.cls ∈ lw_all) (hy : wv_ymh y) (hlen : (parseMethodDescriptor y.desc).map (fun d => d.parameters.length) = some nA) (hA : As.length = nA) (hst : st = As.reverse ++ va_rf r :: rest) (hW : (rest.map fun v => v.category).sum ≤ 8) (hls : ls.size = nL) (hdg : decode cc pc = .ok (.invokespecial index, 3))
    (kk : ∀ (w1 : wv_W) (H1 : Heap) (locs1 : List Loc) (cells1 slots1 : Nat), wv_S G R s w1 H1 locs1 cells1 slots1 → K w1 → W p G.1 e R s m args below meth c H1 locs1 cells1 slots1 Q (F0 m (pc + 3) ls rest))
    (kx : ∀ (E : String) (q : Nat) (w1 : wv_W) (H1 : Heap) (locs1 : List Loc) (cells1 slots1 : Nat), wv_S G R s w1 H1 locs1 cells1 slots1 → KX E q w1 → wv_th s H1 E q → vx_W p G.1 e R s m args below meth c H1 locs1 cells1 slots1 Q (F0 m pc ls rest) q) : W p G.1 e R s m args below meth c H locs cells slots Q (F0 m pc ls st) := by
  obtain ⟨b, rfl, fr9, kc, ks, P9, hC, h1, h2, h3, h4⟩ := hv
  refine wr_callIN X S hC h1 h2 h3 hy1 hl hin hcode hini hy hlen hA hst hW hls hdg ?_ ?_
  · intro v h' H1 locs1 c1 s1 hP' S1
    rcases h4 _ _ hP' with ⟨hz, hK⟩ | ⟨E, q, hz, hK⟩
    · cases hz
      exact kk _ H1 locs1 c1 s1 S1 hK
    · cases hz
  · intro E q h' H1 locs1 c1 s1 hP' S1 hth
    rcases h4 _ _ hP' with ⟨hz, hK⟩ | ⟨E9, q9, hz, hK⟩
    · cases hz
    · cases hz
      exact kx E q _ H1 locs1 c1 s1 S1 hK hth
theorem wq_cF_I (X : wv_ok G p R s m args meth c fr own cc nL ret nm tb) (S : wv_S G R s w H locs cells slots) {x : MethodName} {index nA : Nat} {r : Option Nat} {As st : List Value} {K : Int32 → wv_W → Prop} {KX : String → Nat → wv_W → Prop} (hv : wv_cF G fr x r As w (wv_rI K KX)) {count : Nat} (hl : Cond.methodLink own index x ∈ lw_all) (hy : wv_ymh x) (hlen : (parseMethodDescriptor x.desc).map (fun d => d.parameters.length) = some nA) (hA : As.length = nA) (hst : st = As.reverse ++ va_rf r :: rest) (hW : (rest.map fun v => v.category).sum ≤ 8) (hls : ls.size = nL) (hdg : decode cc pc = .ok (.invokeinterface index count, 5))
    (kk : ∀ (x : Int32) (w1 : wv_W) (H1 : Heap) (locs1 : List Loc) (cells1 slots1 : Nat), wv_S G R s w1 H1 locs1 cells1 slots1 → K x w1 → W p G.1 e R s m args below meth c H1 locs1 cells1 slots1 Q (F0 m (pc + 5) ls (.int x :: rest)))
    (kx : ∀ (E : String) (q : Nat) (w1 : wv_W) (H1 : Heap) (locs1 : List Loc) (cells1 slots1 : Nat), wv_S G R s w1 H1 locs1 cells1 slots1 → KX E q w1 → wv_th s H1 E q → vx_W p G.1 e R s m args below meth c H1 locs1 cells1 slots1 Q (F0 m pc ls rest) q) : W p G.1 e R s m args below meth c H locs cells slots Q (F0 m pc ls st) := by
  obtain ⟨b, C9, y9, rfl, hb, hf, fr9, kc, ks, P9, hC, h1, h2, h3, h4⟩ := hv
  refine wr_callF X S hC h1 h2 h3 hb hl hf hy hlen hA hst hW hls hdg ?_ ?_
  · intro v h' H1 locs1 c1 s1 hP' S1
    rcases h4 _ _ hP' with ⟨z, hz, hK⟩ | ⟨E, q, hz, hK⟩
    · cases hz
      exact kk z _ H1 locs1 c1 s1 S1 hK
    · cases hz
  · intro E q h' H1 locs1 c1 s1 hP' S1 hth
    rcases h4 _ _ hP' with ⟨z, hz, hK⟩ | ⟨E9, q9, hz, hK⟩
    · cases hz
    · cases hz
      exact kx E q _ H1 locs1 c1 s1 S1 hK hth
theorem wq_cF_A (X : wv_ok G p R s m args meth c fr own cc nL ret nm tb) (S : wv_S G R s w H locs cells slots) {x : MethodName} {index nA : Nat} {r : Option Nat} {As st : List Value} {K : Option Nat → wv_W → Prop} {KX : String → Nat → wv_W → Prop} (hv : wv_cF G fr x r As w (wv_rA K KX)) {count : Nat} (hl : Cond.methodLink own index x ∈ lw_all) (hy : wv_ymh x) (hlen : (parseMethodDescriptor x.desc).map (fun d => d.parameters.length) = some nA) (hA : As.length = nA) (hst : st = As.reverse ++ va_rf r :: rest) (hW : (rest.map fun v => v.category).sum ≤ 8) (hls : ls.size = nL) (hdg : decode cc pc = .ok (.invokeinterface index count, 5))
    (kk : ∀ (x : Option Nat) (w1 : wv_W) (H1 : Heap) (locs1 : List Loc) (cells1 slots1 : Nat), wv_S G R s w1 H1 locs1 cells1 slots1 → K x w1 → W p G.1 e R s m args below meth c H1 locs1 cells1 slots1 Q (F0 m (pc + 5) ls (va_rf x :: rest)))
    (kx : ∀ (E : String) (q : Nat) (w1 : wv_W) (H1 : Heap) (locs1 : List Loc) (cells1 slots1 : Nat), wv_S G R s w1 H1 locs1 cells1 slots1 → KX E q w1 → wv_th s H1 E q → vx_W p G.1 e R s m args below meth c H1 locs1 cells1 slots1 Q (F0 m pc ls rest) q) : W p G.1 e R s m args below meth c H locs cells slots Q (F0 m pc ls st) := by
  obtain ⟨b, C9, y9, rfl, hb, hf, fr9, kc, ks, P9, hC, h1, h2, h3, h4⟩ := hv
  refine wr_callF X S hC h1 h2 h3 hb hl hf hy hlen hA hst hW hls hdg ?_ ?_
  · intro v h' H1 locs1 c1 s1 hP' S1
    rcases h4 _ _ hP' with ⟨z, hz, hK⟩ | ⟨E, q, hz, hK⟩
    · cases hz
      exact kk z _ H1 locs1 c1 s1 S1 hK
    · cases hz
  · intro E q h' H1 locs1 c1 s1 hP' S1 hth
    rcases h4 _ _ hP' with ⟨z, hz, hK⟩ | ⟨E9, q9, hz, hK⟩
    · cases hz
    · cases hz
      exact kx E q _ H1 locs1 c1 s1 S1 hK hth
theorem wq_kx (X : wv_ok G p R s m args meth c fr own cc nL ret nm tb) {P : wv_R → wv_H → Prop} (hcov : wv_cov tb pc = false) : ∀ (E : String) (q : Nat) (w1 : wv_W) (H1 : Heap) (locs1 : List Loc) (cells1 slots1 : Nat), wv_S G R s w1 H1 locs1 cells1 slots1 → wv_pr P E q w1 → wv_th s H1 E q → vx_W p G.1 e R s m args below meth c H1 locs1 cells1 slots1 (wv_MQ G P below s R.cells R.slots) (F0 m pc ls rest) q :=
  fun E q w1 H1 locs1 c1 s1 S1 hK hth => wr_out X S1 hK hth hcov
theorem wq_athrow (X : wv_ok G p R s m args meth c fr own cc nL ret nm tb) (S : wv_S G R s w H locs cells slots) {r : Option Nat} {KX : String → Nat → wv_W → Prop} (hv : wv_at w r KX) (hdg : decode cc pc = .ok (.athrow, 1))
    (kx : ∀ (E : String) (q : Nat) (w1 : wv_W) (H1 : Heap) (locs1 : List Loc) (cells1 slots1 : Nat), wv_S G R s w1 H1 locs1 cells1 slots1 → KX E q w1 → wv_th s H1 E q → vx_W p G.1 e R s m args below meth c H1 locs1 cells1 slots1 Q (F0 m pc ls rest) q) : W p G.1 e R s m args below meth c H locs cells slots Q (F0 m pc ls (va_rf r :: rest)) := by
  obtain ⟨a, t, ci, fs, ⟨C, T, N⟩, rfl, h1, h2, h3⟩ := hv
  exact wr_athrow X S hdg (kx C a w H locs cells slots S h3 (wv_thO X S h1 h2))
end WV7
