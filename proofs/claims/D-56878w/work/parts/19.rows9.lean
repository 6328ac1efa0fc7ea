/-! ROWS 9: statics, constants (boxes, Strings), class objects, arraycopy, instanceof, calls by an inherited name -/
section WV12
variable {G : wv_G} {p : Program} {e : Env} {R : Room} {s : State} {m : MethodId} {args : Array Value} {below : List Frame} {meth : Method} {c : Code} {fr : Nat} {own : String} {cc : ByteArray} {nL : Nat} {ret : Option FieldType} {nm : String} {tb : List (Nat × Nat × Nat × Nat)}
variable {w : wv_W} {H : Heap} {locs : List Loc} {cells slots : Nat} {Q : State → Prop} {pc : Nat} {ls : Array Slot} {rest : List Value}
theorem wv_ok.vS (X : wv_ok G p R s m args meth c fr own cc nL ret nm tb) (S : wv_S G R s w H locs cells slots) : va_S (fun q => wv_b G ≤ q) s.heap H locs := ⟨S.2.2.2.2, fun q _ h2 => by rw [S.1.2.1 q (Nat.not_le.mp h2), X.hold q (Nat.not_le.mp h2)], S.2.1⟩
theorem wv_ok.vT (X : wv_ok G p R s m args meth c fr own cc nL ret nm tb) {ty : FieldType} {t N : Nat} {f : Nat → Value} (h : va_T ty t N f (fun q => wv_b G ≤ q) G.2.1 G.2.1.heap) : va_T ty t N f (fun q => wv_b G ≤ q) s s.heap := va_T.moved X.hW.alike (h.kept (fun a _ h2 => X.hold a (Nat.not_le.mp h2)))
theorem wv_ok.vO (X : wv_ok G p R s m args meth c fr own cc nL ret nm tb) {o n d : String} {v : Value} {a : Nat} (h : va_OF o n d v a (fun q => wv_b G ≤ q) G.2.1 G.2.1.heap) : va_OF o n d v a (fun q => wv_b G ≤ q) s s.heap := va_OF.moved X.hW.alike (h.kept (fun a _ h2 => X.hold a (Nat.not_le.mp h2)))
/-- a field of a constant -/
theorem wr_gcon (X : wv_ok G p R s m args meth c fr own cc nL ret nm tb) (S : wv_S G R s w H locs cells slots) {o n d : String} {v : Value} {a index : Nat} (hO : va_OF o n d v a (fun q => wv_b G ≤ q) G.2.1 G.2.1.heap) (hlink : Cond.fieldLink own index o n d ∈ lw_all) (hdg : decode cc pc = .ok (.getfield index, 3)) (kk : W p G.1 e R s m args below meth c H locs cells slots Q (F0 m (pc + 3) ls (v :: rest))) : W p G.1 e R s m args below meth c H locs cells slots Q (F0 m pc ls (.ref a :: rest)) := by
  obtain ⟨cf, k, fi, f, cell, h1, h2, h3, h4, h5, h6⟩ := (X.vO hO).kept (X.vS S).2.1
  exact W.getf X.hx X.hb X.hown (X.hts _ hlink) h1 h2 h3 h4 (v := v) h5 rfl rfl hdg kk

def wv_gB (G : wv_G) (r : Option Nat) (K : Int32 → Prop) : Prop := ∃ k : Nat, k < 256 ∧ r = some (G.2.2.2.2 (100 + k)) ∧ K (vb_c k)
theorem wq_gB (X : wv_ok G p R s m args meth c fr own cc nL ret nm tb) (S : wv_S G R s w H locs cells slots) {index : Nat} {r : Option Nat} {K : Int32 → Prop} (hv : wv_gB G r K) (hlink : Cond.fieldLink own index "java/lang/Integer" "value" "I" ∈ lw_all) (hdg : decode cc pc = .ok (.getfield index, 3)) (kk : ∀ x : Int32, K x → W p G.1 e R s m args below meth c H locs cells slots Q (F0 m (pc + 3) ls (.int x :: rest))) : W p G.1 e R s m args below meth c H locs cells slots Q (F0 m pc ls (va_rf r :: rest)) := by
  obtain ⟨k, hk, rfl, hK⟩ := hv
  exact wr_gcon X S ((wv_boxes X.hG).2 k hk) hlink hdg (kk _ hK)
theorem wv_cache (hG : wv_G0 G) : va_T (.object "java/lang/Integer") (G.2.2.2.2 1) 256 (fun k => .ref (G.2.2.2.2 (100 + k))) (fun q => wv_b G ≤ q) G.2.1 G.2.1.heap := by
  obtain ⟨-, -, -, b0, hn, hk⟩ := hG
  have hs := flat_of_before _ hn
  have hlen0 : (Cond.eq (.length (.static "java/lang/Integer$IntegerCache" "cache" "[Ljava/lang/Integer;")) (.int 256)).before #[Value.ref b0] G.2.1 = true := hs _ (by decide +kernel)
  have harr : (Cond.arrayOf (.static "java/lang/Integer$IntegerCache" "cache" "[Ljava/lang/Integer;") (.object "java/lang/Integer")).before #[Value.ref b0] G.2.1 = true := hs _ (by decide +kernel)
  obtain ⟨t, h1, h2⟩ := va_Tof (N := 256) (f := fun k => .ref (G.2.2.2.2 (100 + k))) (A := fun q => wv_b G ≤ q) (by decide) harr (va_eqt hlen0) (fun j hj => hk (100 + j) _ (by
    unfold wv_tm
    rw [if_neg (by omega), if_neg (by omega), if_neg (by omega), if_pos (by omega), show 100 + j - 100 = j by omega])) (fun a ha => Nat.not_le.mpr ha)
  have h3 := hk 1 _ (by unfold wv_tm; rw [if_neg (by omega), if_pos rfl])
  have h4 := Value.ref.inj (Option.some.inj (h3.symm.trans h1))
  rw [h4]
  exact h2
def wv_lc (G : wv_G) (r : Option Nat) (i : Int32) (K : Option Nat → Prop) : Prop := ∃ k : Nat, k < 256 ∧ r = some (G.2.2.2.2 1) ∧ i = nI k ∧ K (some (G.2.2.2.2 (100 + k)))
theorem wq_lc (X : wv_ok G p R s m args meth c fr own cc nL ret nm tb) (S : wv_S G R s w H locs cells slots) {r : Option Nat} {i : Int32} {K : Option Nat → Prop} (hv : wv_lc G r i K) (hdg : decode cc pc = .ok (.aaload, 1)) (kk : ∀ x : Option Nat, K x → W p G.1 e R s m args below meth c H locs cells slots Q (F0 m (pc + 1) ls (va_rf x :: rest))) : W p G.1 e R s m args below meth c H locs cells slots Q (F0 m pc ls (.int i :: va_rf r :: rest)) := by
  obtain ⟨k, hk, rfl, rfl, hK⟩ := hv
  have h1 : (nI k).toNatClampNeg = k := Int32.toNatClampNeg_ofNat_of_lt (by omega)
  refine vb_tq X.hx X.hb (X.vT (wv_cache X.hG)) (X.vS S) (i := nI k) (v := va_rf (some (G.2.2.2.2 (100 + k)))) ?_ (by rw [h1]; rfl) hdg (kk _ hK)
  intro h
  rcases h with h | h
  · have := Int32.lt_iff_toInt_lt.mp h
    have h2 : (nI k).toInt = (k : Int) := Int32.toInt_ofNat_of_lt (by omega)
    rw [h2] at this
    simp at this
    omega
  · omega

theorem wq_gsR (X : wv_ok G p R s m args meth c fr own cc nL ret nm tb) (S : wv_S G R s w H locs cells slots) {C n d : String} {k index : Nat} (hk : wv_tm k = some (.static C n d)) (hl : Cond.laysStatic C n d ∈ lw_tbl) (hi : Cond.initialized C ∈ lw_tbl) (hlink : Cond.fieldLink own index C n d ∈ lw_all) (hdg : decode cc pc = .ok (.getstatic index, 3)) (kk : W p G.1 e R s m args below meth c H locs cells slots Q (F0 m (pc + 3) ls (va_rf (some (G.2.2.2.2 k)) :: rest))) : W p G.1 e R s m args below meth c H locs cells slots Q (F0 m pc ls (rest)) := wr_gets X S (wv_stA X.hG hk hl hi) hlink hdg kk
theorem wv_stI (hG : wv_G0 G) {C n d : String} {z : Int32} (hl : Cond.laysStatic C n d ∈ lw_tbl) (hi : Cond.initialized C ∈ lw_tbl) (hz : ∀ b0 : Nat, (Jvm.Cond.and given_1 narrow_1).before #[Value.ref b0] G.2.1 = true → (Cond.eq (.static C n d) (.int z)).before #[Value.ref b0] G.2.1 = true) : va_Z C n d (.int z) (fun q => wv_b G ≤ q) G.2.1 G.2.1.heap := by
  obtain ⟨-, -, ⟨b1, ht⟩, b0, hn, h⟩ := hG
  exact va_Zof (args := #[Value.ref b0]) (by exact ht _ hl) (by exact ht _ hi) (va_eqi (hz b0 hn)) (fun a ha => Nat.not_le.mpr ha)
theorem wv_stF (hG : wv_G0 G) {C n d : String} (hl : Cond.laysStatic C n d ∈ lw_tbl) (hi : Cond.initialized C ∈ lw_tbl) (hz : ∀ b0 : Nat, (Jvm.Cond.and given_1 narrow_1).before #[Value.ref b0] G.2.1 = true → (Cond.isRef (.static C n d)).before #[Value.ref b0] G.2.1 = true) : va_Zq C n d (fun q => wv_b G ≤ q) G.2.1 G.2.1.heap := by
  obtain ⟨-, -, ⟨b1, ht⟩, b0, hn, h⟩ := hG
  exact va_Zqof (args := #[Value.ref b0]) (by exact ht _ hl) (by exact ht _ hi) (hz b0 hn) (fun a ha => Nat.not_le.mpr ha)
theorem wv_high (hG : wv_G0 G) (hl : Cond.laysStatic "java/lang/Integer$IntegerCache" "high" "I" ∈ lw_tbl) (hi : Cond.initialized "java/lang/Integer$IntegerCache" ∈ lw_tbl) : va_Z "java/lang/Integer$IntegerCache" "high" "I" (.int 127) (fun q => wv_b G ≤ q) G.2.1 G.2.1.heap := wv_stI hG hl hi (fun b0 h => flat_of_before _ h _ (by decide +kernel))
theorem wv_compact (hG : wv_G0 G) (hl : Cond.laysStatic "java/lang/String" "COMPACT_STRINGS" "Z" ∈ lw_tbl) (hi : Cond.initialized "java/lang/String" ∈ lw_tbl) : va_Z "java/lang/String" "COMPACT_STRINGS" "Z" (.int 1) (fun q => wv_b G ≤ q) G.2.1 G.2.1.heap := wv_stI hG hl hi (fun b0 h => flat_of_before _ h _ (by decide +kernel))
theorem wv_fmt (hG : wv_G0 G) (hl : Cond.laysStatic "jdk/internal/util/Preconditions" "SIOOBE_FORMATTER" "Ljava/util/function/BiFunction;" ∈ lw_tbl) (hi : Cond.initialized "jdk/internal/util/Preconditions" ∈ lw_tbl) : va_Zq "jdk/internal/util/Preconditions" "SIOOBE_FORMATTER" "Ljava/util/function/BiFunction;" (fun q => wv_b G ≤ q) G.2.1 G.2.1.heap := wv_stF hG hl hi (fun b0 h => flat_of_before _ h _ (by decide +kernel))
theorem wq_gsQ (X : wv_ok G p R s m args meth c fr own cc nL ret nm tb) (S : wv_S G R s w H locs cells slots) {C n d : String} {index : Nat} {K : Option Nat → Prop} (hv : ∀ x, K x) (hZ : va_Zq C n d (fun q => wv_b G ≤ q) G.2.1 G.2.1.heap) (hlink : Cond.fieldLink own index C n d ∈ lw_all) (hdg : decode cc pc = .ok (.getstatic index, 3)) (kk : ∀ x : Option Nat, K x → W p G.1 e R s m args below meth c H locs cells slots Q (F0 m (pc + 3) ls (va_rf x :: rest))) : W p G.1 e R s m args below meth c H locs cells slots Q (F0 m pc ls (rest)) := by
  rcases hZ with hZ | ⟨t, hZ⟩
  · exact wr_gets X S hZ hlink hdg (kk none (hv _))
  · exact wr_gets X S hZ hlink hdg (kk (some t) (hv _))

def wv_sV (G : wv_G) (r : Option Nat) (K : Option Nat → Prop) : Prop := ∃ k : Nat, k < 19 ∧ r = some (G.2.2.2.2 (400 + k)) ∧ K (some (G.2.2.2.2 (450 + k)))
def wv_sC (G : wv_G) (r : Option Nat) (K : Int32 → Prop) : Prop := ∃ k : Nat, k < 19 ∧ r = some (G.2.2.2.2 (400 + k)) ∧ K 0
def wv_sH (G : wv_G) (r : Option Nat) (K : Int32 → Prop) : Prop := ∃ (k : Nat) (q : Int32 × List Int32), wv_sx[k]? = some q ∧ r = some (G.2.2.2.2 (400 + k)) ∧ K q.1
def wv_bL (G : wv_G) (r : Option Nat) (K : Int32 → Prop) : Prop := ∃ (k : Nat) (q : Int32 × List Int32), wv_sx[k]? = some q ∧ r = some (G.2.2.2.2 (450 + k)) ∧ K (nI q.2.length)
def wv_bG (G : wv_G) (r : Option Nat) (i : Int32) (K : Int32 → Prop) : Prop := ∃ (k : Nat) (q : Int32 × List Int32), wv_sx[k]? = some q ∧ r = some (G.2.2.2.2 (450 + k)) ∧ vp_in i q.2.length ∧ K (q.2.getD i.toNatClampNeg 0)
theorem wv_sxk {k : Nat} (hk : k < 19) : ∃ q, wv_sx[k]? = some q := ⟨_, List.getElem?_eq_getElem (show k < wv_sx.length from hk)⟩
theorem wq_sV (X : wv_ok G p R s m args meth c fr own cc nL ret nm tb) (S : wv_S G R s w H locs cells slots) {index : Nat} {r : Option Nat} {K : Option Nat → Prop} (hv : wv_sV G r K) (hlink : Cond.fieldLink own index "java/lang/String" "value" "[B" ∈ lw_all) (hdg : decode cc pc = .ok (.getfield index, 3)) (kk : ∀ x : Option Nat, K x → W p G.1 e R s m args below meth c H locs cells slots Q (F0 m (pc + 3) ls (va_rf x :: rest))) : W p G.1 e R s m args below meth c H locs cells slots Q (F0 m pc ls (va_rf r :: rest)) := by
  obtain ⟨k, hk, rfl, hK⟩ := hv
  obtain ⟨q, hq⟩ := wv_sxk hk
  exact wr_gcon X S (wv_strs X.hG hq).2.2.2.1 hlink hdg (kk _ hK)
theorem wq_sC (X : wv_ok G p R s m args meth c fr own cc nL ret nm tb) (S : wv_S G R s w H locs cells slots) {index : Nat} {r : Option Nat} {K : Int32 → Prop} (hv : wv_sC G r K) (hlink : Cond.fieldLink own index "java/lang/String" "coder" "B" ∈ lw_all) (hdg : decode cc pc = .ok (.getfield index, 3)) (kk : ∀ x : Int32, K x → W p G.1 e R s m args below meth c H locs cells slots Q (F0 m (pc + 3) ls (.int x :: rest))) : W p G.1 e R s m args below meth c H locs cells slots Q (F0 m pc ls (va_rf r :: rest)) := by
  obtain ⟨k, hk, rfl, hK⟩ := hv
  obtain ⟨q, hq⟩ := wv_sxk hk
  exact wr_gcon X S (wv_strs X.hG hq).2.1 hlink hdg (kk _ hK)
theorem wq_sH (X : wv_ok G p R s m args meth c fr own cc nL ret nm tb) (S : wv_S G R s w H locs cells slots) {index : Nat} {r : Option Nat} {K : Int32 → Prop} (hv : wv_sH G r K) (hlink : Cond.fieldLink own index "java/lang/String" "hash" "I" ∈ lw_all) (hdg : decode cc pc = .ok (.getfield index, 3)) (kk : ∀ x : Int32, K x → W p G.1 e R s m args below meth c H locs cells slots Q (F0 m (pc + 3) ls (.int x :: rest))) : W p G.1 e R s m args below meth c H locs cells slots Q (F0 m pc ls (va_rf r :: rest)) := by
  obtain ⟨k, q, hq, rfl, hK⟩ := hv
  exact wr_gcon X S (wv_strs X.hG hq).2.2.1 hlink hdg (kk _ hK)
theorem wq_bL (X : wv_ok G p R s m args meth c fr own cc nL ret nm tb) (S : wv_S G R s w H locs cells slots) {r : Option Nat} {K : Int32 → Prop} (hv : wv_bL G r K) (hdg : decode cc pc = .ok (.arraylength, 1)) (kk : ∀ x : Int32, K x → W p G.1 e R s m args below meth c H locs cells slots Q (F0 m (pc + 1) ls (.int x :: rest))) : W p G.1 e R s m args below meth c H locs cells slots Q (F0 m pc ls (va_rf r :: rest)) := by
  obtain ⟨k, q, hq, rfl, hK⟩ := hv
  exact va_tlen X.hx X.hb (X.vT (wv_strs X.hG hq).2.2.2.2) (X.vS S) rfl hdg (kk _ hK)
theorem wq_bG (X : wv_ok G p R s m args meth c fr own cc nL ret nm tb) (S : wv_S G R s w H locs cells slots) {r : Option Nat} {i : Int32} {K : Int32 → Prop} (hv : wv_bG G r i K) (hdg : decode cc pc = .ok (.baload, 1)) (kk : ∀ x : Int32, K x → W p G.1 e R s m args below meth c H locs cells slots Q (F0 m (pc + 1) ls (.int x :: rest))) : W p G.1 e R s m args below meth c H locs cells slots Q (F0 m pc ls (.int i :: va_rf r :: rest)) := by
  obtain ⟨k, q, hq, rfl, hin, hK⟩ := hv
  exact va_tb X.hx X.hb (X.vT (wv_strs X.hG hq).2.2.2.2) (X.vS S) hin rfl hdg (kk _ hK)

/-- the class object of C -/
noncomputable def wv_mir (G : wv_G) (C : String) : Nat := ((G.2.1.vm.findClass C).bind (fun c => G.2.1.vm.classes[c]?.bind (fun k => k.mirror))).getD 0
theorem wv_mirOf {C : String} {mi : Nat} (h : va_Mi C mi G.2.1) : mi = wv_mir G C := by
  obtain ⟨c, k, h1, h2, h3⟩ := h
  simp [wv_mir, h1, h2, h3]
theorem wv_mirAt (hG : wv_G0 G) {C : String} (hz : ∀ b0 : Nat, (Jvm.Cond.and given_1 narrow_1).before #[Value.ref b0] G.2.1 = true → (Cond.isRef (.mirror C)).before #[Value.ref b0] G.2.1 = true) : va_Mi C (wv_mir G C) G.2.1 := by
  obtain ⟨-, -, -, b0, hn, -⟩ := hG
  obtain ⟨mi, h⟩ := va_Mi.of (hz b0 hn)
  rw [← wv_mirOf h]
  exact h
theorem wv_mirO (hG : wv_G0 G) : va_Mi "[Ljava/lang/Object;" (wv_mir G "[Ljava/lang/Object;") G.2.1 := wv_mirAt hG (fun b0 h => flat_of_before _ h _ (by decide +kernel))
theorem wv_mirL (hG : wv_G0 G) : va_Mi "java/util/ArrayList" (wv_mir G "java/util/ArrayList") G.2.1 := wv_mirAt hG (fun b0 h => flat_of_before _ h _ (by decide +kernel))
theorem wq_ldcM (X : wv_ok G p R s m args meth c fr own cc nL ret nm tb) (S : wv_S G R s w H locs cells slots) {C : String} {index : Nat} (hM : va_Mi C (wv_mir G C) G.2.1) (hlink : Cond.classLink own index C ∈ lw_all) (hdg : decode cc pc = .ok (.ldc index, 2)) (kk : W p G.1 e R s m args below meth c H locs cells slots Q (F0 m (pc + 2) ls (va_rf (some (wv_mir G C)) :: rest))) : W p G.1 e R s m args below meth c H locs cells slots Q (F0 m pc ls (rest)) :=
  va_ldcM X.hx X.hb X.hown (X.hts _ hlink) (va_Mi.moved X.hW.alike hM) hdg kk
/-- the object's class, or the array's, for getClass -/
def wv_cls (G : wv_G) (h : wv_H) (a : Nat) (C : String) : Prop := wv_is G h a C ∨ (C = "[Ljava/lang/Object;" ∧ ∃ t n f, h a = some (t, wo_q (wv_A G 5) n f))
def wv_gc (G : wv_G) (fr : Nat) (w : wv_W) (r : Option Nat) (C : String) (K : Prop) : Prop := ∃ a, r = some a ∧ wv_cls G w.1 a C ∧ 1 ≤ fr ∧ K
theorem wv_cls.cell (X : wv_ok G p R s m args meth c fr own cc nL ret nm tb) (hR : wv_Rep G w.1 H) {a : Nat} {C : String} (h : wv_cls G w.1 a C) : ∃ cell : Cell, H[a]? = some cell ∧ cell.vm.isStatics = false ∧ s.vm.findClass C = some cell.cls := by
  rcases h with h | ⟨rfl, t, n, f, h⟩
  · exact h.cell X hR
  · exact ⟨_, hR.at h, rfl, va_nmO (X.K.2 5 _ rfl).2 rfl⟩
theorem wq_gc (X : wv_ok G p R s m args meth c fr own cc nL ret nm tb) (S : wv_S G R s w H locs cells slots) {C : String} {index : Nat} {r : Option Nat} {K : Prop} (hv : wv_gc G fr w r C K) (hM : va_Mi C (wv_mir G C) G.2.1) (hlink : Cond.methodLink own index ⟨"java/lang/Object", "getClass", "()Ljava/lang/Class;"⟩ ∈ lw_all) (hsel : Cond.selects C ⟨"java/lang/Object", "getClass", "()Ljava/lang/Class;"⟩ ⟨"java/lang/Object", "getClass", "()Ljava/lang/Class;"⟩ ∈ lw_all) (hW : (rest.map fun v => v.category).sum ≤ 8) (hls : ls.size = nL) (hdg : decode cc pc = .ok (.invokevirtual index, 3)) (kk : K → W p G.1 e R s m args below meth c H locs cells slots Q (F0 m (pc + 3) ls (va_rf (some (wv_mir G C)) :: rest))) : W p G.1 e R s m args below meth c H locs cells slots Q (F0 m pc ls (va_rf r :: rest)) := by
  obtain ⟨a, rfl, h1, h2, h3⟩ := hv
  have hlo := X.hlo
  have hff := X.hfr
  have hd : va_Dc s := va_Dc.moved X.hW.alike (va_Dc.of (X.hG.2.2.1.choose_spec _ q2645))
  exact va_getC X.hx X.hb (by rw [X.hml]; exact hls.symm) X.hown (X.hts _ hlink) hd.use (X.hts _ hsel) (X.hts _ q772) (X.hts _ q816) (va_Mi.moved X.hW.alike hM) (h1.cell X S.1) (by omega) (by omega) hdg (kk h3)
theorem wq_inst (X : wv_ok G p R s m args meth c fr own cc nL ret nm tb) (S : wv_S G R s w H locs cells slots) {C : String} {index : Nat} {r : Option Nat} {K : Prop} (hv : (∃ a C', r = some a ∧ wv_is G w.1 a C' ∧ (C' = C ∨ Cond.castable C' C ∈ lw_tbl)) ∧ K) (hlink : Cond.classLink own index C ∈ lw_all) (hdg : decode cc pc = .ok (.instanceof index, 3)) (kk : K → W p G.1 e R s m args below meth c H locs cells slots Q (F0 m (pc + 3) ls (.int 1 :: rest))) : W p G.1 e R s m args below meth c H locs cells slots Q (F0 m pc ls (va_rf r :: rest)) := by
  obtain ⟨⟨a, C', rfl, h1, h2⟩, hK⟩ := hv
  rcases h2 with rfl | h2
  · exact va_instE X.hx X.hb X.hown (X.hts _ hlink) (h1.cell X S.1) hdg (kk hK)
  · exact va_instY X.hx X.hb X.hown (X.hts _ hlink) (X.cast h2) (h1.cell X S.1) hdg (kk hK)
/-- the length of an array of Objects, or of the empty one of the lists -/
def wv_lenA (G : wv_G) (w : wv_W) (r : Option Nat) (K : Int32 → Prop) : Prop := (∃ (a : Nat) (t : wv_T) (n : Nat) (f : Nat → Option Nat), r = some a ∧ w.1 a = some (t, wo_q (wv_A G 5) n f) ∧ K (nI n)) ∨ (r = some (G.2.2.2.2 0) ∧ K 0)
theorem wv_emp (hG : wv_G0 G) : va_T (.object "java/lang/Object") (G.2.2.2.2 0) 0 (fun _ => .null) (fun q => wv_b G ≤ q) G.2.1 G.2.1.heap := by
  obtain ⟨-, -, -, b0, hn, hk⟩ := hG
  have hs := flat_of_before _ hn
  have hlen0 : (Cond.eq (.length (.static "java/util/ArrayList" "DEFAULTCAPACITY_EMPTY_ELEMENTDATA" "[Ljava/lang/Object;")) (.int 0)).before #[Value.ref b0] G.2.1 = true := hs _ (by decide +kernel)
  have harr : (Cond.arrayOf (.static "java/util/ArrayList" "DEFAULTCAPACITY_EMPTY_ELEMENTDATA" "[Ljava/lang/Object;") (.object "java/lang/Object")).before #[Value.ref b0] G.2.1 = true := hs _ (by decide +kernel)
  obtain ⟨t, h1, h2⟩ := va_Tof (N := 0) (f := fun _ => .null) (A := fun q => wv_b G ≤ q) (by decide) harr (va_eqt hlen0) (fun j hj => absurd hj (Nat.not_lt_zero _)) (fun a ha => Nat.not_le.mpr ha)
  have h3 := hk 0 _ (by unfold wv_tm; rw [if_pos rfl])
  have h4 := Value.ref.inj (Option.some.inj (h3.symm.trans h1))
  rw [h4]
  exact h2
theorem wq_lenA (X : wv_ok G p R s m args meth c fr own cc nL ret nm tb) (S : wv_S G R s w H locs cells slots) {r : Option Nat} {K : Int32 → Prop} (hv : wv_lenA G w r K) (hdg : decode cc pc = .ok (.arraylength, 1)) (kk : ∀ x : Int32, K x → W p G.1 e R s m args below meth c H locs cells slots Q (F0 m (pc + 1) ls (.int x :: rest))) : W p G.1 e R s m args below meth c H locs cells slots Q (F0 m pc ls (va_rf r :: rest)) := by
  rcases hv with ⟨a, t, n, f, rfl, h1, h2⟩ | ⟨rfl, h2⟩
  · exact wq_len5 X S ⟨a, t, n, f, rfl, h1, h2⟩ hdg kk
  · exact va_tlen X.hx X.hb (X.vT (wv_emp X.hG)) (X.vS S) rfl hdg (kk _ h2)

/-- System.arraycopy between arrays of Objects -/
def wv_ac (G : wv_G) (fr : Nat) (w : wv_W) (r0 : Option Nat) (sp : Int32) (r1 : Option Nat) (dp n : Int32) (K : wv_W → Prop) : Prop := ∃ (a0 a : Nat) (t0 t : wv_T) (n0 n1 : Nat) (f g : Nat → Option Nat), r0 = some a0 ∧ r1 = some a ∧ w.1 a0 = some (t0, wo_q (wv_A G 5) n0 f) ∧ w.1 a = some (t, wo_q (wv_A G 5) n1 g) ∧ t.1 ≠ 0 ∧ ¬ sp < 0 ∧ ¬ dp < 0 ∧ ¬ n < 0 ∧ sp.toNatClampNeg + n.toNatClampNeg ≤ n0 ∧ dp.toNatClampNeg + n.toNatClampNeg ≤ n1 ∧ (∀ i : Nat, i < n.toNatClampNeg → ∀ y : Nat, f (sp.toNatClampNeg + i) = some y → ∃ C, wv_is G w.1 y C ∧ Cond.castable C "java/lang/Object" ∈ lw_tbl) ∧ 1 ≤ fr ∧ K (wv_up w.1 a (t, wo_q (wv_A G 5) n1 (va_cpy f g sp.toNatClampNeg dp.toNatClampNeg n.toNatClampNeg)), w.2)
theorem wq_ac (X : wv_ok G p R s m args meth c fr own cc nL ret nm tb) (S : wv_S G R s w H locs cells slots) {r0 r1 : Option Nat} {sp dp n : Int32} {index : Nat} {K : wv_W → Prop} (hv : wv_ac G fr w r0 sp r1 dp n K) (hlink : Cond.methodLink own index arraycopyName ∈ lw_all) (hW : (rest.map fun v => v.category).sum ≤ 8) (hls : ls.size = nL) (hdg : decode cc pc = .ok (.invokestatic index, 3))
    (kk : ∀ (w1 : wv_W) (H1 : Heap) (locs1 : List Loc), wv_S G R s w1 H1 locs1 cells slots → K w1 → W p G.1 e R s m args below meth c H1 locs1 cells slots Q (F0 m (pc + 3) ls rest)) : W p G.1 e R s m args below meth c H locs cells slots Q (F0 m pc ls (.int n :: .int dp :: va_rf r1 :: .int sp :: va_rf r0 :: rest)) := by
  obtain ⟨a0, a, t0, t, n0, n1, f, g, rfl, rfl, ha0, ha, ht, h1, h2, h3, h4, h5, hel, hfr, hK⟩ := hv
  have nn : ∀ z : Int32, ¬ z < 0 → z.toInt = (z.toNatClampNeg : Int) := by
    intro z hz
    have hz0 : (0 : Int) ≤ z.toInt := by
      have := Int32.not_lt.mp hz
      simpa using Int32.le_iff_toInt_le.mp this
    show z.toInt = ((z.toInt.toNat : Nat) : Int)
    omega
  have hlo := X.hlo
  have hff := X.hfr
  intro T hT Z
  have hc0 : H[a0]? = some (vp_cell (wv_A G 5) (n0, .inr (.inr (.inr (.inr f))))) := S.1.at ha0
  have hc1 : H[a]? = some (vp_cell (wv_A G 5) (n1, .inr (.inr (.inr (.inr g))))) := S.1.at ha
  obtain ⟨-, k0, hk0, cm0, hkk0⟩ := (X.K.2 5 _ rfl).1 n0 (fun j => va_rf (f j))
  obtain ⟨-, k1, hk1, cm1, hkk1⟩ := (X.K.2 5 _ rfl).1 n1 (fun j => va_rf (g j))
  obtain ⟨vm', X', step⟩ := Z.arraycopy X.hx X.hown (X.hts _ hlink) (X.hts _ q505) (X.hts _ q504) (X.hts _ q81) (src := a0) (dst := a) (cs := vp_cell (wv_A G 5) (n0, .inr (.inr (.inr (.inr f))))) (cd := vp_cell (wv_A G 5) (n1, .inr (.inr (.inr (.inr g))))) (srcPos := sp) (destPos := dp) (n := n) (by rw [hT]; exact hc0) (by rw [hT]; exact hc1)
    (fun _ h => by cases h) (fun _ h => by cases h) (fun h => by cases h) (fun h => by cases h) hk0 hk1 hkk0 hkk1 rfl h1 h2 h3
    (by rw [nn sp h1, nn n h3]; show ¬ _ > ((arrV (wv_A G 5) n0 (fun j => va_rf (f j))).slots.size : Int); rw [arrV_size]; omega)
    (by rw [nn dp h2, nn n h3]; show ¬ _ > ((arrV (wv_A G 5) n1 (fun j => va_rf (g j))).slots.size : Int); rw [arrV_size]; omega)
    (fun vm₁ hal i hi => by
      have e : (vp_cell (wv_A G 5) (n0, .inr (.inr (.inr (.inr f))))).slots.getD (sp.toNatClampNeg + i) .null = va_rf (f (sp.toNatClampNeg + i)) := by
        show (arrV (wv_A G 5) n0 (fun j => va_rf (f j))).slots.getD _ _ = _
        rw [Array.getD_eq_getD_getElem?, arrV_read _ _ (by omega)]
        rfl
      rw [e]
      cases hy : f (sp.toNatClampNeg + i) with
      | none => exact ⟨rfl, trivial⟩
      | some y =>
        obtain ⟨C, hC, hca⟩ := hel i hi y hy
        obtain ⟨cellV, g1, g2, g3⟩ := hC.cell X S.1
        obtain ⟨kA, comp, r1, r2, r3, -⟩ := (X.K.2 5 _ rfl).2
        cases hk1.symm.trans r1
        cases hkk1.symm.trans r2
        obtain ⟨kC, hkC, -⟩ := Vm.findClass_spec g3
        obtain ⟨kE, hkE, -⟩ := Vm.findClass_spec r3
        obtain ⟨kC', hkC', -⟩ := hal.2.2 _ _ hkC
        obtain ⟨kE', hkE', -⟩ := hal.2.2 _ _ hkE
        refine ⟨rfl, cellV, (show T.heap[y]? = some cellV by rw [hT]; exact g1), (fun q h => by rw [h] at g2; cases g2), ⟨kC', hkC'⟩, ?_, ?_⟩
        · exact ⟨kE', hkE'⟩
        · show vm₁.assignable _ _ = true
          rw [hal.assignable]
          exact wv_asg X g3 r3 hca)
    (g := F0 m pc ls (.int n :: .int dp :: .ref a :: .int sp :: .ref a0 :: rest)) rfl (by rw [X.hml]; exact hls) (rest := rest) rfl (by rw [X.hb]; exact hdg) (by omega) (by show 2 * 0 + _ + _ ≤ _; have hw : nativeFrameWords "java/lang/System" "arraycopy" 5 ≤ 40 := (by decide); omega)
  have e1 : copied (vp_cell (wv_A G 5) (n0, .inr (.inr (.inr (.inr f))))) (vp_cell (wv_A G 5) (n1, .inr (.inr (.inr (.inr g))))) sp dp n = vp_cell (wv_A G 5) (n1, .inr (.inr (.inr (.inr (va_cpy f g sp.toNatClampNeg dp.toNatClampNeg n.toNatClampNeg))))) := by
    rw [vp_cell_q, vp_cell_q, vp_cell_q]
    exact va_copied (fun z => va_rf z) (wv_A G 5) (wv_A G 5) f g h4
  rw [e1] at X' step
  have hl : a < H.size := (Array.getElem?_eq_some_iff.mp hc1).1
  have hheap : ((T.setVm vm').setCell a (vp_cell (wv_A G 5) (n1, .inr (.inr (.inr (.inr (va_cpy f g sp.toNatClampNeg dp.toNatClampNeg n.toNatClampNeg))))))).heap = H.setIfInBounds a (vp_cell (wv_A G 5) (n1, .inr (.inr (.inr (.inr (va_cpy f g sp.toNatClampNeg dp.toNatClampNeg n.toNatClampNeg)))))) := by rw [← hT]; rfl
  have oq : ∀ q : Nat, q ≠ a → (H.setIfInBounds a (vp_cell (wv_A G 5) (n1, .inr (.inr (.inr (.inr (va_cpy f g sp.toNatClampNeg dp.toNatClampNeg n.toNatClampNeg)))))))[q]? = H[q]? := fun q hq => by simp [Array.getElem?_setIfInBounds, Ne.symm hq]
  have hme : (H.setIfInBounds a (vp_cell (wv_A G 5) (n1, .inr (.inr (.inr (.inr (va_cpy f g sp.toNatClampNeg dp.toNatClampNeg n.toNatClampNeg)))))))[a]? = some (vp_cell (wv_A G 5) (n1, .inr (.inr (.inr (.inr (va_cpy f g sp.toNatClampNeg dp.toNatClampNeg n.toNatClampNeg)))))) := by simp [Array.getElem?_setIfInBounds, hl]
  have hsz : (H.setIfInBounds a (vp_cell (wv_A G 5) (n1, .inr (.inr (.inr (.inr (va_cpy f g sp.toNatClampNeg dp.toNatClampNeg n.toNatClampNeg))))))).size = H.size := by simp
  obtain ⟨t9, b1, b2⟩ := kk (wv_up w.1 a (t, wo_q (wv_A G 5) n1 (va_cpy f g sp.toNatClampNeg dp.toNatClampNeg n.toNatClampNeg)), w.2) _ _ ⟨wv_Rep.put (e' := .inl (wv_A G 5, n1, .inr (.inr (.inr (.inr (va_cpy f g sp.toNatClampNeg dp.toNatClampNeg n.toNatClampNeg)))))) S.1 ha ht ht hme (wv_free.cell hme) hsz oq, wv_locs S.2.1 (fun q hq => by
      obtain ⟨z, -, hz⟩ := List.mem_map.mp hq
      rw [← hz]
      exact S.1.low ha ht), S.2.2.1, S.2.2.2.1, by rw [hsz]; exact S.2.2.2.2⟩ hK _ hheap X'
  exact ⟨t9, step t9 b1, b2⟩

end WV12
