/-! ROWS 15: lambdas as words of the conditions -/
section WV19
theorem wv_ck_call : ∀ w ∈ lw_all, wv_chk "Weaversgate$Run" "call" "(LWeaversgate$Thing;IIILWeaversgate$Place;)I" w = true := by decide +kernel
theorem wv_ck_body : ∀ w ∈ lw_all, wv_chk "Weaversgate$Run" "body" "(LWeaversgate$Thing;II)I" w = true := by decide +kernel
theorem wv_ck_handled : ∀ w ∈ lw_all, wv_chk "Weaversgate$Run" "handled" "(LWeaversgate$Thing;LWeaversgate$Type;IILWeaversgate$Thrown;)I" w = true := by decide +kernel
theorem wv_ck_done : ∀ w ∈ lw_all, wv_chk "Weaversgate$Run" "done" "(LWeaversgate$Thing;LWeaversgate$Type;ILWeaversgate$Step;II)I" w = true := by decide +kernel
theorem wv_fitO (C : String) (r : Option Nat) : narrow (.object C) (va_rf r) = va_rf r ∧ fits (.object C) (va_rf r) = true := by cases r <;> exact ⟨rfl, rfl⟩
theorem wv_fitI (x : Int32) : narrow .int (.int x) = .int x ∧ fits .int (.int x) = true := ⟨rfl, rfl⟩
theorem wm0_fit (r0 : Option Nat) (r1 : Option Nat) (r2 : Int32) : ∀ q ∈ wm0_sh.captured.zip [va_rf r0, va_rf r1, .int r2], narrow q.1 q.2 = q.2 ∧ fits q.1 q.2 = true := by
  intro q hq
  simp only [wm0_sh, List.zip_cons_cons, List.zip_nil_right, List.mem_cons, List.not_mem_nil, or_false] at hq
  rcases hq with rfl | rfl | rfl
  · exact wv_fitO _ _
  · exact wv_fitO _ _
  · exact wv_fitI _
theorem wm0_lays2 : ((wm0_sh.file "Weaversgate$Run").bind (layoutFields · 0)).map (·.2.1) = some wm0_sh.captured.toArray := by decide +kernel
theorem wm1_fit (r0 : Option Nat) (r1 : Option Nat) (r2 : Option Nat) (r3 : Int32) : ∀ q ∈ wm1_sh.captured.zip [va_rf r0, va_rf r1, va_rf r2, .int r3], narrow q.1 q.2 = q.2 ∧ fits q.1 q.2 = true := by
  intro q hq
  simp only [wm1_sh, List.zip_cons_cons, List.zip_nil_right, List.mem_cons, List.not_mem_nil, or_false] at hq
  rcases hq with rfl | rfl | rfl | rfl
  · exact wv_fitO _ _
  · exact wv_fitO _ _
  · exact wv_fitO _ _
  · exact wv_fitI _
theorem wm1_lays2 : ((wm1_sh.file "Weaversgate$Run").bind (layoutFields · 0)).map (·.2.1) = some wm1_sh.captured.toArray := by decide +kernel
theorem wm3_fit (r0 : Option Nat) (r1 : Option Nat) : ∀ q ∈ wm3_sh.captured.zip [va_rf r0, va_rf r1], narrow q.1 q.2 = q.2 ∧ fits q.1 q.2 = true := by
  intro q hq
  simp only [wm3_sh, List.zip_cons_cons, List.zip_nil_right, List.mem_cons, List.not_mem_nil, or_false] at hq
  rcases hq with rfl | rfl
  · exact wv_fitO _ _
  · exact wv_fitO _ _
theorem wm3_lays2 : ((wm3_sh.file "Weaversgate$Run").bind (layoutFields · 0)).map (·.2.1) = some wm3_sh.captured.toArray := by decide +kernel
theorem wm4_fit (r0 : Option Nat) (r1 : Option Nat) (r2 : Option Nat) : ∀ q ∈ wm4_sh.captured.zip [va_rf r0, va_rf r1, va_rf r2], narrow q.1 q.2 = q.2 ∧ fits q.1 q.2 = true := by
  intro q hq
  simp only [wm4_sh, List.zip_cons_cons, List.zip_nil_right, List.mem_cons, List.not_mem_nil, or_false] at hq
  rcases hq with rfl | rfl | rfl
  · exact wv_fitO _ _
  · exact wv_fitO _ _
  · exact wv_fitO _ _
theorem wm4_lays2 : ((wm4_sh.file "Weaversgate$Run").bind (layoutFields · 0)).map (·.2.1) = some wm4_sh.captured.toArray := by decide +kernel
/-- a is an object of the j-th lambda, with vs captured -/
def wv_lok (G : wv_G) (h : wv_H) (a j : Nat) (vs : List Value) : Prop := (j = 0 ∧ ∃ (t : wv_T) (u0 : Nat) (u1 : Nat) (i2 : Int32), vs = [.ref u0, .ref u1, .int i2] ∧ h a = some (t, wo_M 0 [.ref u0, .ref u1, .int i2]) ∧ wv_is G h u0 "Weaversgate$Run") ∨ (j = 1 ∧ ∃ (t : wv_T) (u0 : Nat) (u1 : Nat) (u2 : Nat) (i3 : Int32), vs = [.ref u0, .ref u1, .ref u2, .int i3] ∧ h a = some (t, wo_M 1 [.ref u0, .ref u1, .ref u2, .int i3]) ∧ wv_is G h u0 "Weaversgate$Run") ∨ (j = 2 ∧ vs = [] ∧ a = wv_lone G 2) ∨ (j = 3 ∧ ∃ (t : wv_T) (u0 : Nat) (u1 : Nat), vs = [.ref u0, .ref u1] ∧ h a = some (t, wo_M 3 [.ref u0, .ref u1])) ∨ (j = 4 ∧ ∃ (t : wv_T) (u0 : Nat) (u1 : Nat) (u2 : Nat), vs = [.ref u0, .ref u1, .ref u2] ∧ h a = some (t, wo_M 4 [.ref u0, .ref u1, .ref u2]) ∧ wv_is G h u0 "Weaversgate$Run") ∨ (j = 5 ∧ vs = [] ∧ a = wv_lone G 5)
/-- the method that the j-th lambda calls -/
def wv_ly (j : Nat) : MethodName := match j with
  | 0 => yX2_lambda_call_0
  | 1 => yX2_lambda_body_1
  | 2 => yX2_lambda_done_2
  | 3 => yX2_lambda_done_3
  | 4 => yX2_lambda_done_4
  | _ => yX2_lambda_handled_5
/-- a call of Act.with -/
def wv_cA (G : wv_G) (fr : Nat) (r : Option Nat) (n : Int32) (w : wv_W) (K : wv_R → wv_W → Prop) : Prop := ∃ (a j : Nat) (vs : List Value) (fr' kc ks : Nat) (P : wv_R → wv_H → Prop), r = some a ∧ wv_lok G w.1 a j vs ∧ wv_C G (wv_ly j) (vs ++ [.int n]) w.1 fr' kc ks P ∧ fr' + 2 ≤ fr ∧ kc ≤ w.2.1 ∧ ks ≤ w.2.2 ∧ (∀ v h', P (.inl v) h' → ∃ x : Int32, v = some (.int x)) ∧ ∀ r h', P r h' → K r (h', w.2.1 - kc, w.2.2 - ks)
variable {G : wv_G} {p : Program} {e : Env} {R : Room} {s : State} {m : MethodId} {args : Array Value} {below : List Frame} {meth : Method} {c : Code} {fr : Nat} {own : String} {cc : ByteArray} {nL : Nat} {ret : Option FieldType} {nm : String} {tb : List (Nat × Nat × Nat × Nat)}
variable {w : wv_W} {H : Heap} {locs : List Loc} {cells slots : Nat} {Q : State → Prop} {pc : Nat} {ls : Array Slot} {rest : List Value}
theorem wq_cA (X : wv_ok G p R s m args meth c fr own cc nL ret nm tb) (S : wv_S G R s w H locs cells slots) {index count : Nat} {r : Option Nat} {n : Int32} {K : Int32 → wv_W → Prop} {KX : String → Nat → wv_W → Prop} (hv : wv_cA G fr r n w (wv_rI K KX)) (hl : Cond.methodLink own index wyA ∈ lw_all) (hW : (rest.map fun v => v.category).sum ≤ 8) (hls : ls.size = nL) (hdg : decode cc pc = .ok (.invokeinterface index count, 5))
    (kk : ∀ (x : Int32) (w1 : wv_W) (H1 : Heap) (locs1 : List Loc) (cells1 slots1 : Nat), wv_S G R s w1 H1 locs1 cells1 slots1 → K x w1 → W p G.1 e R s m args below meth c H1 locs1 cells1 slots1 Q (F0 m (pc + 5) ls (.int x :: rest)))
    (kx : ∀ (E : String) (q : Nat) (w1 : wv_W) (H1 : Heap) (locs1 : List Loc) (cells1 slots1 : Nat), wv_S G R s w1 H1 locs1 cells1 slots1 → KX E q w1 → wv_th s H1 E q → vx_W p G.1 e R s m args below meth c H1 locs1 cells1 slots1 Q (F0 m pc ls rest) q) : W p G.1 e R s m args below meth c H locs cells slots Q (F0 m pc ls (.int n :: va_rf r :: rest)) := by
  obtain ⟨a, j, vs, fr', kc, ks, P', rfl, hlk, hC, h1, h2, h3, hint, h4⟩ := hv
  have k1 : ∀ (x : Int32) (h' : wv_H) (H1 : Heap) (locs1 : List Loc) (cells1 slots1 : Nat), P' (.inl (some (.int x))) h' → wv_S G R s (h', w.2.1 - kc, w.2.2 - ks) H1 locs1 cells1 slots1 → W p G.1 e R s m args below meth c H1 locs1 cells1 slots1 Q (F0 m (pc + 5) ls (.int x :: rest)) := by
    intro x h' H1 locs1 c1 s1 hP S1
    rcases h4 _ _ hP with ⟨z, hz, hK⟩ | ⟨E, q, hz, hK⟩
    · cases hz
      exact kk x _ H1 locs1 c1 s1 S1 hK
    · cases hz
  have k2 : ∀ (E : String) (q : Nat) (h' : wv_H) (H1 : Heap) (locs1 : List Loc) (cells1 slots1 : Nat), P' (.inr (E, q)) h' → wv_S G R s (h', w.2.1 - kc, w.2.2 - ks) H1 locs1 cells1 slots1 → wv_th s H1 E q → vx_W p G.1 e R s m args below meth c H1 locs1 cells1 slots1 Q (F0 m pc ls rest) q := by
    intro E q h' H1 locs1 c1 s1 hP S1 hth
    rcases h4 _ _ hP with ⟨z, hz, hK⟩ | ⟨E9, q9, hz, hK⟩
    · cases hz
    · cases hz
      exact kx E q _ H1 locs1 c1 s1 S1 hK hth
  rcases hlk with ⟨rfl, t, u0, u1, i2, rfl, ha, hr0⟩ | ⟨rfl, t, u0, u1, u2, i3, rfl, ha, hr0⟩ | ⟨rfl, rfl, ha⟩ | ⟨rfl, t, u0, u1, rfl, ha⟩ | ⟨rfl, t, u0, u1, u2, rfl, ha, hr0⟩ | ⟨rfl, rfl, ha⟩
  · exact wr_with0 X S ha hr0 hC hint h1 h2 h3 hl hW hls hdg k1 k2
  · exact wr_with1 X S ha hr0 hC hint h1 h2 h3 hl hW hls hdg k1 k2
  · exact wr_with2 (t := (0, 0, 0, 0)) X S ha hC hint h1 h2 h3 hl hW hls hdg k1 k2
  · exact wr_with3 X S ha hC hint h1 h2 h3 hl hW hls hdg k1 k2
  · exact wr_with4 X S ha hr0 hC hint h1 h2 h3 hl hW hls hdg k1 k2
  · exact wr_with5 (t := (0, 0, 0, 0)) X S ha hC hint h1 h2 h3 hl hW hls hdg k1 k2
end WV19
