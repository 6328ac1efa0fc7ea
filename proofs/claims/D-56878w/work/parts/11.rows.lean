/-! ROWS: arrays, new objects, calls, ends -/
section WV4
variable {G : wv_G} {p : Program} {e : Env} {R : Room} {s : State} {m : MethodId} {args : Array Value} {below : List Frame} {meth : Method} {c : Code} {fr : Nat} {own : String} {cc : ByteArray} {nL : Nat} {ret : Option FieldType} {nm : String} {tb : List (Nat × Nat × Nat × Nat)}
variable {w : wv_W} {H : Heap} {locs : List Loc} {cells slots : Nat} {Q : State → Prop} {pc : Nat} {ls : Array Slot} {rest : List Value}
theorem wv_free.arr {H1 : Heap} {a n : Nat} {cA : ClassId} {f : Nat → Value} (h1 : H1[a]? = some (arrV cA n f)) : wv_free H1 a := by
  intro c2 hc
  cases h1.symm.trans hc
  exact ⟨rfl, rfl⟩
abbrev wo_i (cA : ClassId) (n : Nat) (f : Nat → Int32) : wv_O := .inl (.inl (cA, n, .inl f))
abbrev wo_l (cA : ClassId) (n : Nat) (f : Nat → Int64) : wv_O := .inl (.inl (cA, n, .inr (.inl f)))
abbrev wo_d (cA : ClassId) (n : Nat) (f : Nat → UInt64) : wv_O := .inl (.inl (cA, n, .inr (.inr (.inr (.inl f)))))
abbrev wo_q (cA : ClassId) (n : Nat) (f : Nat → Option Nat) : wv_O := .inl (.inl (cA, n, .inr (.inr (.inr (.inr f)))))
abbrev wo_o (ci : Nat) (fs : List Value) : wv_O := .inl (.inr (ci, fs))
abbrev wv_A (G : wv_G) (k : Nat) : ClassId := G.2.2.2.1 k
theorem wr_ild (X : wv_ok G p R s m args meth c fr own cc nL ret nm tb) (S : wv_S G R s w H locs cells slots) {a n : Nat} {t : wv_T} {f : Nat → Int32} {i : Int32} (ha : w.1 a = some (t, wo_i (wv_A G 0) n f)) (hin : vp_in i n) (hdg : decode cc pc = .ok (.iaload, 1))
    (kk : W p G.1 e R s m args below meth c H locs cells slots Q (F0 m (pc + 1) ls (.int (f i.toNatClampNeg) :: rest))) : W p G.1 e R s m args below meth c H locs cells slots Q (F0 m pc ls (.int i :: .ref a :: rest)) :=
  va_iald X.hx X.hb X.K (wv_one S.1 ha) 0 0 rfl rfl hin hdg kk
theorem wr_cld (X : wv_ok G p R s m args meth c fr own cc nL ret nm tb) (S : wv_S G R s w H locs cells slots) {a n : Nat} {t : wv_T} {f : Nat → Int32} {i : Int32} (ha : w.1 a = some (t, wo_i (wv_A G 1) n f)) (hin : vp_in i n) (hdg : decode cc pc = .ok (.caload, 1))
    (kk : W p G.1 e R s m args below meth c H locs cells slots Q (F0 m (pc + 1) ls (.int (f i.toNatClampNeg) :: rest))) : W p G.1 e R s m args below meth c H locs cells slots Q (F0 m pc ls (.int i :: .ref a :: rest)) :=
  va_cald X.hx X.hb X.K (wv_one S.1 ha) 0 1 rfl rfl hin hdg kk
theorem wr_zld (X : wv_ok G p R s m args meth c fr own cc nL ret nm tb) (S : wv_S G R s w H locs cells slots) {a n : Nat} {t : wv_T} {f : Nat → Int32} {i : Int32} (ha : w.1 a = some (t, wo_i (wv_A G 2) n f)) (hin : vp_in i n) (hdg : decode cc pc = .ok (.baload, 1))
    (kk : W p G.1 e R s m args below meth c H locs cells slots Q (F0 m (pc + 1) ls (.int (f i.toNatClampNeg) :: rest))) : W p G.1 e R s m args below meth c H locs cells slots Q (F0 m pc ls (.int i :: .ref a :: rest)) :=
  va_zald X.hx X.hb X.K (wv_one S.1 ha) 0 2 rfl rfl hin hdg kk
theorem wr_bld (X : wv_ok G p R s m args meth c fr own cc nL ret nm tb) (S : wv_S G R s w H locs cells slots) {a n : Nat} {t : wv_T} {f : Nat → Int32} {i : Int32} (ha : w.1 a = some (t, wo_i (wv_A G 9) n f)) (hin : vp_in i n) (hdg : decode cc pc = .ok (.baload, 1))
    (kk : W p G.1 e R s m args below meth c H locs cells slots Q (F0 m (pc + 1) ls (.int (f i.toNatClampNeg) :: rest))) : W p G.1 e R s m args below meth c H locs cells slots Q (F0 m pc ls (.int i :: .ref a :: rest)) :=
  va_bald X.hx X.hb X.K (wv_one S.1 ha) 0 9 rfl rfl hin hdg kk
theorem wr_lld (X : wv_ok G p R s m args meth c fr own cc nL ret nm tb) (S : wv_S G R s w H locs cells slots) {a n : Nat} {t : wv_T} {f : Nat → Int64} {i : Int32} (ha : w.1 a = some (t, wo_l (wv_A G 3) n f)) (hin : vp_in i n) (hdg : decode cc pc = .ok (.laload, 1))
    (kk : W p G.1 e R s m args below meth c H locs cells slots Q (F0 m (pc + 1) ls (.long (f i.toNatClampNeg) :: rest))) : W p G.1 e R s m args below meth c H locs cells slots Q (F0 m pc ls (.int i :: .ref a :: rest)) :=
  va_lald X.hx X.hb X.K (wv_one S.1 ha) 0 3 rfl rfl hin hdg kk
theorem wr_dld (X : wv_ok G p R s m args meth c fr own cc nL ret nm tb) (S : wv_S G R s w H locs cells slots) {a n : Nat} {t : wv_T} {f : Nat → UInt64} {i : Int32} (ha : w.1 a = some (t, wo_d (wv_A G 4) n f)) (hin : vp_in i n) (hdg : decode cc pc = .ok (.daload, 1))
    (kk : W p G.1 e R s m args below meth c H locs cells slots Q (F0 m (pc + 1) ls (.double (f i.toNatClampNeg) :: rest))) : W p G.1 e R s m args below meth c H locs cells slots Q (F0 m pc ls (.int i :: .ref a :: rest)) :=
  va_dald X.hx X.hb X.K (wv_one S.1 ha) 0 4 rfl rfl hin hdg kk
theorem wr_qld5 (X : wv_ok G p R s m args meth c fr own cc nL ret nm tb) (S : wv_S G R s w H locs cells slots) {a n : Nat} {t : wv_T} {f : Nat → Option Nat} {i : Int32} (ha : w.1 a = some (t, wo_q (wv_A G 5) n f)) (hin : vp_in i n) (hdg : decode cc pc = .ok (.aaload, 1))
    (kk : W p G.1 e R s m args below meth c H locs cells slots Q (F0 m (pc + 1) ls (va_rf (f i.toNatClampNeg) :: rest))) : W p G.1 e R s m args below meth c H locs cells slots Q (F0 m pc ls (.int i :: .ref a :: rest)) :=
  va_aldq X.hx X.hb X.K (wv_one S.1 ha) 0 5 rfl rfl hin hdg kk
theorem wr_qld6 (X : wv_ok G p R s m args meth c fr own cc nL ret nm tb) (S : wv_S G R s w H locs cells slots) {a n : Nat} {t : wv_T} {f : Nat → Option Nat} {i : Int32} (ha : w.1 a = some (t, wo_q (wv_A G 6) n f)) (hin : vp_in i n) (hdg : decode cc pc = .ok (.aaload, 1))
    (kk : W p G.1 e R s m args below meth c H locs cells slots Q (F0 m (pc + 1) ls (va_rf (f i.toNatClampNeg) :: rest))) : W p G.1 e R s m args below meth c H locs cells slots Q (F0 m pc ls (.int i :: .ref a :: rest)) :=
  va_aldq X.hx X.hb X.K (wv_one S.1 ha) 0 6 rfl rfl hin hdg kk
theorem wr_qld7 (X : wv_ok G p R s m args meth c fr own cc nL ret nm tb) (S : wv_S G R s w H locs cells slots) {a n : Nat} {t : wv_T} {f : Nat → Option Nat} {i : Int32} (ha : w.1 a = some (t, wo_q (wv_A G 7) n f)) (hin : vp_in i n) (hdg : decode cc pc = .ok (.aaload, 1))
    (kk : W p G.1 e R s m args below meth c H locs cells slots Q (F0 m (pc + 1) ls (va_rf (f i.toNatClampNeg) :: rest))) : W p G.1 e R s m args below meth c H locs cells slots Q (F0 m pc ls (.int i :: .ref a :: rest)) :=
  va_aldq X.hx X.hb X.K (wv_one S.1 ha) 0 7 rfl rfl hin hdg kk
theorem wr_len0 (X : wv_ok G p R s m args meth c fr own cc nL ret nm tb) (S : wv_S G R s w H locs cells slots) {a n : Nat} {t : wv_T} {f : Nat → Int32} (ha : w.1 a = some (t, wo_i (wv_A G 0) n f)) (hdg : decode cc pc = .ok (.arraylength, 1))
    (kk : W p G.1 e R s m args below meth c H locs cells slots Q (F0 m (pc + 1) ls (.int (nI n) :: rest))) : W p G.1 e R s m args below meth c H locs cells slots Q (F0 m pc ls (.ref a :: rest)) :=
  va_alen (v := nI n) X.hx X.hb X.K (wv_one S.1 ha) 0 0 rfl rfl rfl hdg kk
theorem wr_len5 (X : wv_ok G p R s m args meth c fr own cc nL ret nm tb) (S : wv_S G R s w H locs cells slots) {a n : Nat} {t : wv_T} {f : Nat → Option Nat} (ha : w.1 a = some (t, wo_q (wv_A G 5) n f)) (hdg : decode cc pc = .ok (.arraylength, 1))
    (kk : W p G.1 e R s m args below meth c H locs cells slots Q (F0 m (pc + 1) ls (.int (nI n) :: rest))) : W p G.1 e R s m args below meth c H locs cells slots Q (F0 m pc ls (.ref a :: rest)) :=
  va_alen (v := nI n) X.hx X.hb X.K (wv_one S.1 ha) 0 5 rfl rfl rfl hdg kk
theorem wr_len7 (X : wv_ok G p R s m args meth c fr own cc nL ret nm tb) (S : wv_S G R s w H locs cells slots) {a n : Nat} {t : wv_T} {f : Nat → Option Nat} (ha : w.1 a = some (t, wo_q (wv_A G 7) n f)) (hdg : decode cc pc = .ok (.arraylength, 1))
    (kk : W p G.1 e R s m args below meth c H locs cells slots Q (F0 m (pc + 1) ls (.int (nI n) :: rest))) : W p G.1 e R s m args below meth c H locs cells slots Q (F0 m pc ls (.ref a :: rest)) :=
  va_alen (v := nI n) X.hx X.hb X.K (wv_one S.1 ha) 0 7 rfl rfl rfl hdg kk
theorem wr_len9 (X : wv_ok G p R s m args meth c fr own cc nL ret nm tb) (S : wv_S G R s w H locs cells slots) {a n : Nat} {t : wv_T} {f : Nat → Int32} (ha : w.1 a = some (t, wo_i (wv_A G 9) n f)) (hdg : decode cc pc = .ok (.arraylength, 1))
    (kk : W p G.1 e R s m args below meth c H locs cells slots Q (F0 m (pc + 1) ls (.int (nI n) :: rest))) : W p G.1 e R s m args below meth c H locs cells slots Q (F0 m pc ls (.ref a :: rest)) :=
  va_alen (v := nI n) X.hx X.hb X.K (wv_one S.1 ha) 0 9 rfl rfl rfl hdg kk
theorem wr_ist (X : wv_ok G p R s m args meth c fr own cc nL ret nm tb) (S : wv_S G R s w H locs cells slots) {a n : Nat} {t : wv_T} {f : Nat → Int32} {i : Int32} {x : Int32} (ha : w.1 a = some (t, wo_i (wv_A G 0) n f)) (ht : t.1 ≠ 0) (hin : vp_in i n) (hdg : decode cc pc = .ok (.iastore, 1))
    (kk : ∀ (H1 : Heap) (locs1 : List Loc), wv_S G R s (wv_up w.1 a (t, wo_i (wv_A G 0) n (upd f i.toNatClampNeg x)), w.2) H1 locs1 cells slots → W p G.1 e R s m args below meth c H1 locs1 cells slots Q (F0 m (pc + 1) ls rest)) : W p G.1 e R s m args below meth c H locs cells slots Q (F0 m pc ls (.int x :: .int i :: .ref a :: rest)) := by
  refine W.iast X.hx X.hb (S.1.at ha) ((X.K.2 0 _ rfl).1 n (fun j => .int (f j))) (fun q => by cases q) (by show ¬ (i < 0 ∨ (arrV _ _ _).slots.size ≤ _); rw [arrV_size]; exact hin) rfl rfl hdg fun H1 e z oq => ?_
  refine kk H1 _ ⟨wv_Rep.put S.1 ha ht ht ?_ ((S.1.free ha ht).set (S.1.at ha) e) z oq, wv_loc S.2.1 (S.1.low ha ht), S.2.2.1, S.2.2.2.1, by rw [z]; exact S.2.2.2.2⟩
  show H1[a]? = some (vp_cell _ _)
  rw [e]
  rw [vp_cell_i, vp_cell_i, arrV_store]
  congr 2
  funext q
  by_cases hq : q = i.toNatClampNeg
  · subst hq
    simp [updV, upd]
    try rfl
  · simp [updV, upd, hq]
theorem wr_cst (X : wv_ok G p R s m args meth c fr own cc nL ret nm tb) (S : wv_S G R s w H locs cells slots) {a n : Nat} {t : wv_T} {f : Nat → Int32} {i : Int32} {x : Int32} (ha : w.1 a = some (t, wo_i (wv_A G 1) n f)) (ht : t.1 ≠ 0) (hin : vp_in i n) (hdg : decode cc pc = .ok (.castore, 1))
    (kk : ∀ (H1 : Heap) (locs1 : List Loc), wv_S G R s (wv_up w.1 a (t, wo_i (wv_A G 1) n (upd f i.toNatClampNeg (vp_nar .char x))), w.2) H1 locs1 cells slots → W p G.1 e R s m args below meth c H1 locs1 cells slots Q (F0 m (pc + 1) ls rest)) : W p G.1 e R s m args below meth c H locs cells slots Q (F0 m pc ls (.int x :: .int i :: .ref a :: rest)) := by
  refine W.cast X.hx X.hb (S.1.at ha) ((X.K.2 1 _ rfl).1 n (fun j => .int (f j))) (fun q => by cases q) (by show ¬ (i < 0 ∨ (arrV _ _ _).slots.size ≤ _); rw [arrV_size]; exact hin) rfl rfl hdg fun H1 e z oq => ?_
  refine kk H1 _ ⟨wv_Rep.put S.1 ha ht ht ?_ ((S.1.free ha ht).set (S.1.at ha) e) z oq, wv_loc S.2.1 (S.1.low ha ht), S.2.2.1, S.2.2.2.1, by rw [z]; exact S.2.2.2.2⟩
  show H1[a]? = some (vp_cell _ _)
  rw [e]
  rw [vp_cell_i, vp_cell_i, arrV_store]
  congr 2
  funext q
  by_cases hq : q = i.toNatClampNeg
  · subst hq
    simp [updV, upd, vp_nar]
    try rfl
  · simp [updV, upd, vp_nar, hq]
theorem wr_zst (X : wv_ok G p R s m args meth c fr own cc nL ret nm tb) (S : wv_S G R s w H locs cells slots) {a n : Nat} {t : wv_T} {f : Nat → Int32} {i : Int32} {x : Int32} (ha : w.1 a = some (t, wo_i (wv_A G 2) n f)) (ht : t.1 ≠ 0) (hin : vp_in i n) (hdg : decode cc pc = .ok (.bastore, 1))
    (kk : ∀ (H1 : Heap) (locs1 : List Loc), wv_S G R s (wv_up w.1 a (t, wo_i (wv_A G 2) n (upd f i.toNatClampNeg (vp_nar .boolean x))), w.2) H1 locs1 cells slots → W p G.1 e R s m args below meth c H1 locs1 cells slots Q (F0 m (pc + 1) ls rest)) : W p G.1 e R s m args below meth c H locs cells slots Q (F0 m pc ls (.int x :: .int i :: .ref a :: rest)) := by
  refine W.zast X.hx X.hb (S.1.at ha) ((X.K.2 2 _ rfl).1 n (fun j => .int (f j))) (fun q => by cases q) (by show ¬ (i < 0 ∨ (arrV _ _ _).slots.size ≤ _); rw [arrV_size]; exact hin) rfl rfl hdg fun H1 e z oq => ?_
  refine kk H1 _ ⟨wv_Rep.put S.1 ha ht ht ?_ ((S.1.free ha ht).set (S.1.at ha) e) z oq, wv_loc S.2.1 (S.1.low ha ht), S.2.2.1, S.2.2.2.1, by rw [z]; exact S.2.2.2.2⟩
  show H1[a]? = some (vp_cell _ _)
  rw [e]
  rw [vp_cell_i, vp_cell_i, arrV_store]
  congr 2
  funext q
  by_cases hq : q = i.toNatClampNeg
  · subst hq
    simp [updV, upd, vp_nar]
    try rfl
  · simp [updV, upd, vp_nar, hq]
theorem wr_lst (X : wv_ok G p R s m args meth c fr own cc nL ret nm tb) (S : wv_S G R s w H locs cells slots) {a n : Nat} {t : wv_T} {f : Nat → Int64} {i : Int32} {x : Int64} (ha : w.1 a = some (t, wo_l (wv_A G 3) n f)) (ht : t.1 ≠ 0) (hin : vp_in i n) (hdg : decode cc pc = .ok (.lastore, 1))
    (kk : ∀ (H1 : Heap) (locs1 : List Loc), wv_S G R s (wv_up w.1 a (t, wo_l (wv_A G 3) n (vp_updL f i.toNatClampNeg x)), w.2) H1 locs1 cells slots → W p G.1 e R s m args below meth c H1 locs1 cells slots Q (F0 m (pc + 1) ls rest)) : W p G.1 e R s m args below meth c H locs cells slots Q (F0 m pc ls (.long x :: .int i :: .ref a :: rest)) := by
  refine W.last X.hx X.hb (S.1.at ha) ((X.K.2 3 _ rfl).1 n (fun j => .long (f j))) (fun q => by cases q) (by show ¬ (i < 0 ∨ (arrV _ _ _).slots.size ≤ _); rw [arrV_size]; exact hin) rfl rfl hdg fun H1 e z oq => ?_
  refine kk H1 _ ⟨wv_Rep.put S.1 ha ht ht ?_ ((S.1.free ha ht).set (S.1.at ha) e) z oq, wv_loc S.2.1 (S.1.low ha ht), S.2.2.1, S.2.2.2.1, by rw [z]; exact S.2.2.2.2⟩
  show H1[a]? = some (vp_cell _ _)
  rw [e]
  rw [vp_cell_l, vp_cell_l, arrV_store]
  congr 2
  funext q
  by_cases hq : q = i.toNatClampNeg
  · subst hq
    simp [updV, vp_updL]
    try rfl
  · simp [updV, vp_updL, hq]
theorem wr_dst (X : wv_ok G p R s m args meth c fr own cc nL ret nm tb) (S : wv_S G R s w H locs cells slots) {a n : Nat} {t : wv_T} {f : Nat → UInt64} {i : Int32} {x : UInt64} (ha : w.1 a = some (t, wo_d (wv_A G 4) n f)) (ht : t.1 ≠ 0) (hin : vp_in i n) (hdg : decode cc pc = .ok (.dastore, 1))
    (kk : ∀ (H1 : Heap) (locs1 : List Loc), wv_S G R s (wv_up w.1 a (t, wo_d (wv_A G 4) n (vf_upd f i.toNatClampNeg x)), w.2) H1 locs1 cells slots → W p G.1 e R s m args below meth c H1 locs1 cells slots Q (F0 m (pc + 1) ls rest)) : W p G.1 e R s m args below meth c H locs cells slots Q (F0 m pc ls (.double x :: .int i :: .ref a :: rest)) := by
  refine W.dast X.hx X.hb (S.1.at ha) ((X.K.2 4 _ rfl).1 n (fun j => .double (f j))) (fun q => by cases q) (by show ¬ (i < 0 ∨ (arrV _ _ _).slots.size ≤ _); rw [arrV_size]; exact hin) rfl rfl hdg fun H1 e z oq => ?_
  refine kk H1 _ ⟨wv_Rep.put S.1 ha ht ht ?_ ((S.1.free ha ht).set (S.1.at ha) e) z oq, wv_loc S.2.1 (S.1.low ha ht), S.2.2.1, S.2.2.2.1, by rw [z]; exact S.2.2.2.2⟩
  show H1[a]? = some (vp_cell _ _)
  rw [e]
  rw [vp_cell_d, vp_cell_d, arrV_store]
  congr 2
  funext q
  by_cases hq : q = i.toNatClampNeg
  · subst hq
    simp [updV, vf_upd]
    try rfl
  · simp [updV, vf_upd, hq]
theorem wr_new (X : wv_ok G p R s m args meth c fr own cc nL ret nm tb) (S : wv_S G R s w H locs cells slots) {ci index N : Nat} {C : String} {T : u_T} {fs : List Value} (ty : Nat → FieldType) (hty : ∀ k, k < N → parseFieldDescriptor (T k).2.2.1 = some (ty k)) (t : wv_T) (hc : wv_cl[ci]? = some (C, T, N)) (hin : ∀ x ∈ u_ws C T N, x ∈ lw_all) (hcl : Cond.classLink own index C ∈ lw_all) (hinst : Cond.instantiable C N ∈ lw_all) (hini : Cond.initialized C ∈ lw_all) (hfs : ∀ j, j < N → defaultValue (ty j) = vp_V fs j) (hc1 : 1 ≤ w.2.1) (hs1 : N ≤ w.2.2) (hdg : decode cc pc = .ok (.new index, 3))
    (kk : ∀ (H1 : Heap), wv_S G R s (wv_up w.1 H.size (t, wo_o ci fs), w.2.1 - 1, w.2.2 - N) H1 locs (cells + 1) (slots + N) → W p G.1 e R s m args below meth c H1 locs (cells + 1) (slots + N) Q (F0 m (pc + 3) ls (.ref H.size :: rest))) : W p G.1 e R s m args below meth c H locs cells slots Q (F0 m pc ls rest) := by
  have hKn := X.K.1 ci _ hc
  have g1 := S.2.2.1
  have g2 := S.2.2.2.1
  have g3 := S.2.2.2.2
  refine W.newcK X.hx X.hb X.hown (X.hts _ hcl) (X.hts _ hinst) (X.hts _ hini) rfl hdg (by omega) (by omega) hKn.2.1 rfl fun H1 kC hkC e1 z1 o1 => ?_
  refine kk H1 ⟨wv_Rep.new S.1 ⟨_, hc, (u_born ty X.hts hin hKn hkC e1 hty).to hfs⟩ (wv_free.blank e1) z1 o1, S.2.1, ?_, ?_, by omega⟩
  · show cells + 1 + (w.2.1 - 1) = _
    omega
  · show slots + N + (w.2.2 - N) = _
    omega
theorem wv_Kt {U : State} (hK : va_K G.2.2.1 wv_cl (wv_ty G) U) {k : Nat} {cA : ClassId} {ty : FieldType} (hk : (wv_ty G)[k]? = some (cA, ty)) (h : va_RA U cA ty → U.vm.findClass ("[" ++ ty.toString) = some cA) {c' : ClassId} (hc : U.vm.findClass ("[" ++ ty.toString) = some c') : c' = cA := Option.some.inj (hc.symm.trans (h (hK.2 k _ hk).2))
theorem wr_nwi (X : wv_ok G p R s m args meth c fr own cc nL ret nm tb) (S : wv_S G R s w H locs cells slots) {n : Int32} (N : Nat) (t : wv_T) (harr : Cond.arrayClass (newarray.typeOf .int) ∈ lw_all) (hn : n = nI N) (hN : N ≤ 100000) (hc1 : 1 ≤ w.2.1) (hs1 : N ≤ w.2.2) (hdg : decode cc pc = .ok (.newarray .int, 2))
    (kk : ∀ (H1 : Heap), wv_S G R s (wv_up w.1 H.size (t, wo_i (wv_A G 0) N (fun _ => 0)), w.2.1 - 1, w.2.2 - N) H1 locs (cells + 1) (slots + N) → W p G.1 e R s m args below meth c H1 locs (cells + 1) (slots + N) Q (F0 m (pc + 2) ls (.ref H.size :: rest))) : W p G.1 e R s m args below meth c H locs cells slots Q (F0 m pc ls (.int n :: rest)) := by
  have g1 := S.2.2.1
  have g2 := S.2.2.2.1
  have g3 := S.2.2.2.2
  refine va_newaK X.hx X.hb (X.hts _ harr) rfl hdg rfl (N := N) (by rw [hn]; exact nI_pos (by omega)) (by rw [hn]; exact nI_clamp (by omega)) (Nat.le_trans (Nat.mul_le_mul_right _ hN) (by decide)) (by omega) (by omega) rfl fun H1 cA e1 z1 o1 hAr hNm => ?_
  have hcA : cA = wv_A G 0 := wv_Kt X.K (k := 0) (ty := .int) rfl (fun h => h) hNm
  refine kk H1 ⟨wv_Rep.new S.1 ?_ (wv_free.arr e1) z1 o1, S.2.1, ?_, ?_, by omega⟩
  · show H1[H.size]? = some (vp_cell _ _)
    rw [e1, hcA]
    rfl
  · show cells + 1 + (w.2.1 - 1) = _
    omega
  · show slots + N + (w.2.2 - N) = _
    omega
theorem wr_nwc (X : wv_ok G p R s m args meth c fr own cc nL ret nm tb) (S : wv_S G R s w H locs cells slots) {n : Int32} (N : Nat) (t : wv_T) (harr : Cond.arrayClass (newarray.typeOf .char) ∈ lw_all) (hn : n = nI N) (hN : N ≤ 100000) (hc1 : 1 ≤ w.2.1) (hs1 : N ≤ w.2.2) (hdg : decode cc pc = .ok (.newarray .char, 2))
    (kk : ∀ (H1 : Heap), wv_S G R s (wv_up w.1 H.size (t, wo_i (wv_A G 1) N (fun _ => 0)), w.2.1 - 1, w.2.2 - N) H1 locs (cells + 1) (slots + N) → W p G.1 e R s m args below meth c H1 locs (cells + 1) (slots + N) Q (F0 m (pc + 2) ls (.ref H.size :: rest))) : W p G.1 e R s m args below meth c H locs cells slots Q (F0 m pc ls (.int n :: rest)) := by
  have g1 := S.2.2.1
  have g2 := S.2.2.2.1
  have g3 := S.2.2.2.2
  refine va_newaK X.hx X.hb (X.hts _ harr) rfl hdg rfl (N := N) (by rw [hn]; exact nI_pos (by omega)) (by rw [hn]; exact nI_clamp (by omega)) (Nat.le_trans (Nat.mul_le_mul_right _ hN) (by decide)) (by omega) (by omega) rfl fun H1 cA e1 z1 o1 hAr hNm => ?_
  have hcA : cA = wv_A G 1 := wv_Kt X.K (k := 1) (ty := .char) rfl (fun h => h) hNm
  refine kk H1 ⟨wv_Rep.new S.1 ?_ (wv_free.arr e1) z1 o1, S.2.1, ?_, ?_, by omega⟩
  · show H1[H.size]? = some (vp_cell _ _)
    rw [e1, hcA]
    rfl
  · show cells + 1 + (w.2.1 - 1) = _
    omega
  · show slots + N + (w.2.2 - N) = _
    omega
theorem wr_nwz (X : wv_ok G p R s m args meth c fr own cc nL ret nm tb) (S : wv_S G R s w H locs cells slots) {n : Int32} (N : Nat) (t : wv_T) (harr : Cond.arrayClass (newarray.typeOf .boolean) ∈ lw_all) (hn : n = nI N) (hN : N ≤ 100000) (hc1 : 1 ≤ w.2.1) (hs1 : N ≤ w.2.2) (hdg : decode cc pc = .ok (.newarray .boolean, 2))
    (kk : ∀ (H1 : Heap), wv_S G R s (wv_up w.1 H.size (t, wo_i (wv_A G 2) N (fun _ => 0)), w.2.1 - 1, w.2.2 - N) H1 locs (cells + 1) (slots + N) → W p G.1 e R s m args below meth c H1 locs (cells + 1) (slots + N) Q (F0 m (pc + 2) ls (.ref H.size :: rest))) : W p G.1 e R s m args below meth c H locs cells slots Q (F0 m pc ls (.int n :: rest)) := by
  have g1 := S.2.2.1
  have g2 := S.2.2.2.1
  have g3 := S.2.2.2.2
  refine va_newaK X.hx X.hb (X.hts _ harr) rfl hdg rfl (N := N) (by rw [hn]; exact nI_pos (by omega)) (by rw [hn]; exact nI_clamp (by omega)) (Nat.le_trans (Nat.mul_le_mul_right _ hN) (by decide)) (by omega) (by omega) rfl fun H1 cA e1 z1 o1 hAr hNm => ?_
  have hcA : cA = wv_A G 2 := wv_Kt X.K (k := 2) (ty := .boolean) rfl (fun h => h) hNm
  refine kk H1 ⟨wv_Rep.new S.1 ?_ (wv_free.arr e1) z1 o1, S.2.1, ?_, ?_, by omega⟩
  · show H1[H.size]? = some (vp_cell _ _)
    rw [e1, hcA]
    rfl
  · show cells + 1 + (w.2.1 - 1) = _
    omega
  · show slots + N + (w.2.2 - N) = _
    omega
theorem wr_nwl (X : wv_ok G p R s m args meth c fr own cc nL ret nm tb) (S : wv_S G R s w H locs cells slots) {n : Int32} (N : Nat) (t : wv_T) (harr : Cond.arrayClass (newarray.typeOf .long) ∈ lw_all) (hn : n = nI N) (hN : N ≤ 100000) (hc1 : 1 ≤ w.2.1) (hs1 : N ≤ w.2.2) (hdg : decode cc pc = .ok (.newarray .long, 2))
    (kk : ∀ (H1 : Heap), wv_S G R s (wv_up w.1 H.size (t, wo_l (wv_A G 3) N (fun _ => 0)), w.2.1 - 1, w.2.2 - N) H1 locs (cells + 1) (slots + N) → W p G.1 e R s m args below meth c H1 locs (cells + 1) (slots + N) Q (F0 m (pc + 2) ls (.ref H.size :: rest))) : W p G.1 e R s m args below meth c H locs cells slots Q (F0 m pc ls (.int n :: rest)) := by
  have g1 := S.2.2.1
  have g2 := S.2.2.2.1
  have g3 := S.2.2.2.2
  refine va_newaK X.hx X.hb (X.hts _ harr) rfl hdg rfl (N := N) (by rw [hn]; exact nI_pos (by omega)) (by rw [hn]; exact nI_clamp (by omega)) (Nat.le_trans (Nat.mul_le_mul_right _ hN) (by decide)) (by omega) (by omega) rfl fun H1 cA e1 z1 o1 hAr hNm => ?_
  have hcA : cA = wv_A G 3 := wv_Kt X.K (k := 3) (ty := .long) rfl (fun h => h) hNm
  refine kk H1 ⟨wv_Rep.new S.1 ?_ (wv_free.arr e1) z1 o1, S.2.1, ?_, ?_, by omega⟩
  · show H1[H.size]? = some (vp_cell _ _)
    rw [e1, hcA]
    rfl
  · show cells + 1 + (w.2.1 - 1) = _
    omega
  · show slots + N + (w.2.2 - N) = _
    omega
theorem wr_nwd (X : wv_ok G p R s m args meth c fr own cc nL ret nm tb) (S : wv_S G R s w H locs cells slots) {n : Int32} (N : Nat) (t : wv_T) (harr : Cond.arrayClass (newarray.typeOf .double) ∈ lw_all) (hn : n = nI N) (hN : N ≤ 100000) (hc1 : 1 ≤ w.2.1) (hs1 : N ≤ w.2.2) (hdg : decode cc pc = .ok (.newarray .double, 2))
    (kk : ∀ (H1 : Heap), wv_S G R s (wv_up w.1 H.size (t, wo_d (wv_A G 4) N (fun _ => 0)), w.2.1 - 1, w.2.2 - N) H1 locs (cells + 1) (slots + N) → W p G.1 e R s m args below meth c H1 locs (cells + 1) (slots + N) Q (F0 m (pc + 2) ls (.ref H.size :: rest))) : W p G.1 e R s m args below meth c H locs cells slots Q (F0 m pc ls (.int n :: rest)) := by
  have g1 := S.2.2.1
  have g2 := S.2.2.2.1
  have g3 := S.2.2.2.2
  refine va_newaK X.hx X.hb (X.hts _ harr) rfl hdg rfl (N := N) (by rw [hn]; exact nI_pos (by omega)) (by rw [hn]; exact nI_clamp (by omega)) (Nat.le_trans (Nat.mul_le_mul_right _ hN) (by decide)) (by omega) (by omega) rfl fun H1 cA e1 z1 o1 hAr hNm => ?_
  have hcA : cA = wv_A G 4 := wv_Kt X.K (k := 4) (ty := .double) rfl (fun h => h) hNm
  refine kk H1 ⟨wv_Rep.new S.1 ?_ (wv_free.arr e1) z1 o1, S.2.1, ?_, ?_, by omega⟩
  · show H1[H.size]? = some (vp_cell _ _)
    rw [e1, hcA]
    rfl
  · show cells + 1 + (w.2.1 - 1) = _
    omega
  · show slots + N + (w.2.2 - N) = _
    omega
end WV4
