/-! ROWS: arrays of arrays of booleans; static fields -/
section WV11
variable {G : wv_G} {p : Program} {e : Env} {R : Room} {s : State} {m : MethodId} {args : Array Value} {below : List Frame} {meth : Method} {c : Code} {fr : Nat} {own : String} {cc : ByteArray} {nL : Nat} {ret : Option FieldType} {nm : String} {tb : List (Nat × Nat × Nat × Nat)}
variable {w : wv_W} {H : Heap} {locs : List Loc} {cells slots : Nat} {Q : State → Prop} {pc : Nat} {ls : Array Slot} {rest : List Value}
theorem wq_lq8 (X : wv_ok G p R s m args meth c fr own cc nL ret nm tb) (S : wv_S G R s w H locs cells slots) {r : Option Nat} {i : Int32} {K : Option Nat → Prop} (hv : wv_lq G 8 w r i K) (hdg : decode cc pc = .ok (.aaload, 1))
    (kk : ∀ x : Option Nat, K x → W p G.1 e R s m args below meth c H locs cells slots Q (F0 m (pc + 1) ls (va_rf x :: rest))) : W p G.1 e R s m args below meth c H locs cells slots Q (F0 m pc ls (.int i :: va_rf r :: rest)) := by
  obtain ⟨a, t, n, f, rfl, ha, hin, h3⟩ := hv
  have hlt : i.toNatClampNeg < n := Nat.not_le.mp fun q => hin (Or.inr q)
  exact W.aald (v := va_rf (f i.toNatClampNeg)) (ty := .array .boolean) X.hx X.hb (S.1.at ha) ((X.K.2 8 _ rfl).1 n (fun j => va_rf (f j))) rfl (fun q => by cases q) (by show ¬ (i < 0 ∨ (arrV _ _ _).slots.size ≤ _); rw [arrV_size]; exact hin) (by show (arrV _ _ _).slots[_]? = _; rw [arrV_read _ _ hlt]) rfl rfl hdg (kk _ h3)
/-- a static field that held v at the start, and holds it still -/
theorem wr_gets (X : wv_ok G p R s m args meth c fr own cc nL ret nm tb) (S : wv_S G R s w H locs cells slots) {C n d : String} {v : Value} {index : Nat} (hZ : va_Z C n d v (fun q => wv_b G ≤ q) G.2.1 G.2.1.heap) (hlink : Cond.fieldLink own index C n d ∈ lw_all) (hdg : decode cc pc = .ok (.getstatic index, 3))
    (kk : W p G.1 e R s m args below meth c H locs cells slots Q (F0 m (pc + 3) ls (v :: rest))) : W p G.1 e R s m args below meth c H locs cells slots Q (F0 m pc ls rest) := by
  obtain ⟨cf, kf, fi, f, a, cell, h1, h2, h3, h4, h5, h6, h7, h8⟩ := va_Z.moved X.hW.alike hZ
  have ha : H[a]? = some cell := by rw [S.1.2.1 a (Nat.not_le.mp h8)]; exact h5
  exact W.gets X.hx X.hb X.hown (X.hts _ hlink) h1 h2 h3 h4 ha (fun e => by rw [e] at h6; cases h6) h7 rfl hdg kk
theorem wv_stA (hG : wv_G0 G) {C n d : String} {k : Nat} (hk : wv_tm k = some (.static C n d)) (hl : Cond.laysStatic C n d ∈ lw_tbl) (hi : Cond.initialized C ∈ lw_tbl) : va_Z C n d (.ref (G.2.2.2.2 k)) (fun q => wv_b G ≤ q) G.2.1 G.2.1.heap := by
  obtain ⟨-, -, ⟨b1, ht⟩, b0, hn, h⟩ := hG
  exact va_Zof (args := #[Value.ref b0]) (by exact ht _ hl) (by exact ht _ hi) (h k _ hk) (fun a ha => Nat.not_le.mpr ha)
end WV11
