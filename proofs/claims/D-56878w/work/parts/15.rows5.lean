/-! ROWS: throws past handlers, catch-all, fields by an inherited name, String constants -/
section WV8
variable {G : wv_G} {p : Program} {e : Env} {R : Room} {s : State} {m : MethodId} {args : Array Value} {below : List Frame} {meth : Method} {c : Code} {fr : Nat} {own : String} {cc : ByteArray} {nL : Nat} {ret : Option FieldType} {nm : String} {tb : List (Nat × Nat × Nat × Nat)}
variable {w : wv_W} {H : Heap} {locs : List Loc} {cells slots : Nat} {Q : State → Prop} {pc : Nat} {ls : Array Slot} {rest : List Value} {P : wv_R → wv_H → Prop}
theorem wr_outP (X : wv_ok G p R s m args meth c fr own cc nL ret nm tb) (S : wv_S G R s w H locs cells slots) {E : String} {q : Nat} (hP : P (.inr (E, q)) w.1) (hq : wv_th s H E q)
    (hpass : ∀ z ∈ tb, covers ⟨z.1, z.2.1, z.2.2.1, z.2.2.2⟩ pc = false ∨ (z.2.2.2 ≠ 0 ∧ ∃ nm : String, Cond.classLink own z.2.2.2 nm ∈ lw_all ∧ va_Nc E nm s)) : vx_W p G.1 e R s m args below meth c H locs cells slots (wv_MQ G P below s R.cells R.slots) (F0 m pc ls rest) q := by
  obtain ⟨ce, h1, h2, h3⟩ := hq
  have g1 := S.2.2.1
  have g2 := S.2.2.2.1
  intro T hT Z
  have hpl : e.platform.magicAccessors = ({} : Platform).magicAccessors := by rw [Z.admits.platform]
  obtain ⟨vm', hW', X', st⟩ := Z.outThrough X.hlk q (g := F0 m pc ls rest) rfl rfl rfl (cell := ce) (by rw [hT]; exact h1) (by rw [h2]; rfl)
    (by obtain ⟨k9, h9, -⟩ := Vm.findClass_spec h3; exact ⟨k9, h9⟩) (fun z hz => by
      rw [X.htb] at hz
      obtain ⟨y, hy, rfl⟩ := List.mem_map.mp hz
      rcases hpass y hy with h | ⟨hz0, nm, hl1, hn1⟩
      · exact Or.inl h
      · obtain ⟨c6, hc6, hcl6⟩ := Cond.classLink_spec X.hown (X.hts _ hl1) e.platform hpl
        obtain ⟨a8, b8, k1, k2, k3⟩ := hn1
        cases Option.some.inj (k1.symm.trans h3)
        cases Option.some.inj (k2.symm.trans hc6)
        exact Or.inr ⟨hz0, _, hcl6, k3⟩)
  obtain ⟨g₀, hfr⟩ := X'.frames_eq
  have hcell9 : ((T.setVm vm').setFrames (.throwing q :: below)).heap[q]? = some ce := by
    show T.heap[q]? = some ce
    rw [hT]; exact h1
  have hRep9 : wv_Rep G w.1 ((T.setVm vm').setFrames (.throwing q :: below)).heap := by
    show wv_Rep G w.1 T.heap
    rw [hT]; exact S.1
  have hend : Ended ((T.setVm vm').setFrames (.throwing q :: below)) below (.threw q) := State.frames_setFrames _ (State.cur_lt_of_frames hfr)
  refine ⟨(T.setVm vm').setFrames (.throwing q :: below), ?_, .threw q, X'.here.running, hend, Or.inr ⟨q, w.1, E, ce, locs, rfl, hP, hRep9, hcell9, h2, h3, (X'.ends _).1, (X'.ends _).2.mono (by omega) (by omega), S.2.1⟩⟩
  rw [Z.pushThrowing_eq]
  exact st
theorem wr_catchAny (X : wv_ok G p R s m args meth c fr own cc nL ret nm tb) {E : String} {q : Nat} (pre : List (Nat × Nat × Nat × Nat)) (x : Nat × Nat × Nat × Nat) (suf : List (Nat × Nat × Nat × Nat)) (hsplit : tb = pre ++ x :: suf)
    (hpass : ∀ z ∈ pre, covers ⟨z.1, z.2.1, z.2.2.1, z.2.2.2⟩ pc = false ∨ (z.2.2.2 ≠ 0 ∧ ∃ nm : String, Cond.classLink own z.2.2.2 nm ∈ lw_all ∧ va_Nc E nm s)) (hx : covers ⟨x.1, x.2.1, x.2.2.1, x.2.2.2⟩ pc = true) (h0 : x.2.2.2 = 0) (hq : wv_th s H E q)
    (kk : W p G.1 e R s m args below meth c H locs cells slots Q (F0 m x.2.2.1 ls [.ref q])) : vx_W p G.1 e R s m args below meth c H locs cells slots Q (F0 m pc ls rest) q := by
  obtain ⟨ce, h1, h2, h3⟩ := hq
  intro T hT Z
  have hpl : e.platform.magicAccessors = ({} : Platform).magicAccessors := by rw [Z.admits.platform]
  obtain ⟨vm', X', st⟩ := Z.thenCaughtThrough q (g := F0 m pc ls rest) rfl (Steps.refl _) (by rw [hT]; exact h1) (by rw [h2]; rfl) (by obtain ⟨k9, h9, -⟩ := Vm.findClass_spec h3; exact ⟨k9, h9⟩) (tableOf pre) ⟨x.1, x.2.1, x.2.2.1, x.2.2.2⟩ (tableOf suf) (by rw [X.htb, hsplit]; simp [tableOf])
    (fun z hz => by
      obtain ⟨y, hy, rfl⟩ := List.mem_map.mp hz
      rcases hpass y hy with h | ⟨hz0, nm, hl1, hn1⟩
      · exact Or.inl h
      · obtain ⟨c6, hc6, hcl6⟩ := Cond.classLink_spec X.hown (X.hts _ hl1) e.platform hpl
        obtain ⟨a8, b8, k1, k2, k3⟩ := hn1
        cases Option.some.inj (k1.symm.trans h3)
        cases Option.some.inj (k2.symm.trans hc6)
        exact Or.inr ⟨hz0, _, hcl6, k3⟩) hx (Or.inl h0)
  obtain ⟨t, a1, b1⟩ := kk (T.setVm vm') hT X'
  exact ⟨t, st.trans a1, b1⟩
theorem wq_ptS (X : wv_ok G p R s m args meth c fr own cc nL ret nm tb) (S : wv_S G R s w H locs cells slots) {ci index N k : Nat} {C ref : String} {T : u_T} {r : Option Nat} {v : Value} {ty : FieldType} {K : wv_W → Prop} (hv : wv_pt w r ci k v K) (ty0 : Nat → FieldType) (hty : ∀ k, k < N → parseFieldDescriptor (T k).2.2.1 = some (ty0 k)) (hnm : ∀ a, a < N → ∀ b, b < N → a ≠ b → (T a).2.1 ≠ (T b).2.1) (hc : wv_cl[ci]? = some (C, T, N)) (hin : ∀ x ∈ u_ws C T N, x ∈ lw_all) (hk : k < N) (hlink : Cond.fieldLink own index ref (T k).2.1 (T k).2.2.1 ∈ lw_all) (hsame : Cond.sameField ref (T k).1 (T k).2.1 (T k).2.2.1 ∈ lw_all) (hfin : (T k).2.2.2 = false) (hd : ty0 k = ty) (hn : narrow ty v = v) (hfit : fits ty v = true) (hdg : decode cc pc = .ok (.putfield index, 3))
    (kk : ∀ (w1 : wv_W) (H1 : Heap) (locs1 : List Loc), wv_S G R s w1 H1 locs1 cells slots → K w1 → W p G.1 e R s m args below meth c H1 locs1 cells slots Q (F0 m (pc + 3) ls rest)) : W p G.1 e R s m args below meth c H locs cells slots Q (F0 m pc ls (v :: va_rf r :: rest)) := by
  obtain ⟨a, t, fs, rfl, ha, ht, hl, h4⟩ := hv
  have hK := X.K
  have hap := va_apart (own := own) X.hts hin ty0 hty hnm hK hc
  obtain ⟨cell, q1, q2, q3, q4⟩ := wv_obj S.1 ha hc
  obtain ⟨hS, hfc, kC, hkC, hkind⟩ := hK.1 ci _ hc
  obtain ⟨cf, kf, fi, f, hi, hsl⟩ := hS k hk
  have hlay := X.hts _ (hin _ (u_in_lay hk))
  unfold u_lay at hlay
  rw [if_neg (by rw [hfin]; decide)] at hlay
  have hst := (u_facts hfc hkC (u_lays X.hts hin hk) hi).1
  have h6 := u_store hfc hkC hkind hlay hi ((hty k hk).trans (by rw [hd])) hn hfit
  refine W.putK X.hx X.hb (f := f) ⟨X.hown, X.hts _ hlink, ⟨_, _, _, u_same (X.hts _ hsame) _ hi⟩, hst⟩ (by rw [q2]; exact h6) q1 q3 (by rw [hsl]; exact k2_hasslot (q4 k hk)) rfl rfl hdg fun H' e1 e2 e3 => ?_
  rw [hsl] at e1 ⊢
  refine kk (wv_up w.1 a (t, wo_o ci (fs.set k v)), w.2) H' _ ⟨wv_Rep.put S.1 ha ht ht ⟨_, hc, t_OB.to (V := updV (vp_V fs) k v) ⟨_, e1, q2, q3, t_set q4 hap hk v⟩ (fun j _ => vp_updV_set hl v j)⟩ ((S.1.free ha ht).set q1 e1) e2 e3, wv_loc S.2.1 (S.1.low ha ht), S.2.2.1, S.2.2.2.1, by rw [e2]; exact S.2.2.2.2⟩ h4
/-- the String constants' terms at the start -/
theorem wv_strE (hG : wv_G0 G) {k : Nat} {q : String × Nat} (hk : wv_str[k]? = some q) : ∃ b0 : Nat, (Term.string q.1 q.2).eval #[Value.ref b0] G.2.1 none [] G.2.1 = some (.ref (G.2.2.2.2 (400 + k))) := by
  obtain ⟨-, -, -, b0, hn, h⟩ := hG
  have hlt : k < 19 := (List.getElem?_eq_some_iff.mp hk).1
  refine ⟨b0, h (400 + k) _ ?_⟩
  unfold wv_tm
  rw [if_neg (by omega), if_neg (by omega), if_neg (by omega), if_neg (by omega), if_pos (by omega), show 400 + k - 400 = k by omega, hk]
  rfl
theorem wq_ldcS (X : wv_ok G p R s m args meth c fr own cc nL ret nm tb) (S : wv_S G R s w H locs cells slots) {k index : Nat} {tx : String} (hk : wv_str[k]? = some (own, index)) (hq : Cond.stringRef own index tx ∈ lw_tbl) (hdg : decode cc pc = .ok (.ldc index, 2))
    (kk : W p G.1 e R s m args below meth c H locs cells slots Q (F0 m (pc + 2) ls (va_rf (some (G.2.2.2.2 (400 + k))) :: rest))) : W p G.1 e R s m args below meth c H locs cells slots Q (F0 m pc ls rest) := by
  obtain ⟨b1, h1⟩ := wv_strE X.hG hk
  obtain ⟨b0, h2⟩ := X.hG.2.2.1
  have h3 : vk_R own index tx (G.2.2.2.2 (400 + k)) G.2.1 := by
    refine vk_R.of (A := #[Value.ref b0]) (h2 _ hq) ?_
    exact h1
  exact va_ldcS X.hx X.hb X.hown (vk_R.warm X.hW h3) hdg kk
end WV8
