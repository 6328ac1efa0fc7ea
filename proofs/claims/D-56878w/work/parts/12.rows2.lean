/-! ROWS: classes of objects, casts, reference stores, calls, ends, entry, loops -/
section WV5
variable {G : wv_G} {p : Program} {e : Env} {R : Room} {s : State} {m : MethodId} {args : Array Value} {below : List Frame} {meth : Method} {c : Code} {fr : Nat} {own : String} {cc : ByteArray} {nL : Nat} {ret : Option FieldType} {nm : String} {tb : List (Nat × Nat × Nat × Nat)}
variable {w : wv_W} {H : Heap} {locs : List Loc} {cells slots : Nat} {Q : State → Prop} {pc : Nat} {ls : Array Slot} {rest : List Value}
/-- a constant: a box of the cache, a String -/
def wv_cst (G : wv_G) (a : Nat) (C : String) : Prop := (∃ k : Nat, k < 256 ∧ a = G.2.2.2.2 (100 + k) ∧ C = "java/lang/Integer") ∨ (∃ k : Nat, k < 19 ∧ a = G.2.2.2.2 (400 + k) ∧ C = "java/lang/String")
/-- the object at a is of the class C: of the world, a list, or a constant -/
def wv_is (G : wv_G) (h : wv_H) (a : Nat) (C : String) : Prop :=
  (∃ (t : wv_T) (ci : Nat) (fs : List Value) (r : vw_C), h a = some (t, wo_o ci fs) ∧ wv_cl[ci]? = some r ∧ r.1 = C) ∨ (∃ (t : wv_T) (l : Int32 × Nat × List Nat), h a = some (t, .inr (.inl l)) ∧ C = "java/util/ArrayList") ∨ wv_cst G a C
theorem wv_boxes (hG : wv_G0 G) : vb_C (fun k => G.2.2.2.2 (100 + k)) (fun q => wv_b G ≤ q) G.2.1 G.2.1.heap := by
  obtain ⟨-, -, -, b0, hn, hk⟩ := hG
  have hs := flat_of_before _ hn
  have hlen0 : (Cond.eq (.length (.static "java/lang/Integer$IntegerCache" "cache" "[Ljava/lang/Integer;")) (.int 256)).before #[Value.ref b0] G.2.1 = true := hs _ (by decide +kernel)
  have hall : (Cond.all (.static "java/lang/Integer$IntegerCache" "cache" "[Ljava/lang/Integer;") (.and (.exactly (.elem (.static "java/lang/Integer$IntegerCache" "cache" "[Ljava/lang/Integer;") (.index 0)) "java/lang/Integer") (.eq (.field (.elem (.static "java/lang/Integer$IntegerCache" "cache" "[Ljava/lang/Integer;") (.index 0)) "java/lang/Integer" "value" "I") (.sub (.index 0) (.int 128))))).before #[Value.ref b0] G.2.1 = true := hs _ (by decide +kernel)
  obtain ⟨ad, h1, h2⟩ := vb_Cof (A := fun q => wv_b G ≤ q) rfl (va_eqt hlen0) hall (fun a ha => Nat.not_le.mpr ha)
  have h3 : ∀ k : Nat, k < 256 → G.2.2.2.2 (100 + k) = ad k := by
    intro k hk1
    have h4 := hk (100 + k) (.elem (.static "java/lang/Integer$IntegerCache" "cache" "[Ljava/lang/Integer;") (.int (Int32.ofNat k))) (by
      unfold wv_tm
      rw [if_neg (by omega), if_neg (by omega), if_neg (by omega), if_pos (by omega), show 100 + k - 100 = k by omega])
    rw [h2 k hk1] at h4
    exact (Value.ref.inj (Option.some.inj h4)).symm
  refine ⟨fun k hk1 => ?_, fun k hk1 => ?_⟩
  · show va_O _ (G.2.2.2.2 (100 + k)) _ _ _
    rw [h3 k hk1]
    exact h1.1 k hk1
  · show va_OF _ _ _ _ (G.2.2.2.2 (100 + k)) _ _ _
    rw [h3 k hk1]
    exact h1.2 k hk1
theorem wv_is.cell (X : wv_ok G p R s m args meth c fr own cc nL ret nm tb) (hR : wv_Rep G w.1 H) {a : Nat} {C : String} (h : wv_is G w.1 a C) : ∃ cell : Cell, H[a]? = some cell ∧ cell.vm.isStatics = false ∧ s.vm.findClass C = some cell.cls := by
  rcases h with ⟨t, ci, fs, r, h1, h2, rfl⟩ | ⟨t, l, h1, rfl⟩ | ⟨k, hk, rfl, rfl⟩ | ⟨k, hk, rfl, rfl⟩
  · exact va_recv X.K (wv_one hR h1) (q0 := 0) h2 rfl
  · obtain ⟨-, -, own, g1, -⟩ := hR
    have g2 := (g1 a t _ h1).2
    obtain ⟨g3, -⟩ := g2
    obtain ⟨q', h1, cell, k1, k2, k3, -⟩ := g3
    have hq : q' = (RJ2, TJ2, 3) := Option.some.inj (h1.symm.trans ccJ2)
    subst hq
    exact ⟨cell, k1, by rw [k3]; rfl, by rw [k2]; exact (X.K.1 ciJ2 _ ccJ2).2.1⟩
  · obtain ⟨cell, g1, g2, g3, g4⟩ := (wv_boxes X.hG).1 k hk
    exact ⟨cell, by rw [hR.2.1 _ (Nat.not_le.mp g4)]; exact g1, g2, by rw [X.hW.alike.findClass]; exact g3⟩
  · obtain ⟨q, hq⟩ : ∃ q, wv_sx[k]? = some q := ⟨_, List.getElem?_eq_getElem (show k < wv_sx.length from hk)⟩
    obtain ⟨cell, g1, g2, g3, g4⟩ := (wv_strs X.hG hq).1
    exact ⟨cell, by rw [hR.2.1 _ (Nat.not_le.mp g4)]; exact g1, g2, by rw [X.hW.alike.findClass]; exact g3⟩
theorem wv_cst.lt (hG : wv_G0 G) {a : Nat} {C : String} (h : wv_cst G a C) : a < wv_b G := by
  rcases h with ⟨k, hk, rfl, -⟩ | ⟨k, hk, rfl, -⟩
  · obtain ⟨cell, g1, g2, g3, g4⟩ := (wv_boxes hG).1 k hk
    exact Nat.not_le.mp g4
  · obtain ⟨q, hq⟩ : ∃ q, wv_sx[k]? = some q := ⟨_, List.getElem?_eq_getElem (show k < wv_sx.length from hk)⟩
    obtain ⟨cell, g1, g2, g3, g4⟩ := (wv_strs hG hq).1
    exact Nat.not_le.mp g4
/-- checkcast of an object of a class that is castable, or the class itself -/
theorem wr_cc (X : wv_ok G p R s m args meth c fr own cc nL ret nm tb) (S : wv_S G R s w H locs cells slots) {r : Option Nat} {index : Nat} {C : String} (hl : Cond.classLink own index C ∈ lw_all) (h : ∀ a, r = some a → ∃ C', wv_is G w.1 a C' ∧ (C' = C ∨ Cond.castable C' C ∈ lw_tbl)) (hdg : decode cc pc = .ok (.checkcast index, 3))
    (kk : W p G.1 e R s m args below meth c H locs cells slots Q (F0 m (pc + 3) ls (va_rf r :: rest))) : W p G.1 e R s m args below meth c H locs cells slots Q (F0 m pc ls (va_rf r :: rest)) := by
  cases r with
  | none => exact lv_castN X.hx X.hb hdg kk
  | some a =>
    obtain ⟨C', h1, h2⟩ := h a rfl
    rcases h2 with rfl | h2
    · exact va_castE X.hx X.hb X.hown (X.hts _ hl) (h1.cell X S.1) hdg kk
    · exact va_castY X.hx X.hb X.hown (X.hts _ hl) (X.cast h2) (h1.cell X S.1) hdg kk
theorem wv_asg (X : wv_ok G p R s m args meth c fr own cc nL ret nm tb) {C E : String} {c0 c1 : ClassId} (h0 : s.vm.findClass C = some c0) (h1 : s.vm.findClass E = some c1) (hc : Cond.castable C E ∈ lw_tbl) : s.vm.assignable c0 c1 = true := by
  obtain ⟨c2, c3, f1, f2, f3⟩ := Cond.castable_spec (va_Nw.use (A := args) rfl (X.cast hc))
  cases h0.symm.trans f1
  cases h1.symm.trans f2
  exact f3

theorem wr_qst5 (X : wv_ok G p R s m args meth c fr own cc nL ret nm tb) (S : wv_S G R s w H locs cells slots) {a n v : Nat} {t : wv_T} {f : Nat → Option Nat} {i : Int32} {C : String} (ha : w.1 a = some (t, wo_q (wv_A G 5) n f)) (ht : t.1 ≠ 0) (hin : vp_in i n) (hv : wv_is G w.1 v C) (hca : C = "java/lang/Object" ∧ C ≠ "java/lang/Object" ∨ Cond.castable C "java/lang/Object" ∈ lw_tbl) (hdg : decode cc pc = .ok (.aastore, 1))
    (kk : ∀ (H1 : Heap) (locs1 : List Loc), wv_S G R s (wv_up w.1 a (t, wo_q (wv_A G 5) n (va_up f i.toNatClampNeg (some v))), w.2) H1 locs1 cells slots → W p G.1 e R s m args below meth c H1 locs1 cells slots Q (F0 m (pc + 1) ls rest)) : W p G.1 e R s m args below meth c H locs cells slots Q (F0 m pc ls (.ref v :: .int i :: .ref a :: rest)) := by
  have hlt : i.toNatClampNeg < n := Nat.not_le.mp fun q => hin (Or.inr q)
  have h0 : ¬ i < 0 := fun q => hin (Or.inl q)
  obtain ⟨cellV, g1, g2, g3⟩ := hv.cell X S.1
  obtain ⟨kA, comp, k1, k2, k3, -⟩ := (X.K.2 5 _ rfl).2
  obtain ⟨kE, hkE, -⟩ := Vm.findClass_spec k3
  obtain ⟨kC, hkC, -⟩ := Vm.findClass_spec g3
  have hasg : s.vm.assignable cellV.cls comp = true := by
    rcases hca with ⟨rfl, hne⟩ | hca
    · cases g3.symm.trans k3
      rcases hv with ⟨t2, ci, fs, r, h1, h2, h3⟩ | ⟨t2, l, h1, h3⟩ | ⟨k', hk', -, h3⟩ | ⟨k', hk', -, h3⟩
      · have hcl := (X.K.1 ci r h2).2
        rw [h3] at hcl
        have e1 := Option.some.inj (hcl.1.symm.trans k3)
        rw [← e1]
        exact va_assign hcl
      · exact absurd h3 (by decide)
      · exact absurd h3 (by decide)
      · exact absurd h3 (by decide)
    · exact wv_asg X g3 k3 hca
  refine W.aast X.hx X.hb (S.1.at ha) (fun q h => by cases h) (fun h => by cases h) k1 k2 rfl hkE ⟨h0, by show _ < (arrV _ _ _).slots.size; rw [arrV_size]; exact hlt⟩ g1 (fun q h => by rw [h] at g2; cases g2) hkC hasg rfl rfl hdg fun H1 e z oq => ?_
  refine kk H1 _ ⟨wv_Rep.put S.1 ha ht ht ?_ ((S.1.free ha ht).set (S.1.at ha) e) z oq, wv_loc S.2.1 (S.1.low ha ht), S.2.2.1, S.2.2.2.1, by rw [z]; exact S.2.2.2.2⟩
  show H1[a]? = some (vp_cell _ _)
  rw [e]
  rw [vp_cell_q, vp_cell_q, arrV_store]
  congr 2
  funext q
  by_cases hq : q = i.toNatClampNeg
  · subst hq
    simp [updV, va_up, va_rf]
  · simp [updV, va_up, hq]
theorem wr_qnull5 (X : wv_ok G p R s m args meth c fr own cc nL ret nm tb) (S : wv_S G R s w H locs cells slots) {a n : Nat} {t : wv_T} {f : Nat → Option Nat} {i : Int32} (ha : w.1 a = some (t, wo_q (wv_A G 5) n f)) (ht : t.1 ≠ 0) (hin : vp_in i n) (hdg : decode cc pc = .ok (.aastore, 1))
    (kk : ∀ (H1 : Heap) (locs1 : List Loc), wv_S G R s (wv_up w.1 a (t, wo_q (wv_A G 5) n (va_up f i.toNatClampNeg none)), w.2) H1 locs1 cells slots → W p G.1 e R s m args below meth c H1 locs1 cells slots Q (F0 m (pc + 1) ls rest)) : W p G.1 e R s m args below meth c H locs cells slots Q (F0 m pc ls (.null :: .int i :: .ref a :: rest)) := by
  refine va_WaastN (C := "java/lang/Object") X.hx X.hb (S.1.at ha) ((X.K.2 5 _ rfl).1 n (fun j => va_rf (f j))) (fun h => by cases h) (by show ¬ (i < 0 ∨ (arrV _ _ _).slots.size ≤ _); rw [arrV_size]; exact hin) rfl rfl hdg fun H1 e z oq => ?_
  refine kk H1 _ ⟨wv_Rep.put S.1 ha ht ht ?_ ((S.1.free ha ht).set (S.1.at ha) e) z oq, wv_loc S.2.1 (S.1.low ha ht), S.2.2.1, S.2.2.2.1, by rw [z]; exact S.2.2.2.2⟩
  show H1[a]? = some (vp_cell _ _)
  rw [e]
  rw [vp_cell_q, vp_cell_q, arrV_store]
  congr 2
  funext q
  by_cases hq : q = i.toNatClampNeg
  · subst hq
    simp [updV, va_up, va_rf]
  · simp [updV, va_up, hq]
theorem wr_nwq5 (X : wv_ok G p R s m args meth c fr own cc nL ret nm tb) (S : wv_S G R s w H locs cells slots) {n : Int32} {index : Nat} (N : Nat) (t : wv_T) (hcl : Cond.classLink own index "java/lang/Object" ∈ lw_all) (hov : Cond.arrayOver (.object "java/lang/Object") ∈ lw_tbl) (hn : n = nI N) (hN : N ≤ 1000000) (hc1 : 1 ≤ w.2.1) (hs1 : N ≤ w.2.2) (hdg : decode cc pc = .ok (.anewarray index, 3))
    (kk : ∀ (H1 : Heap), wv_S G R s (wv_up w.1 H.size (t, wo_q (wv_A G 5) N (fun _ => none)), w.2.1 - 1, w.2.2 - N) H1 locs (cells + 1) (slots + N) → W p G.1 e R s m args below meth c H1 locs (cells + 1) (slots + N) Q (F0 m (pc + 3) ls (.ref H.size :: rest))) : W p G.1 e R s m args below meth c H locs cells slots Q (F0 m pc ls (.int n :: rest)) := by
  have g1 := S.2.2.1
  have g2 := S.2.2.2.1
  have g3 := S.2.2.2.2
  obtain ⟨b0, hb0⟩ := X.hG.2.2.1
  have hAO : va_AO "java/lang/Object" s := va_AO.moved X.hW.alike (va_AO.of (hb0 _ hov))
  have hz : n.toNatClampNeg = N := by rw [hn]; exact nI_clamp (by omega)
  refine W.anew X.hx X.hb X.hown (X.hts _ hcl) (va_AO.use hAO) rfl hdg rfl (by rw [hn]; exact nI_pos (by omega)) (by rw [hz]; omega) (by omega) (by rw [hz]; omega) fun cA kA comp f1 f2 f3 f4 => ?_
  rw [hz]
  generalize hH1 : H.push ({ cls := cA, slots := Array.replicate N .null, vm := .none } : Cell) = H1
  have z1 : H1.size = H.size + 1 := by rw [← hH1, Array.size_push]
  have e1 : H1[H.size]? = some (arrV cA N (fun _ => .null)) := by rw [← hH1, Array.getElem?_push_size, ← arrV_new]
  have o1 : ∀ q : Nat, q < H.size → H1[q]? = H[q]? := fun q hq => by rw [← hH1, Array.getElem?_push, if_neg (Nat.ne_of_lt hq)]
  have hcA : cA = wv_A G 5 := wv_Kt X.K (k := 5) (ty := .object "java/lang/Object") rfl (fun h => by obtain ⟨_, _, _, _, _, h9⟩ := h; exact h9) f1
  refine kk H1 ⟨wv_Rep.new S.1 ?_ (wv_free.arr e1) z1 o1, S.2.1, ?_, ?_, by omega⟩
  · show H1[H.size]? = some (vp_cell _ _)
    rw [vp_cell_q, e1, hcA]
    rfl
  · show cells + 1 + (w.2.1 - 1) = _
    omega
  · show slots + N + (w.2.2 - N) = _
    omega
theorem wr_qst6 (X : wv_ok G p R s m args meth c fr own cc nL ret nm tb) (S : wv_S G R s w H locs cells slots) {a n v : Nat} {t : wv_T} {f : Nat → Option Nat} {i : Int32} {C : String} (ha : w.1 a = some (t, wo_q (wv_A G 6) n f)) (ht : t.1 ≠ 0) (hin : vp_in i n) (hv : wv_is G w.1 v C) (hca : C = "Weaversgate$Advice" ∧ C ≠ "java/lang/Object" ∨ Cond.castable C "Weaversgate$Advice" ∈ lw_tbl) (hdg : decode cc pc = .ok (.aastore, 1))
    (kk : ∀ (H1 : Heap) (locs1 : List Loc), wv_S G R s (wv_up w.1 a (t, wo_q (wv_A G 6) n (va_up f i.toNatClampNeg (some v))), w.2) H1 locs1 cells slots → W p G.1 e R s m args below meth c H1 locs1 cells slots Q (F0 m (pc + 1) ls rest)) : W p G.1 e R s m args below meth c H locs cells slots Q (F0 m pc ls (.ref v :: .int i :: .ref a :: rest)) := by
  have hlt : i.toNatClampNeg < n := Nat.not_le.mp fun q => hin (Or.inr q)
  have h0 : ¬ i < 0 := fun q => hin (Or.inl q)
  obtain ⟨cellV, g1, g2, g3⟩ := hv.cell X S.1
  obtain ⟨kA, comp, k1, k2, k3, -⟩ := (X.K.2 6 _ rfl).2
  obtain ⟨kE, hkE, -⟩ := Vm.findClass_spec k3
  obtain ⟨kC, hkC, -⟩ := Vm.findClass_spec g3
  have hasg : s.vm.assignable cellV.cls comp = true := by
    rcases hca with ⟨rfl, hne⟩ | hca
    · cases g3.symm.trans k3
      rcases hv with ⟨t2, ci, fs, r, h1, h2, h3⟩ | ⟨t2, l, h1, h3⟩ | ⟨k', hk', -, h3⟩ | ⟨k', hk', -, h3⟩
      · have hcl := (X.K.1 ci r h2).2
        rw [h3] at hcl
        have e1 := Option.some.inj (hcl.1.symm.trans k3)
        rw [← e1]
        exact va_assign hcl
      · exact absurd h3 (by decide)
      · exact absurd h3 (by decide)
      · exact absurd h3 (by decide)
    · exact wv_asg X g3 k3 hca
  refine W.aast X.hx X.hb (S.1.at ha) (fun q h => by cases h) (fun h => by cases h) k1 k2 rfl hkE ⟨h0, by show _ < (arrV _ _ _).slots.size; rw [arrV_size]; exact hlt⟩ g1 (fun q h => by rw [h] at g2; cases g2) hkC hasg rfl rfl hdg fun H1 e z oq => ?_
  refine kk H1 _ ⟨wv_Rep.put S.1 ha ht ht ?_ ((S.1.free ha ht).set (S.1.at ha) e) z oq, wv_loc S.2.1 (S.1.low ha ht), S.2.2.1, S.2.2.2.1, by rw [z]; exact S.2.2.2.2⟩
  show H1[a]? = some (vp_cell _ _)
  rw [e]
  rw [vp_cell_q, vp_cell_q, arrV_store]
  congr 2
  funext q
  by_cases hq : q = i.toNatClampNeg
  · subst hq
    simp [updV, va_up, va_rf]
  · simp [updV, va_up, hq]
theorem wr_qnull6 (X : wv_ok G p R s m args meth c fr own cc nL ret nm tb) (S : wv_S G R s w H locs cells slots) {a n : Nat} {t : wv_T} {f : Nat → Option Nat} {i : Int32} (ha : w.1 a = some (t, wo_q (wv_A G 6) n f)) (ht : t.1 ≠ 0) (hin : vp_in i n) (hdg : decode cc pc = .ok (.aastore, 1))
    (kk : ∀ (H1 : Heap) (locs1 : List Loc), wv_S G R s (wv_up w.1 a (t, wo_q (wv_A G 6) n (va_up f i.toNatClampNeg none)), w.2) H1 locs1 cells slots → W p G.1 e R s m args below meth c H1 locs1 cells slots Q (F0 m (pc + 1) ls rest)) : W p G.1 e R s m args below meth c H locs cells slots Q (F0 m pc ls (.null :: .int i :: .ref a :: rest)) := by
  refine va_WaastN (C := "Weaversgate$Advice") X.hx X.hb (S.1.at ha) ((X.K.2 6 _ rfl).1 n (fun j => va_rf (f j))) (fun h => by cases h) (by show ¬ (i < 0 ∨ (arrV _ _ _).slots.size ≤ _); rw [arrV_size]; exact hin) rfl rfl hdg fun H1 e z oq => ?_
  refine kk H1 _ ⟨wv_Rep.put S.1 ha ht ht ?_ ((S.1.free ha ht).set (S.1.at ha) e) z oq, wv_loc S.2.1 (S.1.low ha ht), S.2.2.1, S.2.2.2.1, by rw [z]; exact S.2.2.2.2⟩
  show H1[a]? = some (vp_cell _ _)
  rw [e]
  rw [vp_cell_q, vp_cell_q, arrV_store]
  congr 2
  funext q
  by_cases hq : q = i.toNatClampNeg
  · subst hq
    simp [updV, va_up, va_rf]
  · simp [updV, va_up, hq]
theorem wr_nwq6 (X : wv_ok G p R s m args meth c fr own cc nL ret nm tb) (S : wv_S G R s w H locs cells slots) {n : Int32} {index : Nat} (N : Nat) (t : wv_T) (hcl : Cond.classLink own index "Weaversgate$Advice" ∈ lw_all) (hov : Cond.arrayOver (.object "Weaversgate$Advice") ∈ lw_tbl) (hn : n = nI N) (hN : N ≤ 1000000) (hc1 : 1 ≤ w.2.1) (hs1 : N ≤ w.2.2) (hdg : decode cc pc = .ok (.anewarray index, 3))
    (kk : ∀ (H1 : Heap), wv_S G R s (wv_up w.1 H.size (t, wo_q (wv_A G 6) N (fun _ => none)), w.2.1 - 1, w.2.2 - N) H1 locs (cells + 1) (slots + N) → W p G.1 e R s m args below meth c H1 locs (cells + 1) (slots + N) Q (F0 m (pc + 3) ls (.ref H.size :: rest))) : W p G.1 e R s m args below meth c H locs cells slots Q (F0 m pc ls (.int n :: rest)) := by
  have g1 := S.2.2.1
  have g2 := S.2.2.2.1
  have g3 := S.2.2.2.2
  obtain ⟨b0, hb0⟩ := X.hG.2.2.1
  have hAO : va_AO "Weaversgate$Advice" s := va_AO.moved X.hW.alike (va_AO.of (hb0 _ hov))
  have hz : n.toNatClampNeg = N := by rw [hn]; exact nI_clamp (by omega)
  refine W.anew X.hx X.hb X.hown (X.hts _ hcl) (va_AO.use hAO) rfl hdg rfl (by rw [hn]; exact nI_pos (by omega)) (by rw [hz]; omega) (by omega) (by rw [hz]; omega) fun cA kA comp f1 f2 f3 f4 => ?_
  rw [hz]
  generalize hH1 : H.push ({ cls := cA, slots := Array.replicate N .null, vm := .none } : Cell) = H1
  have z1 : H1.size = H.size + 1 := by rw [← hH1, Array.size_push]
  have e1 : H1[H.size]? = some (arrV cA N (fun _ => .null)) := by rw [← hH1, Array.getElem?_push_size, ← arrV_new]
  have o1 : ∀ q : Nat, q < H.size → H1[q]? = H[q]? := fun q hq => by rw [← hH1, Array.getElem?_push, if_neg (Nat.ne_of_lt hq)]
  have hcA : cA = wv_A G 6 := wv_Kt X.K (k := 6) (ty := .object "Weaversgate$Advice") rfl (fun h => by obtain ⟨_, _, _, _, _, h9⟩ := h; exact h9) f1
  refine kk H1 ⟨wv_Rep.new S.1 ?_ (wv_free.arr e1) z1 o1, S.2.1, ?_, ?_, by omega⟩
  · show H1[H.size]? = some (vp_cell _ _)
    rw [vp_cell_q, e1, hcA]
    rfl
  · show cells + 1 + (w.2.1 - 1) = _
    omega
  · show slots + N + (w.2.2 - N) = _
    omega
theorem wr_qst7 (X : wv_ok G p R s m args meth c fr own cc nL ret nm tb) (S : wv_S G R s w H locs cells slots) {a n v : Nat} {t : wv_T} {f : Nat → Option Nat} {i : Int32} {C : String} (ha : w.1 a = some (t, wo_q (wv_A G 7) n f)) (ht : t.1 ≠ 0) (hin : vp_in i n) (hv : wv_is G w.1 v C) (hca : C = "WeaversgateModel$Body" ∧ C ≠ "java/lang/Object" ∨ Cond.castable C "WeaversgateModel$Body" ∈ lw_tbl) (hdg : decode cc pc = .ok (.aastore, 1))
    (kk : ∀ (H1 : Heap) (locs1 : List Loc), wv_S G R s (wv_up w.1 a (t, wo_q (wv_A G 7) n (va_up f i.toNatClampNeg (some v))), w.2) H1 locs1 cells slots → W p G.1 e R s m args below meth c H1 locs1 cells slots Q (F0 m (pc + 1) ls rest)) : W p G.1 e R s m args below meth c H locs cells slots Q (F0 m pc ls (.ref v :: .int i :: .ref a :: rest)) := by
  have hlt : i.toNatClampNeg < n := Nat.not_le.mp fun q => hin (Or.inr q)
  have h0 : ¬ i < 0 := fun q => hin (Or.inl q)
  obtain ⟨cellV, g1, g2, g3⟩ := hv.cell X S.1
  obtain ⟨kA, comp, k1, k2, k3, -⟩ := (X.K.2 7 _ rfl).2
  obtain ⟨kE, hkE, -⟩ := Vm.findClass_spec k3
  obtain ⟨kC, hkC, -⟩ := Vm.findClass_spec g3
  have hasg : s.vm.assignable cellV.cls comp = true := by
    rcases hca with ⟨rfl, hne⟩ | hca
    · cases g3.symm.trans k3
      rcases hv with ⟨t2, ci, fs, r, h1, h2, h3⟩ | ⟨t2, l, h1, h3⟩ | ⟨k', hk', -, h3⟩ | ⟨k', hk', -, h3⟩
      · have hcl := (X.K.1 ci r h2).2
        rw [h3] at hcl
        have e1 := Option.some.inj (hcl.1.symm.trans k3)
        rw [← e1]
        exact va_assign hcl
      · exact absurd h3 (by decide)
      · exact absurd h3 (by decide)
      · exact absurd h3 (by decide)
    · exact wv_asg X g3 k3 hca
  refine W.aast X.hx X.hb (S.1.at ha) (fun q h => by cases h) (fun h => by cases h) k1 k2 rfl hkE ⟨h0, by show _ < (arrV _ _ _).slots.size; rw [arrV_size]; exact hlt⟩ g1 (fun q h => by rw [h] at g2; cases g2) hkC hasg rfl rfl hdg fun H1 e z oq => ?_
  refine kk H1 _ ⟨wv_Rep.put S.1 ha ht ht ?_ ((S.1.free ha ht).set (S.1.at ha) e) z oq, wv_loc S.2.1 (S.1.low ha ht), S.2.2.1, S.2.2.2.1, by rw [z]; exact S.2.2.2.2⟩
  show H1[a]? = some (vp_cell _ _)
  rw [e]
  rw [vp_cell_q, vp_cell_q, arrV_store]
  congr 2
  funext q
  by_cases hq : q = i.toNatClampNeg
  · subst hq
    simp [updV, va_up, va_rf]
  · simp [updV, va_up, hq]
theorem wr_qnull7 (X : wv_ok G p R s m args meth c fr own cc nL ret nm tb) (S : wv_S G R s w H locs cells slots) {a n : Nat} {t : wv_T} {f : Nat → Option Nat} {i : Int32} (ha : w.1 a = some (t, wo_q (wv_A G 7) n f)) (ht : t.1 ≠ 0) (hin : vp_in i n) (hdg : decode cc pc = .ok (.aastore, 1))
    (kk : ∀ (H1 : Heap) (locs1 : List Loc), wv_S G R s (wv_up w.1 a (t, wo_q (wv_A G 7) n (va_up f i.toNatClampNeg none)), w.2) H1 locs1 cells slots → W p G.1 e R s m args below meth c H1 locs1 cells slots Q (F0 m (pc + 1) ls rest)) : W p G.1 e R s m args below meth c H locs cells slots Q (F0 m pc ls (.null :: .int i :: .ref a :: rest)) := by
  refine va_WaastN (C := "WeaversgateModel$Body") X.hx X.hb (S.1.at ha) ((X.K.2 7 _ rfl).1 n (fun j => va_rf (f j))) (fun h => by cases h) (by show ¬ (i < 0 ∨ (arrV _ _ _).slots.size ≤ _); rw [arrV_size]; exact hin) rfl rfl hdg fun H1 e z oq => ?_
  refine kk H1 _ ⟨wv_Rep.put S.1 ha ht ht ?_ ((S.1.free ha ht).set (S.1.at ha) e) z oq, wv_loc S.2.1 (S.1.low ha ht), S.2.2.1, S.2.2.2.1, by rw [z]; exact S.2.2.2.2⟩
  show H1[a]? = some (vp_cell _ _)
  rw [e]
  rw [vp_cell_q, vp_cell_q, arrV_store]
  congr 2
  funext q
  by_cases hq : q = i.toNatClampNeg
  · subst hq
    simp [updV, va_up, va_rf]
  · simp [updV, va_up, hq]
theorem wr_nwq7 (X : wv_ok G p R s m args meth c fr own cc nL ret nm tb) (S : wv_S G R s w H locs cells slots) {n : Int32} {index : Nat} (N : Nat) (t : wv_T) (hcl : Cond.classLink own index "WeaversgateModel$Body" ∈ lw_all) (hov : Cond.arrayOver (.object "WeaversgateModel$Body") ∈ lw_tbl) (hn : n = nI N) (hN : N ≤ 1000000) (hc1 : 1 ≤ w.2.1) (hs1 : N ≤ w.2.2) (hdg : decode cc pc = .ok (.anewarray index, 3))
    (kk : ∀ (H1 : Heap), wv_S G R s (wv_up w.1 H.size (t, wo_q (wv_A G 7) N (fun _ => none)), w.2.1 - 1, w.2.2 - N) H1 locs (cells + 1) (slots + N) → W p G.1 e R s m args below meth c H1 locs (cells + 1) (slots + N) Q (F0 m (pc + 3) ls (.ref H.size :: rest))) : W p G.1 e R s m args below meth c H locs cells slots Q (F0 m pc ls (.int n :: rest)) := by
  have g1 := S.2.2.1
  have g2 := S.2.2.2.1
  have g3 := S.2.2.2.2
  obtain ⟨b0, hb0⟩ := X.hG.2.2.1
  have hAO : va_AO "WeaversgateModel$Body" s := va_AO.moved X.hW.alike (va_AO.of (hb0 _ hov))
  have hz : n.toNatClampNeg = N := by rw [hn]; exact nI_clamp (by omega)
  refine W.anew X.hx X.hb X.hown (X.hts _ hcl) (va_AO.use hAO) rfl hdg rfl (by rw [hn]; exact nI_pos (by omega)) (by rw [hz]; omega) (by omega) (by rw [hz]; omega) fun cA kA comp f1 f2 f3 f4 => ?_
  rw [hz]
  generalize hH1 : H.push ({ cls := cA, slots := Array.replicate N .null, vm := .none } : Cell) = H1
  have z1 : H1.size = H.size + 1 := by rw [← hH1, Array.size_push]
  have e1 : H1[H.size]? = some (arrV cA N (fun _ => .null)) := by rw [← hH1, Array.getElem?_push_size, ← arrV_new]
  have o1 : ∀ q : Nat, q < H.size → H1[q]? = H[q]? := fun q hq => by rw [← hH1, Array.getElem?_push, if_neg (Nat.ne_of_lt hq)]
  have hcA : cA = wv_A G 7 := wv_Kt X.K (k := 7) (ty := .object "WeaversgateModel$Body") rfl (fun h => by obtain ⟨_, _, _, _, _, h9⟩ := h; exact h9) f1
  refine kk H1 ⟨wv_Rep.new S.1 ?_ (wv_free.arr e1) z1 o1, S.2.1, ?_, ?_, by omega⟩
  · show H1[H.size]? = some (vp_cell _ _)
    rw [vp_cell_q, e1, hcA]
    rfl
  · show cells + 1 + (w.2.1 - 1) = _
    omega
  · show slots + N + (w.2.2 - N) = _
    omega
/-- how the world is at a throw of q, of the class E -/
def wv_th (s : State) (H : Heap) (E : String) (q : Nat) : Prop := ∃ ce : Cell, H[q]? = some ce ∧ ce.vm = .none ∧ s.vm.findClass E = some ce.cls
def wv_cov (tb : List (Nat × Nat × Nat × Nat)) (pc : Nat) : Bool := (tableOf tb).any (fun x => covers x pc)
theorem wv_covF {tb : List (Nat × Nat × Nat × Nat)} {pc : Nat} (h : wv_cov tb pc = false) : ∀ x ∈ tableOf tb, covers x pc = false := by
  intro x hx
  unfold wv_cov at h
  rw [List.any_eq_false] at h
  simpa using h x hx
theorem wv_mono {g : JFrame} {Q1 Q2 : State → Prop} (hq : ∀ t, Q1 t → Q2 t) (k : W p G.1 e R s m args below meth c H locs cells slots Q1 g) : W p G.1 e R s m args below meth c H locs cells slots Q2 g := by
  intro T hT X
  obtain ⟨t, a, b⟩ := k T hT X
  exact ⟨t, a, hq t b⟩
variable {P : wv_R → wv_H → Prop}
theorem wr_out (X : wv_ok G p R s m args meth c fr own cc nL ret nm tb) (S : wv_S G R s w H locs cells slots) {E : String} {q : Nat} (hP : P (.inr (E, q)) w.1) (hq : wv_th s H E q) (hcov : wv_cov tb pc = false) : vx_W p G.1 e R s m args below meth c H locs cells slots (wv_MQ G P below s R.cells R.slots) (F0 m pc ls rest) q := by
  obtain ⟨ce, h1, h2, h3⟩ := hq
  have g1 := S.2.2.1
  have g2 := S.2.2.2.1
  intro T hT Z
  obtain ⟨st1, hrun, hend, hW, hsm⟩ := Z.leaveThrown q (g := F0 m pc ls rest) rfl rfl rfl (by rw [X.htb]; exact wv_covF hcov) X.hlk
  have hcell9 : (T.setFrames (.throwing q :: below)).heap[q]? = some ce := by
    show T.heap[q]? = some ce
    rw [hT]; exact h1
  have hRep9 : wv_Rep G w.1 (T.setFrames (.throwing q :: below)).heap := by
    show wv_Rep G w.1 T.heap
    rw [hT]; exact S.1
  exact ⟨_, st1, .threw q, hrun, hend, Or.inr ⟨q, w.1, E, ce, locs, rfl, hP, hRep9, hcell9, h2, h3, hW, hsm.mono (by omega) (by omega), S.2.1⟩⟩
theorem wr_athrow (X : wv_ok G p R s m args meth c fr own cc nL ret nm tb) (S : wv_S G R s w H locs cells slots) {q : Nat} (hdg : decode cc pc = .ok (.athrow, 1)) (k : vx_W p G.1 e R s m args below meth c H locs cells slots Q (F0 m pc ls rest) q) : W p G.1 e R s m args below meth c H locs cells slots Q (F0 m pc ls (.ref q :: rest)) := vx_athrow X.hx X.hb hdg k
theorem wv_thO (X : wv_ok G p R s m args meth c fr own cc nL ret nm tb) (S : wv_S G R s w H locs cells slots) {a ci N : Nat} {t : wv_T} {fs : List Value} {C : String} {T : u_T} (ha : w.1 a = some (t, wo_o ci fs)) (hc : wv_cl[ci]? = some (C, T, N)) : wv_th s H C a := by
  obtain ⟨cell, q1, q2, q3, q4⟩ := wv_obj S.1 ha hc
  exact ⟨cell, q1, q3, by rw [q2]; exact (X.K.1 ci _ hc).2.1⟩
/-- caught: by the class E itself, or by whatever E is castable to -/
theorem wr_catch (X : wv_ok G p R s m args meth c fr own cc nL ret nm tb) {E name : String} {q : Nat} (pre : List (Nat × Nat × Nat × Nat)) (x : Nat × Nat × Nat × Nat) (suf : List (Nat × Nat × Nat × Nat)) (hsplit : tb = pre ++ x :: suf)
    (hpass : ∀ z ∈ pre, covers ⟨z.1, z.2.1, z.2.2.1, z.2.2.2⟩ pc = false ∨ (z.2.2.2 ≠ 0 ∧ ∃ nm : String, Cond.classLink own z.2.2.2 nm ∈ lw_all ∧ va_Nc E nm s)) (hx : covers ⟨x.1, x.2.1, x.2.2.1, x.2.2.2⟩ pc = true) (h0 : x.2.2.2 ≠ 0)
    (hlink : Cond.classLink own x.2.2.2 name ∈ lw_all) (hcast : Cond.castable E name ∈ lw_tbl) (hq : wv_th s H E q)
    (kk : W p G.1 e R s m args below meth c H locs cells slots Q (F0 m x.2.2.1 ls [.ref q])) : vx_W p G.1 e R s m args below meth c H locs cells slots Q (F0 m pc ls rest) q := by
  obtain ⟨ce, h1, h2, h3⟩ := hq
  refine vx_catch (E := E) (name := name) X.hown (tableOf pre) ⟨x.1, x.2.1, x.2.2.1, x.2.2.2⟩ (tableOf suf) (by rw [X.htb, hsplit]; simp [tableOf]) ?_ hx h0 (X.hts _ hlink) (va_Nw.use rfl (X.cast hcast)) h1 h2 h3 kk
  intro z hz
  obtain ⟨y, hy, rfl⟩ := List.mem_map.mp hz
  rcases hpass y hy with h | ⟨h, nm', g1, g2⟩
  · exact Or.inl h
  · exact Or.inr ⟨h, nm', X.hts _ g1, g2⟩
theorem wr_iret {ty : FieldType} (X : wv_ok G p R s m args meth c fr own cc nL (some ty) nm tb) (S : wv_S G R s w H locs cells slots) {v : Int32} (hn : narrow ty (.int v) = .int v) (hP : P (.inl (some (.int v))) w.1) (hdg : decode cc pc = .ok (.ireturn, 1)) : W p G.1 e R s m args below meth c H locs cells slots (wv_MQ G P below s R.cells R.slots) (F0 m pc ls [.int v]) := by
  have g1 := S.2.2.1
  have g2 := S.2.2.2.1
  refine W.widen (k := R.cells) (n := R.slots) (by omega) (by omega) ?_
  refine wv_mono (Q1 := MQ below (fun _ _ o t => o = .returned (some (.int v)) ∧ t.heap = H) args s R.cells R.slots (fun q => wv_b G ≤ q)) ?_ (W.zret (v := v) X.hx X.hb X.hr hn (fun t ht hW => ⟨rfl, ht⟩) S.2.1 hdg X.hlk)
  rintro t ⟨o, h1, h2, ⟨rfl, h3⟩, L, h4, h5⟩
  exact ⟨_, h1, h2, Or.inl ⟨_, w.1, rfl, hP, by rw [h3]; exact S.1, L, h4, h5⟩⟩
theorem wr_lret (X : wv_ok G p R s m args meth c fr own cc nL (some .long) nm tb) (S : wv_S G R s w H locs cells slots) {v : Int64} (hP : P (.inl (some (.long v))) w.1) (hdg : decode cc pc = .ok (.lreturn, 1)) : W p G.1 e R s m args below meth c H locs cells slots (wv_MQ G P below s R.cells R.slots) (F0 m pc ls [.long v]) := by
  have g1 := S.2.2.1
  have g2 := S.2.2.2.1
  refine W.widen (k := R.cells) (n := R.slots) (by omega) (by omega) ?_
  refine wv_mono (Q1 := MQ below (fun _ _ o t => o = .returned (some (.long v)) ∧ t.heap = H) args s R.cells R.slots (fun q => wv_b G ≤ q)) ?_ (W.lret (v := v) X.hx X.hb X.hr (fun t ht hW => ⟨rfl, ht⟩) S.2.1 hdg X.hlk)
  rintro t ⟨o, h1, h2, ⟨rfl, h3⟩, L, h4, h5⟩
  exact ⟨_, h1, h2, Or.inl ⟨_, w.1, rfl, hP, by rw [h3]; exact S.1, L, h4, h5⟩⟩
theorem wr_fret (X : wv_ok G p R s m args meth c fr own cc nL (some .float) nm tb) (S : wv_S G R s w H locs cells slots) {v : UInt32} (hP : P (.inl (some (.float v))) w.1) (hdg : decode cc pc = .ok (.freturn, 1)) : W p G.1 e R s m args below meth c H locs cells slots (wv_MQ G P below s R.cells R.slots) (F0 m pc ls [.float v]) := by
  have g1 := S.2.2.1
  have g2 := S.2.2.2.1
  refine W.widen (k := R.cells) (n := R.slots) (by omega) (by omega) ?_
  refine wv_mono (Q1 := MQ below (fun _ _ o t => o = .returned (some (.float v)) ∧ t.heap = H) args s R.cells R.slots (fun q => wv_b G ≤ q)) ?_ (W.fret (v := v) X.hx X.hb X.hr (fun t ht hW => ⟨rfl, ht⟩) S.2.1 hdg X.hlk)
  rintro t ⟨o, h1, h2, ⟨rfl, h3⟩, L, h4, h5⟩
  exact ⟨_, h1, h2, Or.inl ⟨_, w.1, rfl, hP, by rw [h3]; exact S.1, L, h4, h5⟩⟩
theorem wr_dret (X : wv_ok G p R s m args meth c fr own cc nL (some .double) nm tb) (S : wv_S G R s w H locs cells slots) {v : UInt64} (hP : P (.inl (some (.double v))) w.1) (hdg : decode cc pc = .ok (.dreturn, 1)) : W p G.1 e R s m args below meth c H locs cells slots (wv_MQ G P below s R.cells R.slots) (F0 m pc ls [.double v]) := by
  have g1 := S.2.2.1
  have g2 := S.2.2.2.1
  refine W.widen (k := R.cells) (n := R.slots) (by omega) (by omega) ?_
  refine wv_mono (Q1 := MQ below (fun _ _ o t => o = .returned (some (.double v)) ∧ t.heap = H) args s R.cells R.slots (fun q => wv_b G ≤ q)) ?_ (W.dret (v := v) X.hx X.hb X.hr (fun t ht hW => ⟨rfl, ht⟩) S.2.1 hdg X.hlk)
  rintro t ⟨o, h1, h2, ⟨rfl, h3⟩, L, h4, h5⟩
  exact ⟨_, h1, h2, Or.inl ⟨_, w.1, rfl, hP, by rw [h3]; exact S.1, L, h4, h5⟩⟩
theorem wr_vret (X : wv_ok G p R s m args meth c fr own cc nL none nm tb) (S : wv_S G R s w H locs cells slots) (hP : P (.inl none) w.1) (hdg : decode cc pc = .ok (.return_, 1)) : W p G.1 e R s m args below meth c H locs cells slots (wv_MQ G P below s R.cells R.slots) (F0 m pc ls []) := by
  have g1 := S.2.2.1
  have g2 := S.2.2.2.1
  refine W.widen (k := R.cells) (n := R.slots) (by omega) (by omega) ?_
  refine wv_mono (Q1 := MQ below (fun _ _ o t => o = .returned none ∧ t.heap = H) args s R.cells R.slots (fun q => wv_b G ≤ q)) ?_ (W.vret X.hx X.hb X.hr (fun t ht hW => ⟨rfl, ht⟩) S.2.1 hdg X.hlk)
  rintro t ⟨o, h1, h2, ⟨rfl, h3⟩, L, h4, h5⟩
  exact ⟨_, h1, h2, Or.inl ⟨_, w.1, rfl, hP, by rw [h3]; exact S.1, L, h4, h5⟩⟩
theorem wr_aret {rt : FieldType} (X : wv_ok G p R s m args meth c fr own cc nL (some rt) nm tb) (S : wv_S G R s w H locs cells slots) {r : Option Nat} (hrt : (∃ n, rt = .object n) ∨ ∃ t, rt = .array t) (hP : P (.inl (some (va_rf r))) w.1) (hdg : decode cc pc = .ok (.areturn, 1)) : W p G.1 e R s m args below meth c H locs cells slots (wv_MQ G P below s R.cells R.slots) (F0 m pc ls [va_rf r]) := by
  have g1 := S.2.2.1
  have g2 := S.2.2.2.1
  refine W.widen (k := R.cells) (n := R.slots) (by omega) (by omega) ?_
  refine wv_mono (Q1 := MQ below (fun _ _ o t => o = .returned (some (va_rf r)) ∧ t.heap = H) args s R.cells R.slots (fun q => wv_b G ≤ q)) ?_ (W.aret X.hx X.hb X.hr hrt (by cases r with | none => exact Or.inl rfl | some a => exact Or.inr ⟨a, rfl⟩) (fun t ht hW => ⟨rfl, ht⟩) S.2.1 hdg X.hlk)
  rintro t ⟨o, h1, h2, ⟨rfl, h3⟩, L, h4, h5⟩
  exact ⟨_, h1, h2, Or.inl ⟨_, w.1, rfl, hP, by rw [h3]; exact S.1, L, h4, h5⟩⟩
end WV5
