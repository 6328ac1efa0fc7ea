/-! ROWS 11: an array of arrays, made at once -/
section WV15
theorem wv_Rep.ext {G : wv_G} {h h1 : wv_H} {H H1 : Heap} (hR : wv_Rep G h H) (hs : H.size ≤ H1.size) (ho : ∀ q : Nat, q < H.size → H1[q]? = H[q]?) (hl : ∀ b : Nat, b < H.size → h1 b = h b) (hn : ∀ (b : Nat) (t : wv_T) (o : wv_O), H.size ≤ b → h1 b = some (t, o) → ((∃ e, o = .inl e ∧ va_at G.2.2.1 wv_cl (b, e) H1) ∨ (∃ q, o = .inr (.inr q) ∧ wv_lam G H1 b q.1 q.2)) ∧ wv_free H1 b) : wv_Rep G h1 H1 := by
  have hlt := fun {a : Nat} {t : wv_T} {o : wv_O} (ha : h a = some (t, o)) => hR.lt ha
  obtain ⟨k1, k2, own, k3, k4, k5⟩ := hR
  have old : ∀ {b : Nat} {x : wv_T} {l : Int32 × Nat × List Nat}, h1 b = some (x, .inr (.inl l)) → b < H.size ∧ h b = some (x, .inr (.inl l)) := by
    intro b x l hb
    by_cases hbs : b < H.size
    · exact ⟨hbs, by rw [← hl b hbs]; exact hb⟩
    · obtain ⟨⟨e, h9, -⟩ | ⟨e, h9, -⟩, -⟩ := hn b x _ (Nat.not_lt.mp hbs) hb <;> cases h9
  refine ⟨by omega, fun q hq => by rw [ho q (by omega)]; exact k2 q hq, own, ?_, ?_, ?_⟩
  · intro b x o hb
    by_cases hbs : b < H.size
    · rw [hl b hbs] at hb
      obtain ⟨g1, g2⟩ := k3 b x o hb
      refine ⟨fun h9 => ⟨(g1 h9).1, (g1 h9).2.kept (ho b hbs)⟩, ?_⟩
      rcases o with e | l | q
      · exact va_at.kept g2 (ho b hbs)
      · exact wv_lst.kept g2 (ho b hbs) (ho _ (wv_lst.alt k1 g2))
      · exact (ho b hbs).trans g2
    · obtain ⟨⟨e, rfl, g1⟩ | ⟨e, rfl, g1⟩, g2⟩ := hn b x o (Nat.not_lt.mp hbs) hb
      · exact ⟨fun _ => ⟨by omega, g2⟩, g1⟩
      · exact ⟨fun _ => ⟨by omega, g2⟩, g1⟩
  · intro b x l hb
    obtain ⟨g1, g2⟩ := old hb
    refine ⟨(k4 b x l g2).1, fun hz => ?_⟩
    rw [hl _ (wv_lst.alt k1 (k3 b x _ g2).2)]
    exact (k4 b x l g2).2 hz
  · intro b c x x' l l' hb hc
    exact k5 b c x x' l l' (old hb).2 (old hc).2
variable {G : wv_G} {p : Program} {e : Env} {R : Room} {s : State} {m : MethodId} {args : Array Value} {below : List Frame} {meth : Method} {c : Code} {fr : Nat} {own : String} {cc : ByteArray} {nL : Nat} {ret : Option FieldType} {nm : String} {tb : List (Nat × Nat × Nat × Nat)}
variable {w : wv_W} {H : Heap} {locs : List Loc} {cells slots : Nat} {Q : State → Prop} {pc : Nat} {ls : Array Slot} {rest : List Value}
/-- the world with a new boolean[4][4] at a -/
def wv_up44 (G : wv_G) (h : wv_H) (a : Nat) (t : wv_T) : wv_H := fun b => if b = a then some (t, wo_q (wv_A G 8) 4 (fun j => some (a + 1 + j))) else if a < b ∧ b ≤ a + 4 then some (t, wo_i (wv_A G 2) 4 (fun _ => 0)) else h b
def wv_mn (G : wv_G) (w : wv_W) (n k : Int32) (K : Nat → wv_W → Prop) : Prop := n = 4 ∧ k = 4 ∧ 5 ≤ w.2.1 ∧ 20 ≤ w.2.2 ∧ ∀ a : Nat, (∀ i : Nat, i ≤ 4 → w.1 (a + i) = none) → wv_b G ≤ a → ∃ t : wv_T, K a (wv_up44 G w.1 a t, w.2.1 - 5, w.2.2 - 20)
theorem wv_outer (cA : ClassId) (h0 : Nat) : Jvm.Free.Multi.outerC cA 4 h0 4 = arrV cA 4 (fun j => va_rf (some (h0 + 1 + j))) := rfl
theorem wv_inner (cA : ClassId) : Jvm.Free.Multi.innerC cA 4 (.int 0) = arrV cA 4 (fun _ => .int 0) := rfl
theorem wq_mn (X : wv_ok G p R s m args meth c fr own cc nL ret nm tb) (S : wv_S G R s w H locs cells slots) {n k : Int32} {index : Nat} {K : Nat → wv_W → Prop} (hv : wv_mn G w n k K) (hclink : Cond.classLink own index "[[Z" ∈ lw_all) (hdg : decode cc pc = .ok (.multianewarray index 2, 4))
    (kk : ∀ (a : Nat) (w1 : wv_W) (H1 : Heap) (locs1 : List Loc) (cells1 slots1 : Nat), wv_S G R s w1 H1 locs1 cells1 slots1 → K a w1 → W p G.1 e R s m args below meth c H1 locs1 cells1 slots1 Q (F0 m (pc + 4) ls (va_rf (some a) :: rest))) : W p G.1 e R s m args below meth c H locs cells slots Q (F0 m pc ls (.int k :: .int n :: rest)) := by
  obtain ⟨rfl, rfl, hc1, hs1, hK⟩ := hv
  have g1 := S.2.2.1
  have g2 := S.2.2.2.1
  have g3 := S.2.2.2.2
  obtain ⟨t, hK⟩ := hK H.size (fun i _ => by
    cases hq : w.1 (H.size + i) with
    | none => rfl
    | some x => exact absurd (S.1.lt (t := x.1) (o := x.2) hq) (by omega)) S.1.1
  intro T hT Z
  have e4 : (4 : Int32).toNatClampNeg = 4 := by decide
  obtain ⟨b0, hb0⟩ := X.hG.2.2.1
  have hover1 : (Cond.arrayOver (.array .boolean)).before #[Value.ref b0] (G.2.1.setVm s.vm) = true := (Cond.arrayOver_setVmC X.hW.alike (.array .boolean)).trans (hb0 _ q157)
  have hover : (Cond.arrayOver (.array .boolean)).before args s = true := hover1
  obtain ⟨vm₁, cA, comp, hW, hfA, hfC, hO, hI, X1, step⟩ := Z.multianewarray2F X.hx (ty := .boolean) X.hown (X.hts _ hclink) hover (X.hts _ q186) (g := F0 m pc ls (.int 4 :: .int 4 :: rest)) rfl (by rw [X.hb]; exact hdg) (n := 4) (k := 4) (rest := rest) rfl (by decide) (by decide) (by decide) (by decide) (by decide) rfl rfl (by rw [e4]; omega) (by rw [e4]; omega)
  have hcA : cA = wv_A G 8 := wv_Kt X.K (k := 8) (ty := .array .boolean) rfl (fun h => h) hfA
  have hcB : comp = wv_A G 2 := wv_Kt X.K (k := 2) (ty := .boolean) rfl (fun h => h) hfC
  subst hcA
  subst hcB
  rw [e4] at X1 step
  generalize hV : Jvm.Free.Multi.fill (T.setVm vm₁) (wv_A G 8) (wv_A G 2) 4 4 (defaultValue .boolean) 4 = V at X1 step
  obtain ⟨f1, f2, -, -⟩ := Jvm.Free.Multi.fill_facts (T.setVm vm₁) (wv_A G 8) (wv_A G 2) 4 4 (defaultValue .boolean) 4
  have f3 := fun (q : Nat) (hq : q < (T.setVm vm₁).heap.size) => Jvm.Free.Multi.fill_old (T.setVm vm₁) (wv_A G 8) (wv_A G 2) 4 4 (defaultValue .boolean) hq 4
  have f4 := fun (j : Nat) (hj : j < 4) => Jvm.Free.Multi.fill_inner (T.setVm vm₁) (wv_A G 8) (wv_A G 2) 4 4 (defaultValue .boolean) 4 j hj
  rw [hV] at f1 f2 f3 f4
  have hh : (T.setVm vm₁).heap = H := hT
  rw [hh] at f1 f2 f3 f4
  have f2' : V.heap[H.size]? = some (vp_cell (wv_A G 8) (4, .inr (.inr (.inr (.inr (fun j => some (H.size + 1 + j))))))) := f2
  have f4' : ∀ j : Nat, j < 4 → V.heap[H.size + 1 + j]? = some (vp_cell (wv_A G 2) (4, .inl (fun _ => 0))) := f4
  have hTs : T.heap.size = H.size := by rw [hT]
  obtain ⟨t9, b1, b2⟩ := kk H.size (wv_up44 G w.1 H.size t, w.2.1 - 5, w.2.2 - 20) V.heap locs (cells + 1 + 4) (slots + 4 + 4 * 4) ⟨S.1.ext (by omega) f3 (fun b hb => by
      show (if b = H.size then _ else if H.size < b ∧ b ≤ H.size + 4 then _ else w.1 b) = w.1 b
      rw [if_neg (by omega), if_neg (by omega)]) (fun b x o hb hq => by
      have hq : (if b = H.size then some (t, wo_q (wv_A G 8) 4 (fun j => some (H.size + 1 + j))) else if H.size < b ∧ b ≤ H.size + 4 then some (t, wo_i (wv_A G 2) 4 (fun _ => 0)) else w.1 b) = some (x, o) := hq
      by_cases h1 : b = H.size
      · rw [if_pos h1] at hq
        cases hq
        subst h1
        exact ⟨Or.inl ⟨_, rfl, f2'⟩, wv_free.cell f2'⟩
      · rw [if_neg h1] at hq
        by_cases h2 : H.size < b ∧ b ≤ H.size + 4
        · rw [if_pos h2] at hq
          cases hq
          have h3 := f4' (b - (H.size + 1)) (by omega)
          rw [show H.size + 1 + (b - (H.size + 1)) = b by omega] at h3
          exact ⟨Or.inl ⟨_, rfl, h3⟩, wv_free.cell h3⟩
        · rw [if_neg h2] at hq
          exact absurd (S.1.lt hq) (by omega)), S.2.1, by show cells + 1 + 4 + (w.2.1 - 5) = _; omega, by show slots + 4 + 4 * 4 + (w.2.2 - 20) = _; omega, by show s.heap.size ≤ V.heap.size; omega⟩ hK V rfl X1
  rw [hTs] at step
  exact ⟨t9, step t9 b1, b2⟩
theorem wq_mmax (X : wv_ok G p R s m args meth c fr own cc nL ret nm tb) (S : wv_S G R s w H locs cells slots) {x y : Int32} {index : Nat} {K : Prop} (hv : 1 ≤ fr ∧ K) (hlink : Cond.methodLink own index ⟨"java/lang/Math", "max", "(II)I"⟩ ∈ lw_all) (hW : (rest.map fun v => v.category).sum ≤ 8) (hls : ls.size = nL) (hdg : decode cc pc = .ok (.invokestatic index, 3)) (kk : K → W p G.1 e R s m args below meth c H locs cells slots Q (F0 m (pc + 3) ls (.int (if x < y then y else x) :: rest))) : W p G.1 e R s m args below meth c H locs cells slots Q (F0 m pc ls (.int y :: .int x :: rest)) := by
  have hlo := X.hlo
  have hff := X.hfr
  have g1 := S.2.2.1
  have g2 := S.2.2.2.1
  obtain ⟨h1, hK⟩ := hv
  have hcd : Cond.code Lib.Math.max.name Lib.Math.max.code 2 (some .int) ∈ lw_all := by
    have h9 := q484
    have e9 : Lib.Math.max.code = cJ13_max := by decide +kernel
    rw [e9]
    exact h9
  exact va_mmax X.hx X.hb (by rw [X.hml]; exact hls.symm) X.hown (X.hts _ hlink) (X.hts _ q483) (X.hts _ q79) (X.hts _ hcd) (by omega) (by omega) (by omega) (by omega) hdg (kk hK)
theorem wq_mmin (X : wv_ok G p R s m args meth c fr own cc nL ret nm tb) (S : wv_S G R s w H locs cells slots) {x y : Int32} {index : Nat} {K : Prop} (hv : 1 ≤ fr ∧ K) (hlink : Cond.methodLink own index ⟨"java/lang/Math", "min", "(II)I"⟩ ∈ lw_all) (hW : (rest.map fun v => v.category).sum ≤ 8) (hls : ls.size = nL) (hdg : decode cc pc = .ok (.invokestatic index, 3)) (kk : K → W p G.1 e R s m args below meth c H locs cells slots Q (F0 m (pc + 3) ls (.int (if y < x then y else x) :: rest))) : W p G.1 e R s m args below meth c H locs cells slots Q (F0 m pc ls (.int y :: .int x :: rest)) := by
  have hlo := X.hlo
  have hff := X.hfr
  have g1 := S.2.2.1
  have g2 := S.2.2.2.1
  obtain ⟨h1, hK⟩ := hv
  have hcd : Cond.code Lib.Math.min.name Lib.Math.min.code 2 (some .int) ∈ lw_all := by
    have h9 := q502
    have e9 : Lib.Math.min.code = cJ13_min := by decide +kernel
    rw [e9]
    exact h9
  exact va_mmin X.hx X.hb (by rw [X.hml]; exact hls.symm) X.hown (X.hts _ hlink) (X.hts _ q501) (X.hts _ q79) (X.hts _ hcd) (by omega) (by omega) (by omega) (by omega) hdg (kk hK)
end WV15
