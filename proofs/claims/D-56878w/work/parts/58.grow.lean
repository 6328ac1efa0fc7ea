/-! THE COMPONENT: its picture grows: classes, steps, patterns, advice -/
section ZJ
variable {G : wv_G} {A A' : zA} {σ : zS} {h h1 h2 h' : wv_H} {w : wv_W} {fr fr' kc ks : Nat} {P : wv_R → wv_H → Prop} {KX : String → Nat → wv_W → Prop} {a : Nat} {t : wv_T} {f g : Nat → Nat → Nat}
-- ===== the picture's clauses =====
def zcl (A : zA) (σ : zS) (h : wv_H) (k : Nat) : Prop := h (A 4 k 0) = some ((4, k, 0, 0), wo_o ciX6 [.int (nI k), va_rf ((zpar σ k).map (fun p => A 4 p 0)), va_rf (some (A 5 k 0)), va_rf (some (A 6 k 0))]) ∧
    zL h (A 5 k 0) (5, k, 0, 0) ((List.range 6).map (fun m => A 7 k m)) ∧ zL h (A 6 k 0) (6, k, 0, 0) ((List.range 6).map (fun m => A 58 k m)) ∧
    ∀ m, m < 6 → zL h (A 7 k m) (7, k, m, 0) ((List.range (zbody σ k m).length).map (fun i => A 8 (k * 6 + m) i)) ∧ ∀ i st, (zbody σ k m)[i]? = some st → h (A 8 (k * 6 + m) i) = some ((8, k, m, i), wo_o ciX7 [.int st.1, .int st.2.1, .int st.2.2])
def zcp (A : zA) (h : wv_H) (n : Nat) (p : zPt) : Prop := h (A 11 n 0) = some ((11, n, 0, 0), wo_o ciX18 [va_rf (some (A 12 n 0)), .int (nI (2 ^ n))]) ∧ h (A 12 n 0) = some ((12, n, 0, 0), zin A p)
def zca (A : zA) (h : wv_H) (n : Nat) (a : zAd) : Prop := h (A 14 n 0) = some ((14, n, 0, 0), wo_o ciX19 [.int (nI n), .int (nI a.1), .int a.2.1, va_rf (some (A 11 a.2.2.1 0)), .int a.2.2.2.1, .int (nI a.2.2.2.2.1), .int (zbI a.2.2.2.2.2)])
def zch (G : wv_G) (A : zA) (σ : zS) (h : wv_H) : Prop := h (A 15 0 0) = some ((15, 0, 0, 0), wo_q (wv_A G 8) 4 (fun j => some (A 15 0 0 + 1 + j))) ∧ ∀ i, i < 4 → ∃ f, h (A 15 0 0 + 1 + i) = some ((15, 0, 0, 0), wo_i (wv_A G 2) 4 f) ∧ ∀ j, j < 4 → f j = zbI (σ.2.2.2 i j)
def zcx (A : zA) (h : wv_H) : Prop := h (A 2 0 0) = some ((2, 0, 0, 0), wo_o ciX1 [va_rf (some (A 3 0 0)), va_rf (some (A 10 0 0)), va_rf (some (A 13 0 0)), va_rf (some (A 15 0 0)), va_rf (some (A 51 0 0)), va_rf (some (A 51 1 0)), va_rf (some (A 51 2 0))])
theorem zCf.mk (c1 : zcx A h) (c2 : zL h (A 3 0 0) (3, 0, 0, 0) ((List.range (zn σ)).map (fun k => A 4 k 0))) (c3 : ∀ k, k < zn σ → zcl A σ h k) (c4 : zL h (A 10 0 0) (10, 0, 0, 0) ((List.range σ.2.1.length).map (fun n => A 11 n 0))) (c5 : ∀ n p, σ.2.1[n]? = some p → zcp A h n p)
    (c6 : zL h (A 13 0 0) (13, 0, 0, 0) ((List.range σ.2.2.1.length).map (fun n => A 14 n 0))) (c7 : ∀ n a, σ.2.2.1[n]? = some a → zca A h n a) (c8 : zch G A σ h) : zCf G A σ h := ⟨c1, c2, c3, c4, c5, c6, c7, c8.1, c8.2⟩
theorem zCf.cx (C : zCf G A σ h) : zcx A h := C.comp
theorem zCf.cl (C : zCf G A σ h) {k : Nat} (hk : k < zn σ) : zcl A σ h k := C.2.2.1 k hk
theorem zCf.cp (C : zCf G A σ h) {n : Nat} {p : zPt} (hn : σ.2.1[n]? = some p) : zcp A h n p := C.2.2.2.2.1 n p hn
theorem zCf.ca (C : zCf G A σ h) {n : Nat} {a : zAd} (hn : σ.2.2.1[n]? = some a) : zca A h n a := C.2.2.2.2.2.2.1 n a hn
theorem zCf.ch (C : zCf G A σ h) : zch G A σ h := ⟨C.ahead, fun _ hi => C.row hi⟩
theorem zkeyS {S : Nat → wv_T → Prop} {r : Nat} (k : kp S h h1) (hS : ∀ a t, S a t → t.1 ≠ r) {a : Nat} {t : wv_T} {o : wv_O} (ht : t.1 = r) (ha : h a = some (t, o)) : h1 a = some (t, o) := k a (t, o) ha (fun q => hS a t q ht)
theorem zcx.keep {S : Nat → wv_T → Prop} (c : zcx A h) (k : kp S h h1) (hS : ∀ a t, S a t → t.1 ≠ 2) : zcx A h1 := zkeyS k hS rfl c
theorem zcl.keep {S : Nat → wv_T → Prop} {q : Nat} (c : zcl A σ h q) (k : kp S h h1) (hS : ∀ a t, S a t → t.1 ≠ 4 ∧ t.1 ≠ 5 ∧ t.1 ≠ 6 ∧ t.1 ≠ 7 ∧ t.1 ≠ 8) : zcl A σ h1 q := by
  obtain ⟨c1, c2, c3, c4⟩ := c
  exact ⟨zkeyS k (fun a t e => (hS a t e).1) rfl c1, c2.keep k (fun e => (hS _ _ e).2.1 rfl), c3.keep k (fun e => (hS _ _ e).2.2.1 rfl), fun m hm => ⟨(c4 m hm).1.keep k (fun e => (hS _ _ e).2.2.2.1 rfl), fun i st hi => zkeyS k (fun a t e => (hS a t e).2.2.2.2) rfl ((c4 m hm).2 i st hi)⟩⟩
theorem zcp.keep {S : Nat → wv_T → Prop} {n : Nat} {p : zPt} (c : zcp A h n p) (k : kp S h h1) (hS : ∀ a t, S a t → t.1 ≠ 11 ∧ t.1 ≠ 12) : zcp A h1 n p := ⟨zkeyS k (fun a t e => (hS a t e).1) rfl c.1, zkeyS k (fun a t e => (hS a t e).2) rfl c.2⟩
theorem zca.keep {S : Nat → wv_T → Prop} {n : Nat} {x : zAd} (c : zca A h n x) (k : kp S h h1) (hS : ∀ a t, S a t → t.1 ≠ 14) : zca A h1 n x := zkeyS k hS rfl c
theorem zch.keep {S : Nat → wv_T → Prop} (c : zch G A σ h) (k : kp S h h1) (hS : ∀ a t, S a t → t.1 ≠ 15) : zch G A σ h1 := ⟨zkeyS k hS rfl c.1, fun i hi => by
  obtain ⟨f, e1, e2⟩ := c.2 i hi
  exact ⟨f, zkeyS k hS rfl e1, e2⟩⟩
/-- other addresses where nothing lies -/
def zval (σ : zS) (r i j : Nat) : Prop := (r = 4 ∨ r = 5 ∨ r = 6 ∨ r = 7 ∨ r = 58 → i < zn σ) ∧ (r = 8 → j < (zbody σ (i / 6) (i % 6)).length) ∧ (r = 11 ∨ r = 12 → i < σ.2.1.length) ∧ (r = 14 → i < σ.2.2.1.length)
theorem zmapR {f g : Nat → Nat} {n : Nat} (e : ∀ i, i < n → f i = g i) : (List.range n).map f = (List.range n).map g := List.map_congr_left (fun i hi => e i (List.mem_range.mp hi))
theorem zin_congr {p : zPt} {n : Nat} (hn : n ≤ 24) (ok : zptOk n p) (h2 : A' 2 0 0 = A 2 0 0) (e : ∀ i, i < n → A' 11 i 0 = A 11 i 0) : zin A' p = zin A p := by
  rcases ok with h | ⟨k, a, ha, ea⟩ | ⟨k, ⟨a, ha, ea⟩, b, hb, eb⟩
  · rcases h with h | h | h | h | h | h | h | h | h | h <;> simp [zin, h, h2]
  · have e1 : zAt p.2.1 = a := by rw [ea]; exact zAt_nI (by omega)
    rcases k with k | k <;> simp [zin, k, e1, e a ha]
  · have e1 : zAt p.2.1 = a := by rw [ea]; exact zAt_nI (by omega)
    have e2 : zAt p.2.2 = b := by rw [eb]; exact zAt_nI (by omega)
    rcases k with k | k <;> simp [zin, k, e1, e2, e a ha, e b hb]
theorem zval_o {r i j : Nat} (hr : r = 2 ∨ r = 3 ∨ r = 10 ∨ r = 13 ∨ r = 15 ∨ r = 51) : zval σ r i j := by
  refine ⟨fun q => ?_, fun q => ?_, fun q => ?_, fun q => ?_⟩ <;> omega
theorem zval_c {r i j : Nat} (hr : r = 4 ∨ r = 5 ∨ r = 6 ∨ r = 7 ∨ r = 58) (hi : i < zn σ) : zval σ r i j := by
  refine ⟨fun _ => hi, fun q => ?_, fun q => ?_, fun q => ?_⟩ <;> omega
theorem zval_s {k m j : Nat} (hm : m < 6) (hj : j < (zbody σ k m).length) : zval σ 8 (k * 6 + m) j := by
  refine ⟨fun q => by omega, fun _ => ?_, fun q => by omega, fun q => by omega⟩
  rw [show (k * 6 + m) / 6 = k by omega, show (k * 6 + m) % 6 = m by omega]
  exact hj
theorem zval_p {r i j : Nat} (hr : r = 11 ∨ r = 12) (hi : i < σ.2.1.length) : zval σ r i j := by
  refine ⟨fun q => ?_, fun q => ?_, fun _ => hi, fun q => ?_⟩ <;> omega
theorem zval_a {i j : Nat} (hi : i < σ.2.2.1.length) : zval σ 14 i j := by
  refine ⟨fun q => ?_, fun q => ?_, fun q => ?_, fun _ => hi⟩ <;> omega
theorem zcl.congrA (hw : zwf σ) {k : Nat} (hk : k < zn σ) (e : ∀ r i j, zval σ r i j → A' r i j = A r i j) (c : zcl A σ h k) : zcl A' σ h k := by
  obtain ⟨c1, c2, c3, c4⟩ := c
  have e4 : ∀ i, i < zn σ → A' 4 i 0 = A 4 i 0 := fun i hi => e _ _ _ (zval_c (by omega) hi)
  have ep : (zpar σ k).map (fun p => A' 4 p 0) = (zpar σ k).map (fun p => A 4 p 0) := by
    cases hp : zpar σ k with
    | none => rfl
    | some p =>
      have := zpar_lt hw hp
      show some (A' 4 p 0) = some (A 4 p 0)
      rw [e4 p (by omega)]
  refine ⟨?_, ?_, ?_, fun m hm => ⟨?_, fun i st hi => ?_⟩⟩
  · rw [e4 k hk, ep, e 5 k 0 (zval_c (by omega) hk), e 6 k 0 (zval_c (by omega) hk)]
    exact c1
  · rw [e 5 k 0 (zval_c (by omega) hk), zmapR (g := fun m => A 7 k m) (fun i _ => e 7 k i (zval_c (by omega) hk))]
    exact c2
  · rw [e 6 k 0 (zval_c (by omega) hk), zmapR (g := fun m => A 58 k m) (fun i _ => e 58 k i (zval_c (by omega) hk))]
    exact c3
  · rw [e 7 k m (zval_c (by omega) hk), zmapR (g := fun i => A 8 (k * 6 + m) i) (fun i hi => e 8 _ i (zval_s hm hi))]
    exact (c4 m hm).1
  · rw [e 8 _ i (zval_s hm (List.getElem?_eq_some_iff.mp hi).1)]
    exact (c4 m hm).2 i st hi
theorem zcp.congrA (hw : zwf σ) {n : Nat} {p : zPt} (hn : σ.2.1[n]? = some p) (e : ∀ r i j, zval σ r i j → A' r i j = A r i j) (c : zcp A h n p) : zcp A' h n p := by
  have hl := (List.getElem?_eq_some_iff.mp hn).1
  have h24 := hw.2.2.1
  unfold zcp
  rw [e 11 n 0 (zval_p (by omega) hl), e 12 n 0 (zval_p (by omega) hl), zin_congr (n := n) (by omega) (hw.2.2.2.1 n p hn) (e 2 0 0 (zval_o (by omega))) (fun i hi => e 11 i 0 (zval_p (by omega) (by omega)))]
  exact c
theorem zca.congrA (hw : zwf σ) {n : Nat} {x : zAd} (hn : σ.2.2.1[n]? = some x) (e : ∀ r i j, zval σ r i j → A' r i j = A r i j) (c : zca A h n x) : zca A' h n x := by
  have hl := (List.getElem?_eq_some_iff.mp hn).1
  have hok := hw.2.2.2.2.2.1 x (List.mem_of_getElem? hn)
  unfold zca
  rw [e 14 n 0 (zval_a hl), e 11 _ 0 (zval_p (by omega) hok.2.2.1)]
  exact c
theorem zcx.congrA (e : ∀ r i j, zval σ r i j → A' r i j = A r i j) (c : zcx A h) : zcx A' h := by
  unfold zcx
  rw [e 2 0 0 (zval_o (by omega)), e 3 0 0 (zval_o (by omega)), e 10 0 0 (zval_o (by omega)), e 13 0 0 (zval_o (by omega)), e 15 0 0 (zval_o (by omega)), e 51 0 0 (zval_o (by omega)), e 51 1 0 (zval_o (by omega)), e 51 2 0 (zval_o (by omega))]
  exact c
theorem zCf.congrA (hw : zwf σ) (e : ∀ r i j, zval σ r i j → A' r i j = A r i j) (C : zCf G A σ h) : zCf G A' σ h := by
  refine zCf.mk (C.cx.congrA e) ?_ (fun k hk => (C.cl hk).congrA hw hk e) ?_ (fun n p hn => (C.cp hn).congrA hw hn e) ?_ (fun n x hn => (C.ca hn).congrA hw hn e) ?_
  · rw [e 3 0 0 (zval_o (by omega)), zmapR (g := fun k => A 4 k 0) (fun i hi => e 4 i 0 (zval_c (by omega) hi))]
    exact C.types
  · rw [e 10 0 0 (zval_o (by omega)), zmapR (g := fun k => A 11 k 0) (fun i hi => e 11 i 0 (zval_p (by omega) hi))]
    exact C.pats
  · rw [e 13 0 0 (zval_o (by omega)), zmapR (g := fun k => A 14 k 0) (fun i hi => e 14 i 0 (zval_a hi))]
    exact C.advs
  · unfold zch
    rw [e 15 0 0 (zval_o (by omega))]
    exact C.ch
theorem zPl0.congrA {n : Nat} {D : Nat → Nat → Prop} (e : ∀ k m, k < n → A' 58 k m = A 58 k m) (L : zPl0 A n h D) : zPl0 A' n h D := by
  intro k m hk hm
  rw [e k m hk]
  exact L k m hk hm
theorem zPl0.keep {n : Nat} {D : Nat → Nat → Prop} {S : Nat → wv_T → Prop} (L : zPl0 A n h D) (k : kp S h h1) (hS : ∀ a t, S a t → t.1 ≠ 58) : zPl0 A n h1 D := by
  intro q m hk hm
  obtain ⟨xs, l1, l2⟩ := L q m hk hm
  exact ⟨xs, l1.keep k (fun e => hS _ _ e rfl), l2⟩
-- ===== a body is another =====
def zset (σ : zS) (k m : Nat) (b : List zSt) : zS := (σ.1.modify k (fun c => (c.1, fun q => if q = m then b else c.2 q)), σ.2)
theorem zset_n (σ : zS) (k m : Nat) (b : List zSt) : zn (zset σ k m b) = zn σ := List.length_modify _ _ _
theorem zset_get (σ : zS) (k m : Nat) (b : List zSt) (j : Nat) : (zset σ k m b).1[j]? = (σ.1[j]?).map (fun c => if j = k then (c.1, fun q => if q = m then b else c.2 q) else c) := by
  show (σ.1.modify k _)[j]? = _
  rw [List.getElem?_modify]
  by_cases e : k = j
  · subst e
    simp
  · have e2 : ¬ j = k := fun q => e q.symm
    simp [e, e2]
theorem zset_par (σ : zS) (k m : Nat) (b : List zSt) (j : Nat) : zpar (zset σ k m b) j = zpar σ j := by
  unfold zpar
  rw [zset_get]
  cases σ.1[j]? with
  | none => rfl
  | some c =>
    show (if j = k then (c.1, fun q => if q = m then b else c.2 q) else c).1 = c.1
    split <;> rfl
theorem zset_body (σ : zS) {k : Nat} (hk : k < zn σ) (m : Nat) (b : List zSt) (j q : Nat) : zbody (zset σ k m b) j q = if j = k ∧ q = m then b else zbody σ j q := by
  unfold zbody
  rw [zset_get]
  cases hc : σ.1[j]? with
  | none =>
    rw [if_neg]
    · rfl
    · rintro ⟨rfl, -⟩
      rw [List.getElem?_eq_getElem hk] at hc
      cases hc
  | some c =>
    by_cases e : j = k
    · by_cases e2 : q = m
      · simp [e, e2]
      · simp [e, e2]
    · simp [e]
theorem zset_wf (hw : zwf σ) {k m : Nat} {b : List zSt} (hl : b.length ≤ 8) (hb : ∀ st ∈ b, zstOk (zn σ) st) : zwf (zset σ k m b) := by
  obtain ⟨w1, w2, w3⟩ := hw
  refine ⟨by rw [zset_n]; exact w1, fun j c hc => ?_, w3⟩
  rw [zset_get] at hc
  cases hj : σ.1[j]? with
  | none => rw [hj] at hc; cases hc
  | some d =>
    rw [hj] at hc
    have hc : (if j = k then (d.1, fun q => if q = m then b else d.2 q) else d) = c := by injection hc
    obtain ⟨v1, v2⟩ := w2 j d hj
    rw [zset_n]
    by_cases e : j = k
    · rw [if_pos e] at hc
      subst hc
      refine ⟨v1, fun q hq => ?_⟩
      show (if q = m then b else d.2 q).length ≤ 8 ∧ ∀ st ∈ (if q = m then b else d.2 q), _
      by_cases e2 : q = m
      · rw [if_pos e2]
        exact ⟨hl, hb⟩
      · rw [if_neg e2]
        exact v2 q hq
    · rw [if_neg e] at hc
      subst hc
      exact ⟨v1, v2⟩
/-- a body's list written -/
theorem zCf.setB (C : zCf G A σ h) {k m : Nat} {b : List zSt} (hk : k < zn σ) (hm : m < 6) (kk : kp (fun _ t => t = (7, k, m, 0)) h h1) (h7 : zL h1 (A 7 k m) (7, k, m, 0) ((List.range b.length).map (fun i => A 8 (k * 6 + m) i))) (h8 : ∀ i st, b[i]? = some st → h1 (A 8 (k * 6 + m) i) = some ((8, k, m, i), wo_o ciX7 [.int st.1, .int st.2.1, .int st.2.2])) : zCf G A (zset σ k m b) h1 := by
  have hS : ∀ (r : Nat), r ≠ 7 → ∀ (a : Nat) (t : wv_T), t = (7, k, m, 0) → t.1 ≠ r := fun r hr a t e => by rw [e]; exact fun q => hr q.symm
  refine zCf.mk (C.cx.keep kk (hS 2 (by decide))) ?_ (fun j hj => ?_) (C.pats.keep kk (fun q => by cases q)) (fun n p hn => (C.cp hn).keep kk (fun a t e => ⟨hS 11 (by decide) a t e, hS 12 (by decide) a t e⟩)) (C.advs.keep kk (fun q => by cases q)) (fun n x hn => (C.ca hn).keep kk (hS 14 (by decide))) (C.ch.keep kk (hS 15 (by decide)))
  · rw [zset_n]
    exact C.types.keep kk (fun q => by cases q)
  · rw [zset_n] at hj
    obtain ⟨d1, d2, d3, d4⟩ := C.cl hj
    refine ⟨?_, d2.keep kk (fun q => by cases q), d3.keep kk (fun q => by cases q), fun q hq => ?_⟩
    · rw [zset_par]
      exact zkeyS kk (hS 4 (by decide)) rfl d1
    · rw [zset_body σ hk]
      by_cases e : j = k ∧ q = m
      · obtain ⟨rfl, rfl⟩ := e
        rw [if_pos ⟨rfl, rfl⟩]
        exact ⟨h7, h8⟩
      · rw [if_neg e]
        refine ⟨(d4 q hq).1.keep kk (fun x => ?_), fun i st hi => zkeyS kk (hS 8 (by decide)) rfl ((d4 q hq).2 i st hi)⟩
        injection x with _ x
        injection x with x1 x
        injection x with x2 _
        exact e ⟨x1, x2⟩
-- ===== one class more =====
def zaddC (σ : zS) (p : Option Nat) : zS := (σ.1 ++ [(p, fun _ => [])], σ.2)
theorem zaddC_n (σ : zS) (p : Option Nat) : zn (zaddC σ p) = zn σ + 1 := by
  show (σ.1 ++ _).length = _
  rw [List.length_append]
  rfl
theorem zaddC_get (σ : zS) (p : Option Nat) {j : Nat} (hj : j < zn σ) : (zaddC σ p).1[j]? = σ.1[j]? := List.getElem?_append_left hj
theorem zaddC_get2 (σ : zS) (p : Option Nat) : (zaddC σ p).1[zn σ]? = some (p, fun _ => []) := by
  show (σ.1 ++ _)[σ.1.length]? = _
  rw [List.getElem?_append_right (Nat.le_refl _), Nat.sub_self]
  rfl
theorem zaddC_wf (hw : zwf σ) {p : Option Nat} (hn : zn σ < 6) (hp : ∀ q, p = some q → q < zn σ) : zwf (zaddC σ p) := by
  obtain ⟨w1, w2, w3⟩ := hw
  refine ⟨by rw [zaddC_n]; omega, fun j c hc => ?_, w3⟩
  have mono : ∀ st, zstOk (zn σ) st → zstOk (zn (zaddC σ p)) st := by
    intro st hst
    rcases hst with e | e | ⟨e, ⟨q, hq, eq⟩, e2⟩ | e
    · exact Or.inl e
    · exact Or.inr (Or.inl e)
    · exact Or.inr (Or.inr (Or.inl ⟨e, ⟨q, by rw [zaddC_n]; omega, eq⟩, e2⟩))
    · exact Or.inr (Or.inr (Or.inr e))
  rcases Nat.lt_or_ge j (zn σ) with hj | hj
  · rw [zaddC_get σ p hj] at hc
    obtain ⟨v1, v2⟩ := w2 j c hc
    exact ⟨v1, fun m hm => ⟨(v2 m hm).1, fun st hs => mono st ((v2 m hm).2 st hs)⟩⟩
  · have hj2 := (List.getElem?_eq_some_iff.mp hc).1
    have hj3 : j < zn (zaddC σ p) := hj2
    rw [zaddC_n] at hj3
    have e : j = zn σ := by omega
    subst e
    rw [zaddC_get2] at hc
    cases hc
    exact ⟨hp, fun m hm => ⟨Nat.zero_le _, fun st hs => by cases hs⟩⟩
theorem zCf.addC (C : zCf G A σ h) {p : Option Nat} (kk : kp (fun _ t => t = (3, 0, 0, 0)) h h1) (h3 : zL h1 (A 3 0 0) (3, 0, 0, 0) ((List.range (zn σ)).map (fun k => A 4 k 0) ++ [A 4 (zn σ) 0])) (hn : zcl A (zaddC σ p) h1 (zn σ)) : zCf G A (zaddC σ p) h1 := by
  have hS : ∀ (r : Nat), r ≠ 3 → ∀ (a : Nat) (t : wv_T), t = (3, 0, 0, 0) → t.1 ≠ r := fun r hr a t e => by rw [e]; exact fun q => hr q.symm
  refine zCf.mk (C.cx.keep kk (hS 2 (by decide))) ?_ (fun j hj => ?_) (C.pats.keep kk (fun q => by cases q)) (fun n p hn => (C.cp hn).keep kk (fun a t e => ⟨hS 11 (by decide) a t e, hS 12 (by decide) a t e⟩)) (C.advs.keep kk (fun q => by cases q)) (fun n x hn => (C.ca hn).keep kk (hS 14 (by decide))) (C.ch.keep kk (hS 15 (by decide)))
  · rw [zaddC_n, List.range_succ, List.map_append]
    exact h3
  · rw [zaddC_n] at hj
    rcases Nat.lt_or_ge j (zn σ) with hlt | hge
    · have c := (C.cl hlt).keep kk (fun a t e => ⟨hS 4 (by decide) a t e, hS 5 (by decide) a t e, hS 6 (by decide) a t e, hS 7 (by decide) a t e, hS 8 (by decide) a t e⟩)
      have e1 : zpar (zaddC σ p) j = zpar σ j := by unfold zpar; rw [zaddC_get σ p hlt]
      have e2 : ∀ m, zbody (zaddC σ p) j m = zbody σ j m := by intro m; unfold zbody; rw [zaddC_get σ p hlt]
      unfold zcl at c ⊢
      simp only [e1, e2]
      exact c
    · have e : j = zn σ := by omega
      subst e
      exact hn
-- ===== one pattern more, one advice more =====
def zaddP (σ : zS) (p : zPt) : zS := (σ.1, σ.2.1 ++ [p], σ.2.2)
def zaddA (σ : zS) (x : zAd) : zS := (σ.1, σ.2.1, σ.2.2.1 ++ [x], σ.2.2.2)
theorem z_app {α : Type} {l : List α} {x y : α} {n : Nat} (hn : (l ++ [x])[n]? = some y) : l[n]? = some y ∨ n = l.length ∧ y = x := by
  rcases Nat.lt_or_ge n l.length with hlt | hge
  · rw [List.getElem?_append_left hlt] at hn
    exact Or.inl hn
  · have h2 := (List.getElem?_eq_some_iff.mp hn).1
    rw [List.length_append] at h2
    have h3 : n < l.length + 1 := h2
    have e : n = l.length := by omega
    subst e
    rw [List.getElem?_append_right (Nat.le_refl _), Nat.sub_self] at hn
    exact Or.inr ⟨rfl, (Option.some.inj hn).symm⟩
theorem zaddP_wf (hw : zwf σ) {p : zPt} (hn : σ.2.1.length < 24) (hp : zptOk σ.2.1.length p) : zwf (zaddP σ p) := by
  obtain ⟨w1, w2, w3, w4, w5, w6, w7⟩ := hw
  refine ⟨w1, w2, ?_, fun n q hq => ?_, w5, fun x hx => ?_, w7⟩
  · show (σ.2.1 ++ [p]).length ≤ 24
    rw [List.length_append]
    exact hn
  · rcases z_app hq with hq | ⟨rfl, rfl⟩
    · exact w4 n q hq
    · exact hp
  · obtain ⟨v1, v2, v3, v4⟩ := w6 x hx
    refine ⟨v1, v2, ?_, v4⟩
    show _ < (σ.2.1 ++ [p]).length
    rw [List.length_append]
    exact Nat.lt_succ_of_lt v3
theorem zaddA_wf (hw : zwf σ) {x : zAd} (hn : σ.2.2.1.length < 12) (hx : zadOk σ.2.1.length x) : zwf (zaddA σ x) := by
  obtain ⟨w1, w2, w3, w4, w5, w6, w7⟩ := hw
  refine ⟨w1, w2, w3, w4, ?_, fun y hy => ?_, w7⟩
  · show (σ.2.2.1 ++ [x]).length ≤ 12
    rw [List.length_append]
    exact hn
  · rcases List.mem_append.mp hy with hy | hy
    · exact w6 y hy
    · rw [List.mem_singleton] at hy
      subst hy
      exact hx
theorem zCf.addP (C : zCf G A σ h) {p : zPt} (kk : kp (fun _ t => t = (10, 0, 0, 0)) h h1) (h3 : zL h1 (A 10 0 0) (10, 0, 0, 0) ((List.range σ.2.1.length).map (fun k => A 11 k 0) ++ [A 11 σ.2.1.length 0])) (hn : zcp A h1 σ.2.1.length p) : zCf G A (zaddP σ p) h1 := by
  have hS : ∀ (r : Nat), r ≠ 10 → ∀ (a : Nat) (t : wv_T), t = (10, 0, 0, 0) → t.1 ≠ r := fun r hr a t e => by rw [e]; exact fun q => hr q.symm
  refine zCf.mk (C.cx.keep kk (hS 2 (by decide))) (C.types.keep kk (fun q => by cases q)) (fun j hj => (C.cl (σ := σ) hj).keep kk (fun a t e => ⟨hS 4 (by decide) a t e, hS 5 (by decide) a t e, hS 6 (by decide) a t e, hS 7 (by decide) a t e, hS 8 (by decide) a t e⟩)) ?_ (fun n q hq => ?_) (C.advs.keep kk (fun q => by cases q)) (fun n x hn => (C.ca hn).keep kk (hS 14 (by decide))) (C.ch.keep kk (hS 15 (by decide)))
  · show zL h1 (A 10 0 0) (10, 0, 0, 0) ((List.range (σ.2.1 ++ [p]).length).map (fun n => A 11 n 0))
    rw [List.length_append]
    show zL h1 (A 10 0 0) (10, 0, 0, 0) ((List.range (σ.2.1.length + 1)).map (fun n => A 11 n 0))
    rw [List.range_succ, List.map_append]
    exact h3
  · rcases z_app hq with hq | ⟨rfl, rfl⟩
    · exact (C.cp hq).keep kk (fun a t e => ⟨hS 11 (by decide) a t e, hS 12 (by decide) a t e⟩)
    · exact hn
theorem zCf.addA (C : zCf G A σ h) {x : zAd} (kk : kp (fun _ t => t = (13, 0, 0, 0)) h h1) (h3 : zL h1 (A 13 0 0) (13, 0, 0, 0) ((List.range σ.2.2.1.length).map (fun k => A 14 k 0) ++ [A 14 σ.2.2.1.length 0])) (hn : zca A h1 σ.2.2.1.length x) : zCf G A (zaddA σ x) h1 := by
  have hS : ∀ (r : Nat), r ≠ 13 → ∀ (a : Nat) (t : wv_T), t = (13, 0, 0, 0) → t.1 ≠ r := fun r hr a t e => by rw [e]; exact fun q => hr q.symm
  refine zCf.mk (C.cx.keep kk (hS 2 (by decide))) (C.types.keep kk (fun q => by cases q)) (fun j hj => (C.cl (σ := σ) hj).keep kk (fun a t e => ⟨hS 4 (by decide) a t e, hS 5 (by decide) a t e, hS 6 (by decide) a t e, hS 7 (by decide) a t e, hS 8 (by decide) a t e⟩)) (C.pats.keep kk (fun q => by cases q)) (fun n p hn => (C.cp (σ := σ) hn).keep kk (fun a t e => ⟨hS 11 (by decide) a t e, hS 12 (by decide) a t e⟩)) ?_ (fun n q hq => ?_) (C.ch.keep kk (hS 15 (by decide)))
  · show zL h1 (A 13 0 0) (13, 0, 0, 0) ((List.range (σ.2.2.1 ++ [x]).length).map (fun n => A 14 n 0))
    rw [List.length_append]
    show zL h1 (A 13 0 0) (13, 0, 0, 0) ((List.range (σ.2.2.1.length + 1)).map (fun n => A 14 n 0))
    rw [List.range_succ, List.map_append]
    exact h3
  · rcases z_app hq with hq | ⟨rfl, rfl⟩
    · exact (C.ca hq).keep kk (hS 14 (by decide))
    · exact hn
end ZJ
