/-! THE COMPONENT: made, with its three runs -/
section ZXE
variable {G : wv_G} {A A' : zA} {σ σ' : zS} {h h0 h1 h2 h' : wv_H} {w : wv_W} {fr fr' kc ks : Nat} {P : wv_R → wv_H → Prop} {KX : String → Nat → wv_W → Prop} {a b c : Nat} {r : Nat} {t : wv_T}
/-- nothing told yet -/
def zS0 : zS := ([], [], [], fun _ _ => false)
theorem zS0_wf : zwf zS0 := ⟨zle, fun k c hc => (by cases hc), zle, fun n p hp => (by cases hp), zle, fun a ha => (by cases ha), fun j => rfl⟩
/-- a field of the component -/
theorem zput {fs : List Value} (hb : w.1 a = some ((2, 0, 0, 0), wo_o ciX1 fs)) {k : Nat} {v : Value} {K : wv_W → Prop} (hk : k < fs.length) (hK : ∀ h1, kp (zTo a) w.1 h1 → h1 a = some ((2, 0, 0, 0), wo_o ciX1 (fs.set k v)) → K (h1, w.2)) : wv_pt w (some a) ciX1 k v K := z_pt hb (Nat.succ_ne_zero _) hk (hK _ (kp.put hb rfl) wv_up_self)
/-- a list made -/
theorem zlst (hG : wv_G0 G) (t : wv_T) (ht : t.1 ≠ 0) {K : Nat → wv_W → Prop} (hf : 3 < fr) (hc : 1 ≤ w.2.1) (hs : 3 ≤ w.2.2) (hK : ∀ b h1, w.1 b = none → kp kn w.1 h1 → h1 b = some (t, wo_L 0 0 []) → K b (h1, w.2.1 - 1, w.2.2 - 3)) : wv_no G w (wo_o ciJ2 [.int 0, va_rf none, .int 0]) 3 (fun a5 w5 => wv_cI G fr yJ2_init (some a5) [] w5 (wv_rV (fun w9 => K a5 w9) KX)) :=
  z_no t hc hs (fun b hb _ => z_iV (z_listNew hG ht) hf (hK b _ hb (kp.new hb) wv_up_self))
/-- a run made -/
theorem zrun1 (hG : wv_G0 G) (r : Nat) {K : Nat → wv_W → Prop} (hf : 2 < fr) (hc : 6 ≤ w.2.1) (hs : 1225 ≤ w.2.2) (hK : ∀ b h1, w.1 b = none → kp kn w.1 h1 → (∃ x, zRx G r b c x h1) → K b (h1, w.2.1 - 1 - 5, w.2.2 - 9 - 1216)) : wv_no G w (wo_o ciX2 [va_rf none, va_rf none, .int 0, .int 0, .int 0, .int 0, .int 0, va_rf none, va_rf none]) 9 (fun a48 w48 => wv_cI G fr yX2_init (some a48) [va_rf (some c)] w48 (wv_rV (fun w53 => K a48 w53) KX)) := by
  refine z_no (51, r, 0, 0) (by omega) (by omega) (fun b hb _ => ⟨b, rfl, z_c (z2_init (r := r) (c := c) hG hb) hf (by show 5 ≤ w.2.1 - 1; omega) (by show 1216 ≤ w.2.2 - 9; omega) ?_⟩)
  rintro y h1 ⟨rfl, k1, x⟩
  exact Or.inl ⟨rfl, hK b h1 hb k1 x⟩
theorem zL.nil (hb : h b = some (t, wo_L 0 0 [])) : zL h b t [] := ⟨0, 0, Nat.zero_le _, hb⟩
theorem zrn_of {x : Nat × Nat × Nat × Nat × Nat} (R : zRx G r a c x h) (h51 : A 51 r 0 = a) (h2 : A 2 0 0 = c) (h52 : A 52 r 0 = x.1) (h53 : A 53 r 0 = x.2.1) (h54 : A 54 r 0 = x.2.2.1) (h55 : A 55 r 0 = x.2.2.2.1) (h56 : A 56 r 0 = x.2.2.2.2) : zRn G A r (45, 0, 0, 0, []) h := by
  obtain ⟨r1, r2, r3, r4, r5, r6⟩ := R
  subst h51
  subst h2
  rw [← h52, ← h56] at r1
  rw [← h52, ← h53, ← h54, ← h55] at r2
  rw [← h53] at r3
  rw [← h54] at r4
  rw [← h55] at r5
  rw [← h56] at r6
  exact ⟨⟨false, r1⟩, ⟨r2, Nat.zero_le _, fun y hy => (by cases hy), ⟨_, r3, fun i y hy => (by cases hy)⟩, ⟨_, r4, fun i y hy => (by cases hy)⟩, ⟨_, r5, fun i y hy => (by cases hy)⟩⟩, _, r6⟩
/-- the component as it is made -/
abbrev zBo (G : wv_G) (a : Nat) (h h' : wv_H) : Prop := ∃ A : zA, A 2 0 0 = a ∧ zCf G A zS0 h' ∧ zPls G A zS0 (fun _ _ => 0) h' ∧ (∀ r, r < 3 → zRn G A r (45, 0, 0, 0, []) h') ∧ kp kn h h'
theorem z1_init (hG : wv_G0 G) (ha : h a = none) : wv_C G yX1_init [.ref a] (wv_up h a ((2, 0, 0, 0), wo_o ciX1 [va_rf none, va_rf none, va_rf none, va_rf none, va_rf none, va_rf none, va_rf none])) 4 26 3704 (fun y h' => y = .inl none ∧ zBo G a h h') := by
  refine wk_X1_init (v0 := some a) hG ⟨⟨a, rfl⟩, by decide, ?_⟩
  have k0 : kp kn h (wv_up h a ((2, 0, 0, 0), wo_o ciX1 [va_rf none, va_rf none, va_rf none, va_rf none, va_rf none, va_rf none, va_rf none])) := kp.new ha
  have c0 : wv_up h a ((2, 0, 0, 0), wo_o ciX1 [va_rf none, va_rf none, va_rf none, va_rf none, va_rf none, va_rf none, va_rf none]) a = some ((2, 0, 0, 0), wo_o ciX1 [va_rf none, va_rf none, va_rf none, va_rf none, va_rf none, va_rf none, va_rf none]) := wv_up_self
  generalize wv_up h a ((2, 0, 0, 0), wo_o ciX1 [va_rf none, va_rf none, va_rf none, va_rf none, va_rf none, va_rf none, va_rf none]) = g0 at k0 c0 ⊢
  refine zlst hG (3, 0, 0, 0) (Nat.succ_ne_zero _) (by omega) (by show 1 ≤ 26; decide) (by show 3 ≤ 3704; decide) (fun p1 g1 f1 k1 d1 => ?_)
  have c1 := kn.at k1 c0
  refine zput c1 (by simp) (fun g2 k2 c2 => ?_)
  refine zlst hG (10, 0, 0, 0) (Nat.succ_ne_zero _) (by omega) (by show 1 ≤ 26 - 1; decide) (by show 3 ≤ 3704 - 3; decide) (fun p2 g3 f2 k3 d2 => ?_)
  have c3 := kn.at k3 c2
  refine zput c3 (by simp) (fun g4 k4 c4 => ?_)
  refine zlst hG (13, 0, 0, 0) (Nat.succ_ne_zero _) (by omega) (by show 1 ≤ 26 - 1 - 1; decide) (by show 3 ≤ 3704 - 3 - 3; decide) (fun p3 g5 f3 k5 d3 => ?_)
  have c5 := kn.at k5 c4
  refine zput c5 (by simp) (fun g6 k6 c6 => ?_)
  refine ⟨rfl, rfl, by show 5 ≤ 26 - 1 - 1 - 1; decide, by show 20 ≤ 3704 - 3 - 3 - 3; decide, fun m hm _ => ⟨(15, 0, 0, 0), ?_⟩⟩
  have hm : ∀ i, i ≤ 4 → g6 (m + i) = none := hm
  have k7 : kp kn g6 (wv_up44 G g6 m (15, 0, 0, 0)) := by
    intro b x hb _
    have q : ∀ i, i ≤ 4 → b ≠ m + i := fun i hi e => by rw [e, hm i hi] at hb; cases hb
    unfold wv_up44
    have q0 := q 0 (by decide)
    have q1 := q 1 (by decide)
    have q2 := q 2 (by decide)
    have q3 := q 3 (by decide)
    have q4 := q 4 (by decide)
    show (if b = m then _ else if m < b ∧ b ≤ m + 4 then _ else g6 b) = _
    rw [if_neg (by omega), if_neg (by omega)]
    exact hb
  have d7 : (wv_up44 G g6 m (15, 0, 0, 0)) m = some ((15, 0, 0, 0), wo_q (wv_A G 8) 4 (fun j => some (m + 1 + j))) := by
    unfold wv_up44
    show (if m = m then _ else _) = _
    rw [if_pos rfl]
  have d8 : ∀ i, i < 4 → (wv_up44 G g6 m (15, 0, 0, 0)) (m + 1 + i) = some ((15, 0, 0, 0), wo_i (wv_A G 2) 4 (fun _ => 0)) := by
    intro i hi
    unfold wv_up44
    show (if m + 1 + i = m then _ else if m < m + 1 + i ∧ m + 1 + i ≤ m + 4 then _ else _) = _
    rw [if_neg (by omega), if_pos (by omega)]
  have c7 := kn.at k7 c6
  show wv_pt (wv_up44 G g6 m (15, 0, 0, 0), _, _) _ _ _ _ _
  generalize wv_up44 G g6 m (15, 0, 0, 0) = g7 at k7 d7 d8 c7 ⊢
  refine zput c7 (by simp) (fun g8 k8 c8 => ?_)
  refine zrun1 hG 0 (by omega) (by show 6 ≤ 26 - 1 - 1 - 1 - 5; decide) (by show 1225 ≤ 3704 - 3 - 3 - 3 - 20; decide) (fun r0 g9 f9 k9 x0 => ?_)
  obtain ⟨x0, d9⟩ := x0
  have c9 := kn.at k9 c8
  refine zput c9 (by simp) (fun g10 k10 c10 => ?_)
  refine zrun1 hG 1 (by omega) (by show 6 ≤ 26 - 1 - 1 - 1 - 5 - 1 - 5; decide) (by show 1225 ≤ 3704 - 3 - 3 - 3 - 20 - 9 - 1216; decide) (fun r1 g11 f11 k11 x1 => ?_)
  obtain ⟨x1, d11⟩ := x1
  have c11 := kn.at k11 c10
  refine zput c11 (by simp) (fun g12 k12 c12 => ?_)
  refine zrun1 hG 2 (by omega) (by show 6 ≤ 26 - 1 - 1 - 1 - 5 - 1 - 5 - 1 - 5; decide) (by show 1225 ≤ 3704 - 3 - 3 - 3 - 20 - 9 - 1216 - 9 - 1216; decide) (fun r2 g13 f13 k13 x2 => ?_)
  obtain ⟨x2, d13⟩ := x2
  have c13 := kn.at k13 c12
  refine zput c13 (by simp) (fun g14 k14 c14 => ?_)
  -- what each leaves
  have j13 : kp (zTo a) g13 g14 := k14
  have j11 : kp (zTo a) g11 g14 := (k12.trans (kn.to k13)).trans j13
  have j9 : kp (zTo a) g9 g14 := (k10.trans (kn.to k11)).trans j11
  have j7 : kp (zTo a) g7 g14 := (k8.trans (kn.to k9)).trans j9
  have j5 : kp (zTo a) g5 g14 := (k6.trans (kn.to k7)).trans j7
  have j3 : kp (zTo a) g3 g14 := (k4.trans (kn.to k5)).trans j5
  have j1 : kp (zTo a) g1 g14 := (k2.trans (kn.to k3)).trans j3
  obtain ⟨A, hA⟩ : ∃ A : zA, A = fun q i j => if q = 2 then a else if q = 3 then p1 else if q = 10 then p2 else if q = 13 then p3 else if q = 15 then m else if q = 51 then (if i = 0 then r0 else if i = 1 then r1 else r2) else if q = 52 then (if i = 0 then x0.1 else if i = 1 then x1.1 else x2.1) else if q = 53 then (if i = 0 then x0.2.1 else if i = 1 then x1.2.1 else x2.2.1) else if q = 54 then (if i = 0 then x0.2.2.1 else if i = 1 then x1.2.2.1 else x2.2.2.1) else if q = 55 then (if i = 0 then x0.2.2.2.1 else if i = 1 then x1.2.2.2.1 else x2.2.2.2.1) else (if i = 0 then x0.2.2.2.2 else if i = 1 then x1.2.2.2.2 else x2.2.2.2.2) := ⟨_, rfl⟩
  have a2 : A 2 0 0 = a := by rw [hA]; rfl
  have a3 : A 3 0 0 = p1 := by rw [hA]; rfl
  have a10 : A 10 0 0 = p2 := by rw [hA]; rfl
  have a13 : A 13 0 0 = p3 := by rw [hA]; rfl
  have a15 : A 15 0 0 = m := by rw [hA]; rfl
  have a50 : A 51 0 0 = r0 := by rw [hA]; rfl
  have a51 : A 51 1 0 = r1 := by rw [hA]; rfl
  have a52 : A 51 2 0 = r2 := by rw [hA]; rfl
  have hno : ∀ {g : wv_H} {x : wv_T × wv_O} {b : Nat} {o : wv_O}, g b = some x → x.1 ≠ (2, 0, 0, 0) → g a = some ((2, 0, 0, 0), o) → ¬ zTo a b x.1 := fun hb hx hga q => z_ne hb hga hx q
  refine ⟨rfl, A, a2, zCf.mk ?_ ?_ (fun k hk => absurd hk (Nat.not_lt_zero _)) ?_ (fun n p hp => (by cases hp)) ?_ (fun n p hp => (by cases hp)) ⟨?_, fun i hi => ⟨fun _ => 0, ?_, fun j hj => rfl⟩⟩, fun k m hk => absurd hk (Nat.not_lt_zero _), ?_, ?_⟩
  · show g14 (A 2 0 0) = _
    rw [a2, a3, a10, a13, a15, a50, a51, a52]
    exact c14
  · rw [a3]
    exact zL.nil (j1 _ _ d1 (hno d1 (by simp) c1))
  · rw [a10]
    exact zL.nil (j3 _ _ d2 (hno d2 (by simp) c3))
  · rw [a13]
    exact zL.nil (j5 _ _ d3 (hno d3 (by simp) c5))
  · rw [a15]
    exact j7 _ _ d7 (hno d7 (by simp) c7)
  · rw [a15]
    exact j7 _ _ (d8 i hi) (hno (d8 i hi) (by simp) c7)
  · intro r hr
    have hRx : ∀ {g : wv_H} {o : wv_O}, g a = some ((2, 0, 0, 0), o) → ∀ b t, zTo a b t → ∀ o, 51 ≤ t.1 → g b ≠ some (t, o) := fun hga b t q o ht e => by
      have q : b = a := q
      rw [q, hga] at e
      cases e
      exact absurd ht (by decide)
    rcases (show r = 0 ∨ r = 1 ∨ r = 2 by omega) with rfl | rfl | rfl
    · exact zrn_of (d9.keep j9 (hRx c9)) a50 a2 (by rw [hA]; rfl) (by rw [hA]; rfl) (by rw [hA]; rfl) (by rw [hA]; rfl) (by rw [hA]; rfl)
    · exact zrn_of (d11.keep j11 (hRx c11)) a51 a2 (by rw [hA]; rfl) (by rw [hA]; rfl) (by rw [hA]; rfl) (by rw [hA]; rfl) (by rw [hA]; rfl)
    · exact zrn_of (d13.keep j13 (hRx c13)) a52 a2 (by rw [hA]; rfl) (by rw [hA]; rfl) (by rw [hA]; rfl) (by rw [hA]; rfl) (by rw [hA]; rfl)
  · intro b x hb _
    exact j1 b x (kn.at k1 (kn.at k0 hb)) (fun z => z_nw ha hb z)
end ZXE
