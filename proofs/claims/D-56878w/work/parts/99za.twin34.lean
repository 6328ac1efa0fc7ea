/-! THE REFERENCE: born -/
section ZTZ5
variable {G : wv_G} {B B' : zA} {σ σ' : zS} {h h0 h1 h2 h' : wv_H} {w : wv_W} {fr fr' kc ks : Nat} {P : wv_R → wv_H → Prop} {KX : String → Nat → wv_W → Prop} {a b L L' : Nat} {t : wv_T} {n k m p i : Nat} {th : Int32} {c x y v : Int32} {l : zL9}
theorem z4_arr {fs : List Value} {o : Nat → wv_O} {N : Nat} {K : Nat → wv_W → Prop} (hb : w.1 a = some ((100, 0, 0, 0), wo_o ciX4 fs)) (t : wv_T) (hN : N ≤ 100000) (hc : 1 ≤ w.2.1) (hs : N ≤ w.2.2) {k : Nat} (hk : k < fs.length) (hK : ∀ b h1, w.1 b = none → kp (zTo a) w.1 h1 → h1 b = some (t, o N) → h1 a = some ((100, 0, 0, 0), wo_o ciX4 (fs.set k (va_rf (some b)))) → K b (h1, w.2.1 - 1, w.2.2 - N)) : wv_na G w (nI N) o (fun b w' => wv_pt w' (some a) ciX4 k (va_rf (some b)) (fun w9 => K b w9)) := by
  refine z_na t hN hc hs (fun b hb9 _ => ?_)
  have hne : a ≠ b := fun q => by rw [q, hb9] at hb; cases hb
  have k1 : kp kn w.1 (wv_up w.1 b (t, o N)) := kp.new hb9
  have e1 : wv_up w.1 b (t, o N) b = some (t, o N) := wv_up_self
  refine z_pt (kn.at k1 hb) (by decide) hk (hK b _ hb9 ((kn.to k1).trans (kp.put (kn.at k1 hb) rfl)) (z_upo (Ne.symm hne) e1) wv_up_self)
theorem z4_num {fs : List Value} {K : wv_W → Prop} (hb : w.1 a = some ((100, 0, 0, 0), wo_o ciX4 fs)) {k : Nat} {v : Value} (hk : k < fs.length) (hK : ∀ h1, kp (zTo a) w.1 h1 → h1 a = some ((100, 0, 0, 0), wo_o ciX4 (fs.set k v)) → K (h1, w.2)) : wv_pt w (some a) ciX4 k v K := z_pt hb (by decide) hk (hK _ (kp.put hb rfl) wv_up_self)
/-- born: nothing told, nothing run -/
abbrev zBo4 (G : wv_G) (a : Nat) (h h' : wv_H) : Prop := ∃ (B : zA) (L : Nat), B 100 0 0 = a ∧ zMf G B zS0 0 L h' ∧ zMR L (32, 0, 0, 0, []) h' ∧ kp kn h h'
set_option maxHeartbeats 2000000 in
theorem z4_init (hG : wv_G0 G) (ha : h a = none) : wv_C G yX4_init [.ref a] (wv_up h a ((100, 0, 0, 0), wo_o ciX4 [va_rf none, va_rf none, va_rf none, va_rf none, va_rf none, va_rf none, va_rf none, va_rf none, va_rf none, va_rf none, va_rf none, va_rf none, .int 0, .int 0, .int 0, .int 0, va_rf none])) 5 14 210 (fun y h' => y = .inl none ∧ zBo4 G a h h') := by
  refine wk_X4_init (v0 := some a) hG ⟨⟨a, rfl⟩, by omega, ?_⟩
  have k0 : kp kn h (wv_up h a ((100, 0, 0, 0), wo_o ciX4 [va_rf none, va_rf none, va_rf none, va_rf none, va_rf none, va_rf none, va_rf none, va_rf none, va_rf none, va_rf none, va_rf none, va_rf none, .int 0, .int 0, .int 0, .int 0, va_rf none])) := kp.new ha
  have c0 : wv_up h a ((100, 0, 0, 0), wo_o ciX4 [va_rf none, va_rf none, va_rf none, va_rf none, va_rf none, va_rf none, va_rf none, va_rf none, va_rf none, va_rf none, va_rf none, va_rf none, .int 0, .int 0, .int 0, .int 0, va_rf none]) a = some ((100, 0, 0, 0), wo_o ciX4 [va_rf none, va_rf none, va_rf none, va_rf none, va_rf none, va_rf none, va_rf none, va_rf none, va_rf none, va_rf none, va_rf none, va_rf none, .int 0, .int 0, .int 0, .int 0, va_rf none]) := wv_up_self
  generalize wv_up h a ((100, 0, 0, 0), wo_o ciX4 [va_rf none, va_rf none, va_rf none, va_rf none, va_rf none, va_rf none, va_rf none, va_rf none, va_rf none, va_rf none, va_rf none, va_rf none, .int 0, .int 0, .int 0, .int 0, va_rf none]) = g0 at k0 c0 ⊢
  refine z4_arr c0 (101, 0, 0, 0) (by decide) (by show 1 ≤ 14; decide) (by show 36 ≤ 210; decide) (by simp) (fun b101 g1 f101 k1 d101 c1 => ?_)
  refine z4_arr c1 (102, 0, 0, 0) (by decide) (by show 1 ≤ 14 - 1; decide) (by show 6 ≤ 210 - 36; decide) (by simp) (fun b102 g2 f102 k2 d102 c2 => ?_)
  refine z4_arr c2 (103, 0, 0, 0) (by decide) (by show 1 ≤ 14 - 1 - 1; decide) (by show 24 ≤ 210 - 36 - 6; decide) (by simp) (fun b103 g3 f103 k3 d103 c3 => ?_)
  refine z4_arr c3 (104, 0, 0, 0) (by decide) (by show 1 ≤ 14 - 1 - 1 - 1; decide) (by show 24 ≤ 210 - 36 - 6 - 24; decide) (by simp) (fun b104 g4 f104 k4 d104 c4 => ?_)
  refine z4_arr c4 (105, 0, 0, 0) (by decide) (by show 1 ≤ 14 - 1 - 1 - 1 - 1; decide) (by show 12 ≤ 210 - 36 - 6 - 24 - 24; decide) (by simp) (fun b105 g5 f105 k5 d105 c5 => ?_)
  refine z4_arr c5 (106, 0, 0, 0) (by decide) (by show 1 ≤ 14 - 1 - 1 - 1 - 1 - 1; decide) (by show 12 ≤ 210 - 36 - 6 - 24 - 24 - 12; decide) (by simp) (fun b106 g6 f106 k6 d106 c6 => ?_)
  refine z4_arr c6 (107, 0, 0, 0) (by decide) (by show 1 ≤ 14 - 1 - 1 - 1 - 1 - 1 - 1; decide) (by show 12 ≤ 210 - 36 - 6 - 24 - 24 - 12 - 12; decide) (by simp) (fun b107 g7 f107 k7 d107 c7 => ?_)
  refine z4_arr c7 (108, 0, 0, 0) (by decide) (by show 1 ≤ 14 - 1 - 1 - 1 - 1 - 1 - 1 - 1; decide) (by show 12 ≤ 210 - 36 - 6 - 24 - 24 - 12 - 12 - 12; decide) (by simp) (fun b108 g8 f108 k8 d108 c8 => ?_)
  refine z4_arr c8 (109, 0, 0, 0) (by decide) (by show 1 ≤ 14 - 1 - 1 - 1 - 1 - 1 - 1 - 1 - 1; decide) (by show 24 ≤ 210 - 36 - 6 - 24 - 24 - 12 - 12 - 12 - 12; decide) (by simp) (fun b109 g9 f109 k9 d109 c9 => ?_)
  refine z4_arr c9 (110, 0, 0, 0) (by decide) (by show 1 ≤ 14 - 1 - 1 - 1 - 1 - 1 - 1 - 1 - 1 - 1; decide) (by show 12 ≤ 210 - 36 - 6 - 24 - 24 - 12 - 12 - 12 - 12 - 24; decide) (by simp) (fun b110 g10 f110 k10 d110 c10 => ?_)
  refine z4_arr c10 (111, 0, 0, 0) (by decide) (by show 1 ≤ 14 - 1 - 1 - 1 - 1 - 1 - 1 - 1 - 1 - 1 - 1; decide) (by show 12 ≤ 210 - 36 - 6 - 24 - 24 - 12 - 12 - 12 - 12 - 24 - 12; decide) (by simp) (fun b111 g11 f111 k11 d111 c11 => ?_)
  refine z4_arr c11 (112, 0, 0, 0) (by decide) (by show 1 ≤ 14 - 1 - 1 - 1 - 1 - 1 - 1 - 1 - 1 - 1 - 1 - 1; decide) (by show 16 ≤ 210 - 36 - 6 - 24 - 24 - 12 - 12 - 12 - 12 - 24 - 12 - 12; decide) (by simp) (fun b112 g12 f112 k12 d112 c12 => ?_)
  refine z4_num c12 (by simp) (fun g13 k13 c13 => ?_)
  refine z4_num c13 (by simp) (fun g14 k14 c14 => ?_)
  refine z4_num c14 (by simp) (fun g15 k15 c15 => ?_)
  refine z4_num c15 (by simp) (fun g16 k16 c16 => ?_)
  refine z_no (130, 0, 0, 0) (by show 1 ≤ 14 - 1 - 1 - 1 - 1 - 1 - 1 - 1 - 1 - 1 - 1 - 1 - 1; decide) (by show 5 ≤ 210 - 36 - 6 - 24 - 24 - 12 - 12 - 12 - 12 - 24 - 12 - 12 - 16; decide) (fun L fL _ => ?_)
  have fL : g16 L = none := fL
  refine ⟨L, rfl, z_c (z5_init hG fL) (by omega) (by show 1 ≤ 14 - 1 - 1 - 1 - 1 - 1 - 1 - 1 - 1 - 1 - 1 - 1 - 1 - 1; decide) (by show 3 ≤ 210 - 36 - 6 - 24 - 24 - 12 - 12 - 12 - 12 - 24 - 12 - 12 - 16 - 5; decide) ?_⟩
  rintro y g17 ⟨rfl, tl, hne, ftl, eL, etl, k17⟩
  have c17 := kn.at k17 c16
  refine Or.inl ⟨rfl, z4_num c17 (by simp) (fun g18 k18 c18 => ?_)⟩
  have j17 : kp (zTo a) g17 g18 := k18
  have j16 : kp (zTo a) g16 g18 := (kn.to k17).trans j17
  have j15 : kp (zTo a) g15 g18 := k16.trans j16
  have j14 : kp (zTo a) g14 g18 := k15.trans j15
  have j13 : kp (zTo a) g13 g18 := k14.trans j14
  have j12 : kp (zTo a) g12 g18 := k13.trans j13
  have j11 : kp (zTo a) g11 g18 := k12.trans j12
  have j10 : kp (zTo a) g10 g18 := k11.trans j11
  have j9 : kp (zTo a) g9 g18 := k10.trans j10
  have j8 : kp (zTo a) g8 g18 := k9.trans j9
  have j7 : kp (zTo a) g7 g18 := k8.trans j8
  have j6 : kp (zTo a) g6 g18 := k7.trans j7
  have j5 : kp (zTo a) g5 g18 := k6.trans j6
  have j4 : kp (zTo a) g4 g18 := k5.trans j5
  have j3 : kp (zTo a) g3 g18 := k4.trans j4
  have j2 : kp (zTo a) g2 g18 := k3.trans j3
  have j1 : kp (zTo a) g1 g18 := k2.trans j2
  have j0 : kp (zTo a) g0 g18 := k1.trans j1
  have hno : ∀ {g : wv_H} {x : wv_T × wv_O} {b : Nat} {o : wv_O}, g b = some x → x.1 ≠ (100, 0, 0, 0) → g a = some ((100, 0, 0, 0), o) → ¬ zTo a b x.1 := fun hb hx hga q => z_ne hb hga hx q
  obtain ⟨B, hB⟩ : ∃ B : zA, B = fun r _ _ => if r = 100 then a else if r = 101 then b101 else if r = 102 then b102 else if r = 103 then b103 else if r = 104 then b104 else if r = 105 then b105 else if r = 106 then b106 else if r = 107 then b107 else if r = 108 then b108 else if r = 109 then b109 else if r = 110 then b110 else if r = 111 then b111 else if r = 112 then b112 else 0 := ⟨_, rfl⟩
  have a100 : B 100 0 0 = a := by rw [hB]; rfl
  have a101 : B 101 0 0 = b101 := by rw [hB]; rfl
  have a102 : B 102 0 0 = b102 := by rw [hB]; rfl
  have a103 : B 103 0 0 = b103 := by rw [hB]; rfl
  have a104 : B 104 0 0 = b104 := by rw [hB]; rfl
  have a105 : B 105 0 0 = b105 := by rw [hB]; rfl
  have a106 : B 106 0 0 = b106 := by rw [hB]; rfl
  have a107 : B 107 0 0 = b107 := by rw [hB]; rfl
  have a108 : B 108 0 0 = b108 := by rw [hB]; rfl
  have a109 : B 109 0 0 = b109 := by rw [hB]; rfl
  have a110 : B 110 0 0 = b110 := by rw [hB]; rfl
  have a111 : B 111 0 0 = b111 := by rw [hB]; rfl
  have a112 : B 112 0 0 = b112 := by rw [hB]; rfl
  refine ⟨rfl, B, L, a100, ⟨?_, ⟨fun _ => none, ?_, fun k m _ _ => rfl⟩, fun k m _ _ he => (by cases he), ⟨fun _ => 0, ?_, fun k hk => absurd hk (Nat.not_lt_zero _)⟩, ⟨fun _ => 0, ?_, fun n x hx => (by cases hx)⟩, ⟨fun _ => 0, ?_, fun n x hx => (by cases hx)⟩, ⟨fun _ => 0, ?_, fun n x hx => (by cases hx)⟩, ⟨fun _ => 0, ?_, fun n x hx => (by cases hx)⟩, ⟨fun _ => 0, ?_, fun n x hx => (by cases hx)⟩, ⟨fun _ => 0, ?_, fun n x hx => (by cases hx)⟩, ⟨fun _ => 0, ?_, fun n x hx => (by cases hx)⟩, ⟨fun _ => 0, ?_, fun n x hx => (by cases hx)⟩, ⟨fun _ => 0, ?_, fun n x hx => (by cases hx)⟩, ⟨fun _ => 0, ?_, fun i j _ _ => rfl⟩⟩, ⟨tl, 0, 0, [], ?_, by decide, ?_, rfl, by decide, fun i x hx => (by cases hx)⟩, ?_⟩
  · show g18 (B 100 0 0) = some ((100, 0, 0, 0), zMo B zS0 0 L)
    unfold zMo
    rw [a100, a101, a102, a103, a104, a105, a106, a107, a108, a109, a110, a111, a112]
    exact c18
  · rw [a101]
    exact j1 _ _ d101 (hno d101 (by simp) c1)
  · rw [a102]
    exact j2 _ _ d102 (hno d102 (by simp) c2)
  · rw [a103]
    exact j3 _ _ d103 (hno d103 (by simp) c3)
  · rw [a104]
    exact j4 _ _ d104 (hno d104 (by simp) c4)
  · rw [a105]
    exact j5 _ _ d105 (hno d105 (by simp) c5)
  · rw [a106]
    exact j6 _ _ d106 (hno d106 (by simp) c6)
  · rw [a107]
    exact j7 _ _ d107 (hno d107 (by simp) c7)
  · rw [a108]
    exact j8 _ _ d108 (hno d108 (by simp) c8)
  · rw [a109]
    exact j9 _ _ d109 (hno d109 (by simp) c9)
  · rw [a110]
    exact j10 _ _ d110 (hno d110 (by simp) c10)
  · rw [a111]
    exact j11 _ _ d111 (hno d111 (by simp) c11)
  · rw [a112]
    exact j12 _ _ d112 (hno d112 (by simp) c12)
  · show g18 L = some ((130, 0, 0, 0), wo_o ciX5 [va_rf (some tl), .int 32, .int 0, .int (nI 0), .int (nI 0)])
    rw [nI_0]
    exact j17 _ _ eL (hno eL (by simp) c17)
  · exact j17 _ _ etl (hno etl (by simp) c17)
  · intro b x hb _
    exact j0 b x (kn.at k0 hb) (fun z => z_nw ha hb z)
end ZTZ5
