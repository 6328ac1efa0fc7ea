/-! THE COMPONENT: places in a run; bodies; handlers -/
section ZX4
variable {G : wv_G} {A A' : zA} {σ σ' : zS} {h h0 h1 h2 h' : wv_H} {w : wv_W} {fr fr' kc ks : Nat} {P : wv_R → wv_H → Prop} {KX : String → Nat → wv_W → Prop} {a b : Nat} {t ta tb : wv_T} {r : Nat} {tr : List zAc} {e : Bool × Int32 × Int32} {ch : List (Nat × zIn)} {th : Nat × Nat × Nat} {s s1 s2 : zR}
variable {act : Int32 → zM} {lam F : Nat} {c : Int32} {i n k m p : Nat} {l : List Nat} {pt : zPF} {st : zSt}
-- ===== places of a body =====
theorem zpl_sum : ∀ (l : List zSt) (i : Nat) (st : zSt), l[i]? = some st → ((l.take i).map zplaces).sum + zplaces st ≤ (l.map zplaces).sum
  | [], i, st, h => by cases h
  | x :: l, 0, st, h => by
    have h : some x = some st := h
    cases h
    simp
  | x :: l, i + 1, st, h => by
    have := zpl_sum l i st h
    simp only [List.take_succ_cons, List.map_cons, List.sum_cons]
    omega
theorem zplace_lt (hi : (zbody σ k m)[i]? = some st) : zplace (zbody σ k m) i + zplaces st ≤ (zspots σ k m).length := by
  have h1 := zpl_sum _ _ _ hi
  have hne : ¬ (zbody σ k m).isEmpty = true := by
    intro q
    rw [List.isEmpty_iff] at q
    rw [q] at hi
    cases hi
  rw [zspots_length, if_neg hne]
  unfold zplace
  omega
theorem zplace_s {l : List zSt} (hi : l[i]? = some st) : zplace l (i + 1) = zplace l i + zplaces st := by
  unfold zplace
  rw [List.take_add_one, hi]
  simp
  omega
theorem zplace_0 (l : List zSt) : zplace l 0 = 1 := rfl
theorem zspots_p0 (hne : (zbody σ k m).isEmpty = false) : 0 < (zspots σ k m).length := by
  rw [zspots_length, hne]
  show 0 < 1 + _
  omega
-- ===== a place, in a run =====
theorem zRk_f (he : e.1 = false) : zRk e.1 k m p s = s := by
  rw [he]
  rfl
theorem z58_R (r : Nat) (th : Nat × Nat × Nat) : ∀ a t, zS58 k m a t → zSR r th a t := fun _ t q => Or.inl (by rw [q]; exact ⟨by show 58 ≤ 58; decide, by show 58 ≤ 60; decide⟩)
theorem zRk_cost (hw : zwf σ) (hk : k < zn σ) (hm : m < 6) (hp : p < (zspots σ k m).length) : zcc σ s (zRk true k m p s) = 2 * ((p + 1) - s.2.2.2.2.2 k m) ∧ zcs σ s (zRk true k m p s) = 31 * ((p + 1) - s.2.2.2.2.2 k m) := by
  have h6 := hw.1
  have := zrem_keep (σ := σ) (f := s.2.2.2.2.2) (k := k) (m := m) (n := p + 1) (by omega) hm hp
  have e1 : zcc σ s (zRk true k m p s) = 2 * (zrem σ s.2.2.2.2.2 - zrem σ (zkeep s.2.2.2.2.2 k m (p + 1))) := by
    show zPc s - zPc s + _ = _
    rw [Nat.sub_self, Nat.zero_add]
    rfl
  have e2 : zcs σ s (zRk true k m p s) = 31 * (zrem σ s.2.2.2.2.2 - zrem σ (zkeep s.2.2.2.2.2 k m (p + 1))) := by
    show zPs s - zPs s + _ = _
    rw [Nat.sub_self, Nat.zero_add]
    rfl
  omega
theorem z2_placeT (hG : wv_G0 G) (hw : zwf σ) (hk : k < zn σ) (hm : m < 6) (hp : p < (zspots σ k m).length) (R : zRS G A σ r e ch th s w.1) (he : e.1 = true) (hf : 13 < fr) (hc : zcc σ s (zRk e.1 k m p s) ≤ w.2.1) (hs : zcs σ s (zRk e.1 k m p s) ≤ w.2.2) {K : Option Nat → wv_W → Prop}
    (hK : ∀ d h', zRS G A σ r e ch th (zRk e.1 k m p s) h' → zPa σ e.1 (some (k, m, p)) d h' → kp (zSR r th) w.1 h' → K d (h', w.2.1 - zcc σ s (zRk e.1 k m p s), w.2.2 - zcs σ s (zRk e.1 k m p s))) :
    wv_gA w (some (A 51 r 0)) ciX2 8 (fun x => wv_cV G fr yX1_placeOf x [.ref (A 4 k 0), .int (nI m), .int (nI p)] w (wv_rA (fun y w => K y w) (wv_pr P))) := by
  obtain ⟨wov, how⟩ := e
  have he : wov = true := he
  subst he
  obtain ⟨c1, c2, c3, c4, c5, c6, c7, c8⟩ := id R
  obtain ⟨x1, x2⟩ := zRk_cost (s := s) hw hk hm hp
  have hc : zcc σ s (zRk true k m p s) ≤ w.2.1 := hc
  have hs : zcs σ s (zRk true k m p s) ≤ w.2.2 := hs
  have hK : ∀ d h', zRS G A σ r (true, how) ch th (zRk true k m p s) h' → zPa σ true (some (k, m, p)) d h' → kp (zSR r th) w.1 h' → K d (h', w.2.1 - zcc σ s (zRk true k m p s), w.2.2 - zcs σ s (zRk true k m p s)) := hK
  refine z_gA c3 rfl ⟨A 2 0 0, rfl, z_isC c1, z_c (z1_placeOf hG hw hk hm hp c1 c2) hf (by rw [← x1]; exact hc) (by rw [← x2]; exact hs) ?_⟩
  rintro y h' ⟨a, rfl, l1, l2, l3⟩
  have hS : ∀ (q : Nat), q ≠ 58 → ∀ (a : Nat) (t : wv_T), zS58 k m a t → t.1 ≠ q := fun q hq a t e => by rw [e]; exact fun x => hq x.symm
  refine Or.inl ⟨_, rfl, ?_⟩
  rw [← x1, ← x2]
  exact hK (some a) h' ⟨c1.keep l3 (fun _ t e => by rw [e]; show 50 ≤ 58; decide), l1, c3.keep l3 (fun a t e q => hS 51 (by decide) a t e q.1), c4.keep l3 (fun _ t e q => by rw [e] at q; exact absurd q.2.1 (by show ¬ 58 ≤ 55; decide)), c5.keep l3 (fun a t e q => hS 56 (by decide) a t e q.1), c6.keep l3 (hS 60 (by decide)), c7.keep l3 (fun a t e => ⟨hS 61 (by decide) a t e, hS 62 (by decide) a t e⟩), c8⟩ ⟨a, rfl, l2⟩ (l3.mono (z58_R r th))
theorem z2_place (hG : wv_G0 G) (hw : zwf σ) (hk : k < zn σ) (hm : m < 6) (hp : p < (zspots σ k m).length) (R : zRS G A σ r e ch th s w.1) (hf : 13 < fr) (hc : zcc σ s (zRk e.1 k m p s) ≤ w.2.1) (hs : zcs σ s (zRk e.1 k m p s) ≤ w.2.2) {K : Option Nat → wv_W → Prop}
    (hK : ∀ d h', zRS G A σ r e ch th (zRk e.1 k m p s) h' → zPa σ e.1 (some (k, m, p)) d h' → kp (zSR r th) w.1 h' → K d (h', w.2.1 - zcc σ s (zRk e.1 k m p s), w.2.2 - zcs σ s (zRk e.1 k m p s))) :
    (zbI e.1 = 0 → K none w) ∧ (¬ zbI e.1 = 0 → wv_gA w (some (A 51 r 0)) ciX2 8 (fun x => wv_cV G fr yX1_placeOf x [.ref (A 4 k 0), .int (nI m), .int (nI p)] w (wv_rA (fun y w => K y w) (wv_pr P)))) := by
  cases he : e.1 with
  | false =>
    refine ⟨fun _ => ?_, fun q => absurd rfl q⟩
    have hz : zRk e.1 k m p s = s := zRk_f he
    have := hK none w.1
    rw [hz, zcc_0, zcs_0, he] at this
    exact this R rfl (kp.refl _)
  | true =>
    refine ⟨fun q => absurd q (by decide), fun _ => z2_placeT hG hw hk hm hp R he hf hc hs hK⟩
-- ===== a body =====
theorem zact_c {wov : Bool} {m ty : Nat} (hm : m < 6) {pl : Option (Nat × Nat × Nat)} (v : Int32) (s : zR) : zact σ wov pt (99, nI m, ty, pl) v s = match zfind σ m ty with | none => (zraise 4, zRe s) | some k => pt (101, nI m, ty, some (k, m, 0)) v (zRk wov k m 0 s) := by
  unfold zact
  show (if (99 : Int32) = 99 then _ else _ : zX × zR) = _
  rw [if_pos rfl]
  show (match zfind σ (zAt (nI m)) ty with | none => (zraise 4, zRe s) | some k => pt (101, nI m, ty, some (k, zAt (nI m), 0)) v (zRk wov k (zAt (nI m)) 0 s) : zX × zR) = _
  rw [zAt_nI (by omega)]
theorem zraised (hG : wv_G0 G) {n : Int32} (R : zRS G A σ r e ch th s w.1) (hf : 5 < fr) (hc : 1 ≤ w.2.1) (hs : 7 ≤ w.2.2) (hK : ∀ a h', zRS G A σ r e ch th (zRe s) h' → kp kn w.1 h' → zEx h' a (some n) → KX "Weaversgate$Thrown" a (h', w.2.1 - 1, w.2.2 - 7)) :
    wv_no G w (wo_o ciX23 [va_rf none, va_rf none, va_rf none, va_rf none, va_rf none, .int 0, .int 0]) 7 (fun a15 w15 => wv_cI G fr yX23_init (some a15) [.int n] w15 (wv_rV (fun w20 => wv_at w20 (some a15) KX) KX)) := by
  refine z_no (64, 0, 0, 0) hc hs (fun a ha hb => ?_)
  refine ⟨a, rfl, z_c (z23_init hG (by decide)) hf (Nat.zero_le _) (Nat.zero_le _) ?_⟩
  rintro y h' ⟨rfl, fs, f1, f2, rfl⟩
  have k : kp kn w.1 (wv_up w.1 a ((64, 0, 0, 0), wo_o ciX23 fs)) := kp.new ha
  exact Or.inl ⟨rfl, z_at wv_up_self ccX23 (hK a _ (R.keepn k) k ⟨fs, wv_up_self, f2⟩)⟩
theorem zRe_cost : zcc σ s (zRe s) = 2 ∧ zcs σ s (zRe s) = 11 := by
  constructor
  · unfold zcc zPc zRe; first | (simp; done) | (simp; omega)
  · unfold zcs zPs zRe; first | (simp; done) | (simp; omega)
theorem z2_body (hG : wv_G0 G) (hw : zwf σ) (hr : zring σ = false) {d : Nat} (hS : ∀ d', d = d' + 1 → zSC G A σ r e d') : zBC G A σ r e d := by
  intro ch th s h m v pl hd hm R
  rw [zact_c hm]
  obtain ⟨C, L, o1, T, O, H, ⟨t1, t2, t3⟩, h120⟩ := id R
  have h6 := hw.1
  refine wk_X2_body (v0 := some (A 51 r 0)) (v1 := some th.1) hG (z_gA t2 rfl (z_vA (z_is (C.type t1) ccX6) (z6_finder hG hw C hm _ t1) (by omega) ?_))
  cases hz : zfind σ m th.2.2 with
  | none =>
    obtain ⟨x1, x2⟩ := zRe_cost (σ := σ) (s := s)
    refine ⟨fun q => absurd rfl q, fun _ => zraised hG R (by omega) (by show 1 ≤ zcc σ s (zRe s); omega) (by show 7 ≤ zcs σ s (zRe s); omega) (fun a h' R' k' ex' => ⟨R', kn.to k', a, rfl, ex'⟩)⟩
  | some k =>
    obtain ⟨z1, z2⟩ := zfind_lt hw t1 hz
    have hk : k < zn σ := by omega
    show (¬ some (A 4 k 0) = none → _) ∧ (some (A 4 k 0) = none → _)
    refine ⟨fun _ => ?_, fun q => by cases q⟩
    show wv_gI _ _ _ _ (fun x25 => (x25 = 0 → vc_X2_body_46 G _ (zPo G A σ r e ch th (zpoint σ e.1 d (ch.map (fun x => x.2)) (101, nI m, th.2.2, some (k, m, 0)) v (zRk e.1 k m 0 s)) h) (some (A 51 r 0)) (some th.1) (nI m) v (some (A 4 k 0)) none _) ∧ (¬ x25 = 0 → _))
    have m1 := zRk_mon (σ := σ) e.1 k m 0 s
    have m2 := zpoint_mon (σ := σ) e.1 d (ch.map (fun x => x.2)) (101, nI m, th.2.2, some (k, m, 0)) v (zRk e.1 k m 0 s)
    obtain ⟨b1, b2⟩ := zpoint_cost (σ := σ) e.1 d (ch.map (fun x => x.2)) (101, nI m, th.2.2, some (k, m, 0)) v (zRk e.1 k m 0 s)
    have ec := zcc_add m1 m2
    have es := zcs_add m1 m2
    show wv_gI (h, zcc σ s (zpoint σ e.1 d (ch.map (fun x => x.2)) (101, nI m, th.2.2, some (k, m, 0)) v (zRk e.1 k m 0 s)).2, zcs σ s (zpoint σ e.1 d (ch.map (fun x => x.2)) (101, nI m, th.2.2, some (k, m, 0)) v (zRk e.1 k m 0 s)).2) _ _ _ _
    rw [← ec, ← es]
    refine z_gI o1 rfl (z2_place hG hw hk hm (zspots_p0 z2) R (by omega) (Nat.le_add_right _ _) (Nat.le_add_right _ _) (fun dd h1 R1 P1 k1 => ?_))
    rw [Nat.add_sub_cancel_left, Nat.add_sub_cancel_left]
    obtain ⟨C1, L1, o11, T1, O1, H1, ⟨t11, t12, t13⟩, h1201⟩ := id R1
    refine z_gA t12 rfl (z_gI (C1.type hk) rfl ⟨by omega, by show 1 ≤ zcc σ _ _; omega, by show 4 ≤ zcs σ _ _; omega, fun a ha _ => ⟨(63, 0, 0, 0), ?_⟩⟩)
    have ha : h1 a = none := ha
    have R2 := R1.lamb ha (o := wo_M 1 [.ref (A 51 r 0), .ref th.1, .ref (A 4 k 0), .int (nI m)])
    have P2 := P1.keep (kp.new (S := kn) (x := ((63, 0, 0, 0), wo_M 1 [.ref (A 51 r 0), .ref th.1, .ref (A 4 k 0), .int (nI m)])) ha) (fun _ _ x => x.elim)
    have hC := z2_point (F := 36 * d + 44) (lam := a) hG hw hr hd (q := (101, nI m, th.2.2, some (k, m, 0))) (v := v) ⟨rfl, rfl⟩ t1 R2 P2 (by omega) (fun d' hdd a' => by
      have := zac_e (ch := (a', zinfo (101, nI m, th.2.2, some (k, m, 0)) v) :: ch) (p := 0) (x := nI m) (h0 := wv_up h1 a ((63, 0, 0, 0), wo_M 1 [.ref (A 51 r 0), .ref th.1, .ref (A 4 k 0), .int (nI m)])) (lam := a) hG (d := d') (m := m) (by rw [List.length_cons]; omega) hk hm z2 (hS d' hdd) wv_up_self
      rw [show 36 * d + 44 = 36 * d' + 80 by omega]
      exact this)
    refine ⟨A 51 r 0, rfl, z2_isR R2, z_cP hC (by omega) (Nat.le_refl _) (by show zcs σ _ _ - 4 ≤ zcs σ _ _ - 4; omega) (fun v' h' e1 R' k' => ⟨R', (k1.trans (kp.new ha)).trans k', ?_⟩) (fun o x h' e1 R' k' ex => ⟨R', (k1.trans (kp.new ha)).trans k', ?_⟩)⟩
    · show zYr _ _ _
      rw [e1]
      rfl
    · show zYr _ _ _
      rw [e1]
      exact ⟨x, rfl, ex⟩
end ZX4
