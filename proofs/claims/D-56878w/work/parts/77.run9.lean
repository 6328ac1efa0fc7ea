/-! THE COMPONENT: an object made; a step done -/
section ZX7
variable {G : wv_G} {A A' : zA} {σ σ' : zS} {h h0 h1 h2 h' : wv_H} {w : wv_W} {fr fr' kc ks : Nat} {P : wv_R → wv_H → Prop} {KX : String → Nat → wv_W → Prop} {a b : Nat} {t ta tb : wv_T} {r : Nat} {tr : List zAc} {e : Bool × Int32 × Int32} {ch : List (Nat × zIn)} {th : Nat × Nat × Nat} {s s1 s2 : zR}
variable {act : Int32 → zM} {lam F : Nat} {c x y v : Int32} {i n j k m p d ty : Nat} {l : List Nat} {pt : zPF} {st : zSt} {wov : Bool} {dd : Option Nat}
theorem zmk_cost : zcc σ s (zRF (fun _ => 0) (zRm s)) = 2 ∧ zcs σ s (zRF (fun _ => 0) (zRm s)) = 6 ∧ zl9 σ s (zRF (fun _ => 0) (zRm s)) := by
  refine ⟨?_, ?_, ⟨Nat.le_refl _, Nat.le_refl _, Nat.le_succ _, Nat.le_refl _⟩⟩
  · unfold zcc zPc zRF zRm; first | (simp; done) | (simp; omega)
  · unfold zcs zPs zRF zRm; first | (simp; done) | (simp; omega)
theorem z2_s109 (hG : wv_G0 G) (hw : zwf σ) (hr : zring σ = false) (hd : d + ch.length = 20) (hk : k < zn σ) (hm : m < 6) (hB : ∀ d', d = d' + 1 → zBC G A σ r e d') (hi : (zbody σ k m)[i]? = some (109, nI n, nI j)) (hn : n < zn σ) (hj : j < 6) (hpl : p + 1 < (zspots σ k m).length) (R : zRS G A σ r e ch th s w.1) (hp : zPa σ e.1 (some (k, m, p)) dd w.1) (k0 : kp (zSR r th) h w.1) 
    (hc : zcc σ s (zdn1 e.1 (zpoint σ e.1 d (ch.map (fun x => x.2))) th.2.2 k m p (109, nI n, nI j) v s).2 ≤ w.2.1) (hs : zcs σ s (zdn1 e.1 (zpoint σ e.1 d (ch.map (fun x => x.2))) th.2.2 k m p (109, nI n, nI j) v s).2 ≤ w.2.2) :
    vc_X2_done_205 G (36 * d + 75) (zPo G A σ r e ch th (zdn1 e.1 (zpoint σ e.1 d (ch.map (fun x => x.2))) th.2.2 k m p (109, nI n, nI j) v s) h) (some (A 51 r 0)) (some th.1) (some (A 4 k 0)) (nI m) (some (A 8 (k * 6 + m) i)) (nI p) v (nI k) dd (zsw 109) w := by
  have h6 := hw.1
  have hz : zAt (nI n) = n := zAt_nI (by omega)
  rw [zdn1_m, hz] at hc hs
  rw [show zsw 109 = 2 by decide, zdn1_m, hz]
  obtain ⟨w1, cc, cs⟩ := w
  have R : zRS G A σ r e ch th s w1 := R
  have hp : zPa σ e.1 (some (k, m, p)) dd w1 := hp
  have k0 : kp (zSR r th) h w1 := k0
  obtain ⟨x1, x2, x3⟩ := zmk_cost (σ := σ) (s := s)
  obtain ⟨b1, b2⟩ := zpoint_cost (σ := σ) e.1 d (ch.map (fun x => x.2)) (109, nI n, n, some (k, m, p)) v (zRF (fun _ => 0) (zRm s))
  have m2 := zpoint_mon (σ := σ) e.1 d (ch.map (fun x => x.2)) (109, nI n, n, some (k, m, p)) v (zRF (fun _ => 0) (zRm s))
  -- the state after
  have c12 : zcc σ s (zpoint σ e.1 d (ch.map (fun x => x.2)) (109, nI n, n, some (k, m, p)) v (zRF (fun _ => 0) (zRm s))).2 ≤ cc ∧ zcs σ s (zpoint σ e.1 d (ch.map (fun x => x.2)) (109, nI n, n, some (k, m, p)) v (zRF (fun _ => 0) (zRm s))).2 ≤ cs := by
    generalize zpoint σ e.1 d (ch.map (fun x => x.2)) (109, nI n, n, some (k, m, p)) v (zRF (fun _ => 0) (zRm s)) = Q at hc hs m2 ⊢
    obtain ⟨X, S⟩ := Q
    cases X with
    | inl v1 =>
      have m3 := x3.trans m2
      have m4 := zRk_mon (σ := σ) e.1 k m (p + 1) S
      have m5 := zpoint_mon (σ := σ) e.1 d (ch.map (fun x => x.2)) (99, nI j, n, some (k, m, p + 1)) v1 (zRk e.1 k m (p + 1) S)
      have hc : zcc σ s (zpoint σ e.1 d (ch.map (fun x => x.2)) (99, nI j, n, some (k, m, p + 1)) v1 (zRk e.1 k m (p + 1) S)).2 ≤ cc := hc
      have hs : zcs σ s (zpoint σ e.1 d (ch.map (fun x => x.2)) (99, nI j, n, some (k, m, p + 1)) v1 (zRk e.1 k m (p + 1) S)).2 ≤ cs := hs
      have e1 := zcc_add m3 (m4.trans m5)
      have e2 := zcs_add m3 (m4.trans m5)
      constructor
      · show zcc σ s S ≤ cc
        have e1 : zcc σ s S + _ = _ := e1
        omega
      · show zcs σ s S ≤ cs
        have e2 : zcs σ s S + _ = _ := e2
        omega
    | inr o => exact ⟨hc, hs⟩
  obtain ⟨c1, c2⟩ := c12
  have ec := zcc_add x3 m2
  have es := zcs_add x3 m2
  refine ⟨fun q => absurd q (by decide), fun _ => ⟨fun q => absurd q (by decide), fun _ => ⟨fun _ => ?_, fun q => absurd rfl q⟩⟩⟩
  refine z_no (62, 0, 0, 0) (by show 1 ≤ cc; omega) (by show 2 ≤ cs; omega) (fun a ha hb => ?_)
  have ha : w1 a = none := ha
  have R1 := R.keepn (kp.new ha (x := ((62, 0, 0, 0), wo_o ciX22 [va_rf none, va_rf none])))
  have C1 := R1.1
  refine z_gA R1.2.2.1 rfl (z_gA C1.comp rfl (z_gI (C1.step hk hm hi) rfl (C1.types.vgetR hG hn (by omega) (z_cc (z_is (C1.type hn) ccX6) ⟨a, rfl, z_c (z22_init hG ha) (by omega) (by show 1 ≤ cc - 1; omega) (by show 4 ≤ cs - 2; omega) ?_⟩))))
  rintro y9 h2 ⟨rfl, ar, hne, har, d1, d2, k2⟩
  refine Or.inl ⟨rfl, ?_⟩
  have R2 := R.keepn k2
  have P2 := hp.keep k2 (fun _ _ q => q.elim)
  have T2 : zThg G A σ (a, ar, n) (fun _ => 0) h2 := ⟨hn, d1, d2⟩
  have R3 : zRS G A σ r e ch (a, ar, n) (zRF (fun _ => 0) (zRm s)) h2 := R2.mk.other T2
  have T : zThg G A σ th s.2.2.2.1 w1 := R.2.2.2.2.2.2.1
  have hC := z2_lone (j := 2) hG hw hr hd (q := (109, nI n, n, some (k, m, p))) (v := v) ⟨rfl, rfl⟩ (Or.inl rfl) (Or.inl rfl) hn R3 P2
  refine z_gI (R3.1.step hk hm hi) rfl (z_gA d1 rfl ⟨by omega, A 51 r 0, rfl, z2_isR R3, ?_⟩)
  generalize hQ : zpoint σ e.1 d (ch.map (fun x => x.2)) (109, nI n, n, some (k, m, p)) v (zRF (fun _ => 0) (zRm s)) = Q at hc hs m2 hC c1 c2 ec es b1 b2 ⊢
  obtain ⟨X, S⟩ := Q
  cases X with
  | inr o =>
    have c1 : zcc σ s S ≤ cc := c1
    have c2 : zcs σ s S ≤ cs := c2
    have ec : _ + zcc σ (zRF (fun _ => 0) (zRm s)) S = zcc σ s S := ec
    have es : _ + zcs σ (zRF (fun _ => 0) (zRm s)) S = zcs σ s S := es
    refine z_cPr hC (by omega) (by show zcc σ (zRF (fun _ => 0) (zRm s)) S - 1 ≤ cc - 1 - 1; omega) (by show zcs σ (zRF (fun _ => 0) (zRm s)) S - 4 ≤ cs - 2 - 4; omega) (fun x h3 R4 k4 ex => ?_)
    exact ⟨R4.other (zThg_other T har k2 k4), k0.trans (zSR_other har k2 k4), x, rfl, ex⟩
  | inl v1 =>
    have c1 : zcc σ s S ≤ cc := c1
    have c2 : zcs σ s S ≤ cs := c2
    have ec : _ + zcc σ (zRF (fun _ => 0) (zRm s)) S = zcc σ s S := ec
    have es : _ + zcs σ (zRF (fun _ => 0) (zRm s)) S = zcs σ s S := es
    have b1 : 2 ≤ zcc σ (zRF (fun _ => 0) (zRm s)) S := b1
    have b2 : 11 ≤ zcs σ (zRF (fun _ => 0) (zRm s)) S := b2
    have m3 : zl9 σ s S := x3.trans m2
    have m4 := zRk_mon (σ := σ) e.1 k m (p + 1) S
    have m5 := zpoint_mon (σ := σ) e.1 d (ch.map (fun x => x.2)) (99, nI j, n, some (k, m, p + 1)) v1 (zRk e.1 k m (p + 1) S)
    have hc : zcc σ s (zpoint σ e.1 d (ch.map (fun x => x.2)) (99, nI j, n, some (k, m, p + 1)) v1 (zRk e.1 k m (p + 1) S)).2 ≤ cc := hc
    have hs : zcs σ s (zpoint σ e.1 d (ch.map (fun x => x.2)) (99, nI j, n, some (k, m, p + 1)) v1 (zRk e.1 k m (p + 1) S)).2 ≤ cs := hs
    have e1 := zcc_add m3 (m4.trans m5)
    have e2 := zcs_add m3 (m4.trans m5)
    have e3 := zcc_add m4 m5
    have e4 := zcs_add m4 m5
    refine z_cPl hC (by omega) (by show zcc σ (zRF (fun _ => 0) (zRm s)) S - 1 ≤ cc - 1 - 1; omega) (by show zcs σ (zRF (fun _ => 0) (zRm s)) S - 4 ≤ cs - 2 - 4; omega) (fun h3 R4 k4 => ?_)
    refine z_gI (R4.1.step hk hm hi) rfl (z_gI R4.2.2.1 rfl ?_)
    rw [show nI p + 1 = nI (p + 1) from (nI_succ p).symm]
    refine z2_place (w := (h3, cc - 1 - 1 - (zcc σ (zRF (fun _ => 0) (zRm s)) S - 1), cs - 2 - 4 - (zcs σ (zRF (fun _ => 0) (zRm s)) S - 4))) (K := fun y w => vc_X2_done_362 G (36 * d + 75) _ y (nI k) v1 (nI j) (some a) (some (A 51 r 0)) w) hG hw hk hm hpl R4 (by omega) (by show _ ≤ cc - 1 - 1 - (zcc σ (zRF (fun _ => 0) (zRm s)) S - 1); omega) (by show _ ≤ cs - 2 - 4 - (zcs σ (zRF (fun _ => 0) (zRm s)) S - 4); omega) (fun dd5 h5 R5 P5 k5 => ?_)
    have hC5 := z2_call hG hw hr hd hj hB (v := v1) (pl := some (k, m, p + 1)) R5 P5
    refine ⟨A 51 r 0, rfl, z2_isR R5, z_cP hC5 (by omega) (by show zcc σ _ (zpoint σ e.1 d (ch.map (fun x => x.2)) (99, nI j, n, some (k, m, p + 1)) v1 (zRk e.1 k m (p + 1) S)).2 ≤ cc - 1 - 1 - (zcc σ (zRF (fun _ => 0) (zRm s)) S - 1) - _; omega) (by show zcs σ _ (zpoint σ e.1 d (ch.map (fun x => x.2)) (99, nI j, n, some (k, m, p + 1)) v1 (zRk e.1 k m (p + 1) S)).2 ≤ cs - 2 - 4 - (zcs σ (zRF (fun _ => 0) (zRm s)) S - 4) - _; omega) (fun v' h' e9 R' k' => ?_) (fun o x h' e9 R' k' ex => ?_)⟩
    · have k9 := (k4.trans k5).trans k'
      refine ⟨R'.other (zThg_other T har k2 k9), k0.trans (zSR_other har k2 k9), ?_⟩
      show zYr (zpoint σ e.1 d (ch.map (fun x => x.2)) (99, nI j, n, some (k, m, p + 1)) v1 (zRk e.1 k m (p + 1) S)).1 _ _
      rw [e9]
      rfl
    · have k9 := (k4.trans k5).trans k'
      refine ⟨R'.other (zThg_other T har k2 k9), k0.trans (zSR_other har k2 k9), ?_⟩
      show zYr (zpoint σ e.1 d (ch.map (fun x => x.2)) (99, nI j, n, some (k, m, p + 1)) v1 (zRk e.1 k m (p + 1) S)).1 _ _
      rw [e9]
      exact ⟨x, rfl, ex⟩
theorem zpls_c {x y : Int32} : zplaces (99, x, y) = 1 := by
  unfold zplaces
  show (if (99 : Int32) = 109 then 2 else if (99 : Int32) = 99 ∨ (99 : Int32) = 103 ∨ (99 : Int32) = 115 ∨ (99 : Int32) = 104 then 1 else 0) = 1
  decide
theorem zpls_gs {x y : Int32} (hc : c = 103 ∨ c = 115) : zplaces (c, x, y) = 1 := by
  rcases hc with rfl | rfl
  · show (if (103 : Int32) = 109 then 2 else if (103 : Int32) = 99 ∨ (103 : Int32) = 103 ∨ (103 : Int32) = 115 ∨ (103 : Int32) = 104 then 1 else 0) = 1
    decide
  · show (if (115 : Int32) = 109 then 2 else if (115 : Int32) = 99 ∨ (115 : Int32) = 103 ∨ (115 : Int32) = 115 ∨ (115 : Int32) = 104 then 1 else 0) = 1
    decide
theorem zpls_h {x y : Int32} : zplaces (104, x, y) = 1 := by
  show (if (104 : Int32) = 109 then 2 else if (104 : Int32) = 99 ∨ (104 : Int32) = 103 ∨ (104 : Int32) = 115 ∨ (104 : Int32) = 104 then 1 else 0) = 1
  decide
theorem zpls_m {x y : Int32} : zplaces (109, x, y) = 2 := by
  show (if (109 : Int32) = 109 then 2 else if (109 : Int32) = 99 ∨ (109 : Int32) = 103 ∨ (109 : Int32) = 115 ∨ (109 : Int32) = 104 then 1 else 0) = 2
  decide
/-- its place kept, a step is done -/
theorem z2_kinds (hG : wv_G0 G) (hw : zwf σ) (hr : zring σ = false) (hd : d + ch.length = 20) (hk : k < zn σ) (hm : m < 6) (hB : ∀ d', d = d' + 1 → zBC G A σ r e d') (hi : (zbody σ k m)[i]? = some st) (hok : zstOk (zn σ) st) (hpl : p + zplaces st ≤ (zspots σ k m).length) (R : zRS G A σ r e ch th s w.1) (hp : 0 < zplaces st → zPa σ e.1 (some (k, m, p)) dd w.1) (k0 : kp (zSR r th) h w.1) 
    (hc : zcc σ s (zdn1 e.1 (zpoint σ e.1 d (ch.map (fun x => x.2))) th.2.2 k m p st v s).2 ≤ w.2.1) (hs : zcs σ s (zdn1 e.1 (zpoint σ e.1 d (ch.map (fun x => x.2))) th.2.2 k m p st v s).2 ≤ w.2.2) :
    vc_X2_done_205 G (36 * d + 75) (zPo G A σ r e ch th (zdn1 e.1 (zpoint σ e.1 d (ch.map (fun x => x.2))) th.2.2 k m p st v s) h) (some (A 51 r 0)) (some th.1) (some (A 4 k 0)) (nI m) (some (A 8 (k * 6 + m) i)) (nI p) v (nI k) dd (zsw st.1) w := by
  obtain ⟨c, x, y⟩ := st
  rcases hok with (q | q | q) | ⟨q, n, hn, q2⟩ | ⟨q, ⟨n, hn, q2⟩, j, hj, q3⟩ | ⟨q | q, n, hn, q2⟩
  · have q : c = 110 := q
    subst q
    exact z2_s110 hG hw hr hd hk hm hB hi R k0
  · have q : c = 116 := q
    subst q
    exact z2_s116 hG hw hr hd hk hm hB hi R k0 hc hs
  · have q : c = 104 := q
    subst q
    exact z2_s104 hG hw hr hd hk hm hB R k0
  · have q : c = 99 := q
    have q2 : x = nI n := q2
    subst q
    subst q2
    exact z2_s99 hG hw hr hd hk hm hB hi hn R (hp (by rw [zpls_c]; decide)) k0 hc hs
  · have q : c = 109 := q
    have q2 : x = nI n := q2
    have q3 : y = nI j := q3
    subst q
    subst q2
    subst q3
    rw [zpls_m] at hpl
    exact z2_s109 hG hw hr hd hk hm hB hi hn hj (by omega) R (hp (by rw [zpls_m]; decide)) k0 hc hs
  · have q : c = 103 := q
    have q2 : x = nI n := q2
    subst q
    subst q2
    exact z2_s103 hG hw hr hd hk hm hB hi hn R (hp (by rw [zpls_gs (Or.inl rfl)]; decide)) k0 hc hs
  · have q : c = 115 := q
    have q2 : x = nI n := q2
    subst q
    subst q2
    exact z2_s115 hG hw hr hd hk hm hB hi hn R (hp (by rw [zpls_gs (Or.inr rfl)]; decide)) k0 hc hs
theorem zdn1_mon (hp : ∀ q v s, zl9 σ s (pt q v s).2) (wov : Bool) (ty k m p : Nat) (st : zSt) (v : Int32) (s : zR) : zl9 σ s (zdn1 wov pt ty k m p st v s).2 := by
  unfold zdn1
  show zl9 σ s (if _ then _ else if _ then _ else if _ then _ else if _ then _ else if _ then _ else _ : zX × zR).2
  split
  · exact zl9.refl _
  · split
    · exact hp _ _ _
    · split
      · have h2 := hp (109, st.2.1, zAt st.2.1, some (k, m, p)) v (zRF (fun _ => 0) (zRm s))
        have h3 : zl9 σ s (zRF (fun _ => 0) (zRm s)) := ⟨Nat.le_refl _, Nat.le_refl _, Nat.le_succ _, Nat.le_refl _⟩
        cases hq : pt (109, st.2.1, zAt st.2.1, some (k, m, p)) v (zRF (fun _ => 0) (zRm s)) with
        | mk x s1 =>
          rw [hq] at h2
          cases x with
          | inl v1 => exact ((h3.trans h2).trans (zRk_mon _ _ _ _ _)).trans (hp (99, st.2.2, zAt st.2.1, some (k, m, p + 1)) v1 (zRk wov k m (p + 1) s1))
          | inr o => exact h3.trans h2
      · split
        · exact hp _ _ _
        · split
          · split
            · exact zl9_re _
            · exact zl9.refl _
          · exact zl9.refl _
end ZX7
