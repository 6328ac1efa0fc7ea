/-! THE COMPONENT: a step done, kind by kind -/
section ZX6
variable {G : wv_G} {A A' : zA} {σ σ' : zS} {h h0 h1 h2 h' : wv_H} {w : wv_W} {fr fr' kc ks : Nat} {P : wv_R → wv_H → Prop} {KX : String → Nat → wv_W → Prop} {a b : Nat} {t ta tb : wv_T} {r : Nat} {tr : List zAc} {e : Bool × Int32 × Int32} {ch : List (Nat × zIn)} {th : Nat × Nat × Nat} {s s1 s2 : zR}
variable {act : Int32 → zM} {lam F : Nat} {c x y v : Int32} {i n k m p d ty : Nat} {l : List Nat} {pt : zPF} {st : zSt} {wov : Bool} {dd : Option Nat}
theorem zdn1_n : zdn1 wov pt ty k m p (110, x, y) v s = (.inl (v + x), s) := by
  unfold zdn1
  show (if (110 : Int32) = 110 then _ else _ : zX × zR) = _
  rw [if_pos rfl]
theorem zdn1_c : zdn1 wov pt ty k m p (99, x, y) v s = pt (99, x, ty, some (k, m, p)) v s := by
  unfold zdn1
  show (if (99 : Int32) = 110 then _ else if (99 : Int32) = 99 then _ else _ : zX × zR) = _
  rw [if_neg (show ¬ (99 : Int32) = 110 by decide), if_pos rfl]
theorem zdn1_m : zdn1 wov pt ty k m p (109, x, y) v s = match pt (109, x, zAt x, some (k, m, p)) v (zRF (fun _ => 0) (zRm s)) with
    | (.inl v1, s1) => ((pt (99, y, zAt x, some (k, m, p + 1)) v1 (zRk wov k m (p + 1) s1)).1, zRF s.2.2.2.1 (pt (99, y, zAt x, some (k, m, p + 1)) v1 (zRk wov k m (p + 1) s1)).2)
    | (x, s1) => (x, zRF s.2.2.2.1 s1) := by
  unfold zdn1
  show (if (109 : Int32) = 110 then _ else if (109 : Int32) = 99 then _ else if (109 : Int32) = 109 then _ else _ : zX × zR) = _
  rw [if_neg (show ¬ (109 : Int32) = 110 by decide), if_neg (show ¬ (109 : Int32) = 99 by decide), if_pos rfl]
  rfl
theorem zdn1_gs (hc : c = 103 ∨ c = 115) : zdn1 wov pt ty k m p (c, x, y) v s = pt (c, x, ty, some (k, m, p)) v s := by
  unfold zdn1
  show (if c = 110 then _ else if c = 99 then _ else if c = 109 then _ else if c = 103 ∨ c = 115 then _ else _ : zX × zR) = _
  rw [if_neg (by rcases hc with rfl | rfl <;> decide), if_neg (by rcases hc with rfl | rfl <;> decide), if_neg (by rcases hc with rfl | rfl <;> decide), if_pos hc]
theorem zdn1_t : zdn1 wov pt ty k m p (116, x, y) v s = (if y < v then (zraise x, zRe s) else (.inl v, s)) := by
  unfold zdn1
  show (if (116 : Int32) = 110 then _ else if (116 : Int32) = 99 then _ else if (116 : Int32) = 109 then _ else if (116 : Int32) = 103 ∨ (116 : Int32) = 115 then _ else if (116 : Int32) = 116 then _ else _ : zX × zR) = _
  rw [if_neg (show ¬ (116 : Int32) = 110 by decide), if_neg (show ¬ (116 : Int32) = 99 by decide), if_neg (show ¬ (116 : Int32) = 109 by decide), if_neg (show ¬ ((116 : Int32) = 103 ∨ (116 : Int32) = 115) by decide), if_pos rfl]
theorem zdn1_h : zdn1 wov pt ty k m p (104, x, y) v s = (.inl v, s) := by
  unfold zdn1
  show (if (104 : Int32) = 110 then _ else if (104 : Int32) = 99 then _ else if (104 : Int32) = 109 then _ else if (104 : Int32) = 103 ∨ (104 : Int32) = 115 then _ else if (104 : Int32) = 116 then _ else _ : zX × zR) = _
  rw [if_neg (show ¬ (104 : Int32) = 110 by decide), if_neg (show ¬ (104 : Int32) = 99 by decide), if_neg (show ¬ (104 : Int32) = 109 by decide), if_neg (show ¬ ((104 : Int32) = 103 ∨ (104 : Int32) = 115) by decide), if_neg (show ¬ (104 : Int32) = 116 by decide)]
-- ===== calls whose answer is known =====
theorem z_cPl {y : MethodName} {av : List Value} {S : zR} {K : Int32 → wv_W → Prop} (hC : wv_C G y av w.1 fr' kc ks (zPo G A σ r e ch th (.inl v, S) w.1)) (hf : fr' < fr) (hc : kc ≤ w.2.1) (hs : ks ≤ w.2.2)
    (hv : ∀ h', zRS G A σ r e ch th S h' → kp (zSR r th) w.1 h' → K v (h', w.2.1 - kc, w.2.2 - ks)) : wv_c0 G fr y av w (wv_rI K KX) :=
  z_cP hC hf hc hs (fun v' h' e1 R' k' => by cases e1; exact hv h' R' k') (fun o x h' e1 R' k' ex => by cases e1)
theorem z_cPr {y : MethodName} {av : List Value} {S : zR} {o : Option Int32} {K : Int32 → wv_W → Prop} (hC : wv_C G y av w.1 fr' kc ks (zPo G A σ r e ch th (.inr o, S) w.1)) (hf : fr' < fr) (hc : kc ≤ w.2.1) (hs : ks ≤ w.2.2)
    (hx : ∀ x h', zRS G A σ r e ch th S h' → kp (zSR r th) w.1 h' → zEx h' x o → KX (zEn o) x (h', w.2.1 - kc, w.2.2 - ks)) : wv_c0 G fr y av w (wv_rI K KX) :=
  z_cP hC hf hc hs (fun v' h' e1 R' k' => by cases e1) (fun o' x h' e1 R' k' ex => by cases e1; exact hx x h' R' k' ex)
/-- handed on -/
theorem z_cPo {y : MethodName} {av : List Value} {Q : zX × zR} (hC : wv_C G y av w.1 fr' kc ks (zPo G A σ r e ch th Q w.1)) (hf : fr' < fr) (hc : kc ≤ w.2.1) (hs : ks ≤ w.2.2) (k : kp (zSR r th) h w.1) : wv_c0 G fr y av w (wv_rI (fun x w' => zPo G A σ r e ch th Q h (.inl (some (.int x))) w'.1) (wv_pr (zPo G A σ r e ch th Q h))) := by
  refine z_cP hC hf hc hs (fun v' h' e1 R' k' => ⟨R', k.trans k', ?_⟩) (fun o x h' e1 R' k' ex => ⟨R', k.trans k', ?_⟩)
  · show zYr _ _ _
    rw [e1]
    rfl
  · show zYr _ _ _
    rw [e1]
    exact ⟨x, rfl, ex⟩
/-- another's answer, with what was the object's fields -/
theorem zPo.back {Q : zX × zR} {f : Nat → Int32} {th' : Nat × Nat × Nat} {y : wv_R} (R : zRS G A σ r e ch th' Q.2 h2) (T : zThg G A σ th f h2) (k : kp (zSR r th) h h2) (hy : zYr Q.1 y h2) : zPo G A σ r e ch th (Q.1, zRF f Q.2) h y h2 := ⟨R.other T, k, hy⟩
theorem z2_s110 (hG : wv_G0 G) (hw : zwf σ) (hr : zring σ = false) (hd : d + ch.length = 20) (hk : k < zn σ) (hm : m < 6) (hB : ∀ d', d = d' + 1 → zBC G A σ r e d') (hi : (zbody σ k m)[i]? = some (110, x, y)) (R : zRS G A σ r e ch th s w.1) (k0 : kp (zSR r th) h w.1) :
    vc_X2_done_205 G (36 * d + 75) (zPo G A σ r e ch th (zdn1 e.1 (zpoint σ e.1 d (ch.map (fun x => x.2))) th.2.2 k m p (110, x, y) v s) h) (some (A 51 r 0)) (some th.1) (some (A 4 k 0)) (nI m) (some (A 8 (k * 6 + m) i)) (nI p) v (nI k) dd (zsw 110) w := by
  rw [show zsw 110 = 0 by decide, zdn1_n]
  exact ⟨fun _ => z_gI (R.1.step hk hm hi) rfl ⟨R, k0, rfl⟩, fun q => absurd rfl q⟩
theorem z2_s104 (hG : wv_G0 G) (hw : zwf σ) (hr : zring σ = false) (hd : d + ch.length = 20) (hk : k < zn σ) (hm : m < 6) (hB : ∀ d', d = d' + 1 → zBC G A σ r e d') (R : zRS G A σ r e ch th s w.1) (k0 : kp (zSR r th) h w.1) :
    vc_X2_done_205 G (36 * d + 75) (zPo G A σ r e ch th (zdn1 e.1 (zpoint σ e.1 d (ch.map (fun x => x.2))) th.2.2 k m p (104, x, y) v s) h) (some (A 51 r 0)) (some th.1) (some (A 4 k 0)) (nI m) (some (A 8 (k * 6 + m) i)) (nI p) v (nI k) dd (zsw 104) w := by
  rw [show zsw 104 = -1 by decide, zdn1_h]
  exact ⟨fun q => absurd q (by decide), fun _ => ⟨fun q => absurd q (by decide), fun _ => ⟨fun q => absurd q (by decide), fun _ => ⟨fun q => absurd q (by decide), fun _ => ⟨fun q => absurd q (by decide), fun _ => ⟨fun q => absurd q (by decide), fun _ => ⟨R, k0, rfl⟩⟩⟩⟩⟩⟩⟩
theorem z2_s116 (hG : wv_G0 G) (hw : zwf σ) (hr : zring σ = false) (hd : d + ch.length = 20) (hk : k < zn σ) (hm : m < 6) (hB : ∀ d', d = d' + 1 → zBC G A σ r e d') (hi : (zbody σ k m)[i]? = some (116, x, y)) (R : zRS G A σ r e ch th s w.1) (k0 : kp (zSR r th) h w.1) 
    (hc : zcc σ s (zdn1 e.1 (zpoint σ e.1 d (ch.map (fun x => x.2))) th.2.2 k m p (116, x, y) v s).2 ≤ w.2.1) (hs : zcs σ s (zdn1 e.1 (zpoint σ e.1 d (ch.map (fun x => x.2))) th.2.2 k m p (116, x, y) v s).2 ≤ w.2.2) :
    vc_X2_done_205 G (36 * d + 75) (zPo G A σ r e ch th (zdn1 e.1 (zpoint σ e.1 d (ch.map (fun x => x.2))) th.2.2 k m p (116, x, y) v s) h) (some (A 51 r 0)) (some th.1) (some (A 4 k 0)) (nI m) (some (A 8 (k * 6 + m) i)) (nI p) v (nI k) dd (zsw 116) w := by
  rw [zdn1_t] at hc hs
  rw [show zsw 116 = 5 by decide, zdn1_t]
  have c8 := R.1.step hk hm hi
  refine ⟨fun q => absurd q (by decide), fun _ => ⟨fun q => absurd q (by decide), fun _ => ⟨fun q => absurd q (by decide), fun _ => ⟨fun q => absurd q (by decide), fun _ => ⟨fun q => absurd q (by decide), fun _ => ⟨fun _ => z_gI c8 rfl ⟨fun q => ?_, fun q => ?_⟩, fun q => absurd rfl q⟩⟩⟩⟩⟩⟩
  · rw [if_neg (Int32.not_lt.mpr q)]
    exact ⟨R, k0, rfl⟩
  · have q2 : y < v := Int32.not_le.mp q
    rw [if_pos q2] at hc hs ⊢
    obtain ⟨x1, x2⟩ := zRe_cost (σ := σ) (s := s)
    have hc : zcc σ s (zRe s) ≤ w.2.1 := hc
    have hs : zcs σ s (zRe s) ≤ w.2.2 := hs
    refine z_no (64, 0, 0, 0) (by omega) (by omega) (fun a ha hb => ?_)
    have ha : w.1 a = none := ha
    refine z_gI (z_upn ha c8) rfl ⟨a, rfl, z_c (z23_init hG (by decide)) (by omega) (Nat.zero_le _) (Nat.zero_le _) ?_⟩
    rintro y h' ⟨rfl, fs, f1, f2, rfl⟩
    have k9 : kp kn w.1 (wv_up w.1 a ((64, 0, 0, 0), wo_o ciX23 fs)) := kp.new ha
    exact Or.inl ⟨rfl, z_at wv_up_self ccX23 ⟨R.keepn k9, k0.trans (kn.to k9), a, rfl, fs, wv_up_self, f2⟩⟩
theorem z2_s99 (hG : wv_G0 G) (hw : zwf σ) (hr : zring σ = false) (hd : d + ch.length = 20) (hk : k < zn σ) (hm : m < 6) (hB : ∀ d', d = d' + 1 → zBC G A σ r e d') (hi : (zbody σ k m)[i]? = some (99, nI n, y)) (hn : n < 6) (R : zRS G A σ r e ch th s w.1) (hp : zPa σ e.1 (some (k, m, p)) dd w.1) (k0 : kp (zSR r th) h w.1) 
    (hc : zcc σ s (zdn1 e.1 (zpoint σ e.1 d (ch.map (fun x => x.2))) th.2.2 k m p (99, nI n, y) v s).2 ≤ w.2.1) (hs : zcs σ s (zdn1 e.1 (zpoint σ e.1 d (ch.map (fun x => x.2))) th.2.2 k m p (99, nI n, y) v s).2 ≤ w.2.2) :
    vc_X2_done_205 G (36 * d + 75) (zPo G A σ r e ch th (zdn1 e.1 (zpoint σ e.1 d (ch.map (fun x => x.2))) th.2.2 k m p (99, nI n, y) v s) h) (some (A 51 r 0)) (some th.1) (some (A 4 k 0)) (nI m) (some (A 8 (k * 6 + m) i)) (nI p) v (nI k) dd (zsw 99) w := by
  rw [zdn1_c] at hc hs
  rw [show zsw 99 = 1 by decide, zdn1_c]
  have hC := z2_call hG hw hr hd hn hB (v := v) (pl := some (k, m, p)) R hp
  exact ⟨fun q => absurd q (by decide), fun _ => ⟨fun _ => z_gI (R.1.step hk hm hi) rfl ⟨A 51 r 0, rfl, z2_isR R, z_cPo hC (by omega) hc hs k0⟩, fun q => absurd rfl q⟩⟩
theorem z2_s103 (hG : wv_G0 G) (hw : zwf σ) (hr : zring σ = false) (hd : d + ch.length = 20) (hk : k < zn σ) (hm : m < 6) (hB : ∀ d', d = d' + 1 → zBC G A σ r e d') (hi : (zbody σ k m)[i]? = some (103, nI n, y)) (hn : n < 4) (R : zRS G A σ r e ch th s w.1) (hp : zPa σ e.1 (some (k, m, p)) dd w.1) (k0 : kp (zSR r th) h w.1) 
    (hc : zcc σ s (zdn1 e.1 (zpoint σ e.1 d (ch.map (fun x => x.2))) th.2.2 k m p (103, nI n, y) v s).2 ≤ w.2.1) (hs : zcs σ s (zdn1 e.1 (zpoint σ e.1 d (ch.map (fun x => x.2))) th.2.2 k m p (103, nI n, y) v s).2 ≤ w.2.2) :
    vc_X2_done_205 G (36 * d + 75) (zPo G A σ r e ch th (zdn1 e.1 (zpoint σ e.1 d (ch.map (fun x => x.2))) th.2.2 k m p (103, nI n, y) v s) h) (some (A 51 r 0)) (some th.1) (some (A 4 k 0)) (nI m) (some (A 8 (k * 6 + m) i)) (nI p) v (nI k) dd (zsw 103) w := by
  rw [zdn1_gs (Or.inl rfl)] at hc hs
  rw [show zsw 103 = 3 by decide, zdn1_gs (Or.inl rfl)]
  obtain ⟨b1, b2⟩ := zpoint_cost (σ := σ) e.1 d (ch.map (fun x => x.2)) (103, nI n, th.2.2, some (k, m, p)) v s
  obtain ⟨-, -, -, -, -, -, ⟨t1, t2, t3⟩, -⟩ := id R
  have c8 := R.1.step hk hm hi
  refine ⟨fun q => absurd q (by decide), fun _ => ⟨fun q => absurd q (by decide), fun _ => ⟨fun q => absurd q (by decide), fun _ => ⟨fun _ => z_gI c8 rfl (z_gA t2 rfl ⟨by omega, by omega, by show 2 ≤ w.2.2; omega, fun a ha _ => ⟨(63, 0, 0, 0), ?_⟩⟩), fun q => absurd rfl q⟩⟩⟩⟩
  have ha : w.1 a = none := ha
  have R2 := R.lamb ha (o := wo_M 3 [.ref th.1, .ref (A 8 (k * 6 + m) i)])
  have P2 := hp.keep (kp.new (S := kn) (x := ((63, 0, 0, 0), wo_M 3 [.ref th.1, .ref (A 8 (k * 6 + m) i)])) ha) (fun _ _ x => x.elim)
  have hC := z2_point (F := 36 * d + 44) (lam := a) hG hw hr hd (q := (103, nI n, th.2.2, some (k, m, p))) (v := v) ⟨rfl, rfl⟩ t1 R2 P2 (by omega) (fun d' hdd a' => zac_g hG (j := n) rfl rfl hn wv_up_self (z_upn ha c8) (by show 8 < 50; decide))
  exact ⟨A 51 r 0, rfl, z2_isR R2, z_cPo hC (by omega) (by show zcc σ s _ - 1 ≤ w.2.1 - 1; omega) (by show zcs σ s _ - 4 ≤ w.2.2 - 2; omega) (k0.trans (kp.new ha))⟩
theorem z2_s115 (hG : wv_G0 G) (hw : zwf σ) (hr : zring σ = false) (hd : d + ch.length = 20) (hk : k < zn σ) (hm : m < 6) (hB : ∀ d', d = d' + 1 → zBC G A σ r e d') (hi : (zbody σ k m)[i]? = some (115, nI n, y)) (hn : n < 4) (R : zRS G A σ r e ch th s w.1) (hp : zPa σ e.1 (some (k, m, p)) dd w.1) (k0 : kp (zSR r th) h w.1) 
    (hc : zcc σ s (zdn1 e.1 (zpoint σ e.1 d (ch.map (fun x => x.2))) th.2.2 k m p (115, nI n, y) v s).2 ≤ w.2.1) (hs : zcs σ s (zdn1 e.1 (zpoint σ e.1 d (ch.map (fun x => x.2))) th.2.2 k m p (115, nI n, y) v s).2 ≤ w.2.2) :
    vc_X2_done_205 G (36 * d + 75) (zPo G A σ r e ch th (zdn1 e.1 (zpoint σ e.1 d (ch.map (fun x => x.2))) th.2.2 k m p (115, nI n, y) v s) h) (some (A 51 r 0)) (some th.1) (some (A 4 k 0)) (nI m) (some (A 8 (k * 6 + m) i)) (nI p) v (nI k) dd (zsw 115) w := by
  rw [zdn1_gs (Or.inr rfl)] at hc hs
  rw [show zsw 115 = 4 by decide, zdn1_gs (Or.inr rfl)]
  obtain ⟨b1, b2⟩ := zpoint_cost (σ := σ) e.1 d (ch.map (fun x => x.2)) (115, nI n, th.2.2, some (k, m, p)) v s
  obtain ⟨-, -, -, -, -, -, ⟨t1, t2, t3⟩, -⟩ := id R
  have c8 := R.1.step hk hm hi
  refine ⟨fun q => absurd q (by decide), fun _ => ⟨fun q => absurd q (by decide), fun _ => ⟨fun q => absurd q (by decide), fun _ => ⟨fun q => absurd q (by decide), fun _ => ⟨fun _ => z_gI c8 rfl (z_gA t2 rfl ⟨by omega, by omega, by show 3 ≤ w.2.2; omega, fun a ha _ => ⟨(63, 0, 0, 0), ?_⟩⟩), fun q => absurd rfl q⟩⟩⟩⟩⟩
  have ha : w.1 a = none := ha
  have R2 := R.lamb ha (o := wo_M 4 [.ref (A 51 r 0), .ref th.1, .ref (A 8 (k * 6 + m) i)])
  have P2 := hp.keep (kp.new (S := kn) (x := ((63, 0, 0, 0), wo_M 4 [.ref (A 51 r 0), .ref th.1, .ref (A 8 (k * 6 + m) i)])) ha) (fun _ _ x => x.elim)
  have hC := z2_point (F := 36 * d + 44) (lam := a) hG hw hr hd (q := (115, nI n, th.2.2, some (k, m, p))) (v := v) ⟨rfl, rfl⟩ t1 R2 P2 (by omega) (fun d' hdd a' => zac_s hG (j := n) rfl rfl hn wv_up_self (z_upn ha c8) (by show 8 < 50; decide) (by omega))
  exact ⟨A 51 r 0, rfl, z2_isR R2, z_cPo hC (by omega) (by show zcc σ s _ - 1 ≤ w.2.1 - 1; omega) (by show zcs σ s _ - 4 ≤ w.2.2 - 3; omega) (k0.trans (kp.new ha))⟩
end ZX6
