/-! THE REFERENCE: a point -/
section ZTY
variable {G : wv_G} {B B' : zA} {σ σ' : zS} {h h0 h1 h2 h' : wv_H} {w : wv_W} {fr fr' kc ks : Nat} {P : wv_R → wv_H → Prop} {KX : String → Nat → wv_W → Prop} {a b L : Nat} {t : wv_T} {n k m p : Nat} {ps : List Nat} {l : List zIn} {th : Int32} {wov : Bool} {s s1 s2 s' : zR} {cp : Nat × Nat} {D : zD} {T : Nat × Nat × Nat}
variable {act : Int32 → zM} {F d : Nat} {Q : zX × zR} {v' qc qn v mm ix : Int32} {pl : Option (Nat × Nat × Nat)}
/-- taken off, whatever the end -/
theorem z26_pop (hG : wv_G0 G) {i : zIn} {K : Option Nat → wv_W → Prop} (R : zTS G B σ th L D wov (b :: ps) (i :: l) T s w.1) (hf : 2 < fr) (hK : ∀ x h', zTS G B σ th L D wov ps l T s h' → kp (zSD D T) w.1 h' → K x (h', w.2)) :
    wv_gA w (some D.1) ciX26 1 (fun x157 => wv_gA w (some D.1) ciX26 1 (fun x161 => wv_cV G fr yJ2_size x161 [] w (wv_rI (fun x164 w164 => wv_cV G fr yJ2_remove x157 [.int (x164 - (1 : Int32))] w164 (wv_rA (fun x169 w169 => K x169 w169) KX)) KX))) := by
  have hl := R.2.2.2.1
  rw [List.reverse_cons] at hl
  refine z_gA R.2.1 rfl (z_gA R.2.1 rfl (hl.vsize hG (by omega) ?_))
  have e : nI (ps.reverse ++ [b]).length - 1 = nI ps.reverse.length := by
    rw [List.length_append]
    exact nI_pred _
  rw [e]
  refine hl.pop hG rfl hf (fun h' l2 o2 => ?_)
  obtain ⟨R2, k2⟩ := R.pop l2 o2
  exact hK _ h' R2 k2
theorem z26_p24 (hG : wv_G0 G) (R : zTS G B σ th L D wov ps l T s w.1) (k0 : kp (zSD D T) h w.1) (hf : 5 < fr) (hc : 1 ≤ w.2.1) (hs : 6 ≤ w.2.2) : vc_X26_point_24 G fr (zDo G B σ th L D wov ps l T (zup, zRe s) h) w :=
  zup4 hG hf hc hs (fun x h3 k3 ex3 => ⟨R.keepn k3, k0.trans (kn.to k3), x, rfl, ex3⟩)
set_option maxHeartbeats 4000000 in
theorem z26_point (hG : wv_G0 G) (hw : zwf σ) (ht : zwt σ) (hr : zring σ = false) (hcp : zcpo σ wov cp) (hd : d + ps.length = 20) (hfit : wv_fit .char qc) (hq : zQx σ pl qc (zinfo (qc, qn, T.2.2, pl) v).2.2.2.1 mm ix) (R : zTS G B σ th L D wov ps l T s h) (hF : 10 ≤ F)
    (hA : ∀ d', d = d' + 1 → ∀ (b : Nat) (h1 : wv_H) (hd : Int32), h1 b = some ((143, 0, 0, 0), zpnO qc qn (nI T.2.2) (zinfo (qc, qn, T.2.2, pl) v).2.2.2.1 mm ix v hd) → zAc4 G B σ th L D wov (b :: ps) (zinfo (qc, qn, T.2.2, pl) v :: l) T cp h1 b F (zact σ wov (zpoint σ wov d' (zinfo (qc, qn, T.2.2, pl) v :: l)) (qc, qn, T.2.2, pl))) :
    wv_C G yX26_point [.ref D.1, .int qc, .int qn, .ref T.1, .int (zinfo (qc, qn, T.2.2, pl) v).2.2.2.1, .int mm, .int ix, .int v] h (F + 28) (zdc σ cp s (zpoint σ wov d l (qc, qn, T.2.2, pl) v s).2 - 1) (zds σ cp s (zpoint σ wov d l (qc, qn, T.2.2, pl) v s).2 - 4) (zDo G B σ th L D wov ps l T (zpoint σ wov d l (qc, qn, T.2.2, pl) v s) h) := by
  have h24 := hw.2.2.1
  have h12 := hw.2.2.2.2.1
  have h120 := R.2.2.2.2.2.2.2.2
  obtain ⟨b1, b2⟩ := zdc_point (σ := σ) (cp := cp) wov d l (qc, qn, T.2.2, pl) v s
  -- given up
  have up : (d = 0 ∨ s.1 = 120) → vc_X26_point_24 G (F + 28) (zDo G B σ th L D wov ps l T (zpoint σ wov d l (qc, qn, T.2.2, pl) v s) h) (h, zdc σ cp s (zpoint σ wov d l (qc, qn, T.2.2, pl) v s).2 - 1, zds σ cp s (zpoint σ wov d l (qc, qn, T.2.2, pl) v s).2 - 4) := by
    intro hu
    rw [zpoint_up (e := (wov, 0, 0)) hu] at b1 b2 ⊢
    exact z26_p24 (w := (h, zdc σ cp s (zRe s) - 1, zds σ cp s (zRe s) - 4)) hG R (kp.refl h) (by omega) (by show 1 ≤ zdc σ cp s (zRe s) - 1; have b1 : 2 ≤ zdc σ cp s (zRe s) := b1; omega) (by show 6 ≤ zds σ cp s (zRe s) - 4; have b2 : 11 ≤ zds σ cp s (zRe s) := b2; omega)
  refine wk_X26_point (v0 := some D.1) (v3 := some T.1) hG (z_gA R.2.1 rfl (z_gI R.2.2.1 rfl ⟨fun q9 => ?_, fun q9 => ?_⟩))
  · exact up (Or.inr ((nI_eq (a := s.1) (b := 120) (by omega) (by decide)).mp q9))
  have hs120 : ¬ s.1 = 120 := fun e => q9 (by rw [e]; decide)
  refine z_gA R.2.1 rfl (R.2.2.2.1.vsize hG (by omega) ?_)
  rw [List.length_reverse]
  refine ⟨fun q8 => ?_, fun q8 => up (Or.inl (by have : ps.length = 20 := (nI_eq (a := ps.length) (b := 20) (by omega) (by decide)).mp q8; omega))⟩
  obtain ⟨d', hdd⟩ : ∃ d', d = d' + 1 := by
    cases d with
    | zero => exact absurd (by rw [show ps.length = 20 by omega]; decide) q8
    | succ d' => exact ⟨d', rfl⟩
  clear up
  have hA1 := hA d' hdd
  subst hdd
  have ep : zpoint σ wov (d' + 1) l (qc, qn, T.2.2, pl) v s = zgo σ (zact σ wov (zpoint σ wov d' (zinfo (qc, qn, T.2.2, pl) v :: l)) (qc, qn, T.2.2, pl)) ((zoa σ).filter (ztakes σ wov pl (zinfo (qc, qn, T.2.2, pl) v :: l))) v (zRq (zasn σ wov pl (zoa σ)) (zRp s)) := by
    rw [zpoint]
    show (if s.1 = 120 then (zup, zRe s) else _ : zX × zR) = _
    rw [if_neg hs120]
    rfl
  have hmon : ∀ v' s, zdl σ cp s (zact σ wov (zpoint σ wov d' (zinfo (qc, qn, T.2.2, pl) v :: l)) (qc, qn, T.2.2, pl) v' s).2 := fun v' s => zdl_act (fun q v s => zdl_point wov d' _ q v s) wov _ v' s
  obtain ⟨m1, hcc, hcs⟩ := zdl_p (σ := σ) (cp := cp) (zasn σ wov pl (zoa σ)) s
  have m2 := zdl_go (σ := σ) (cp := cp) hmon ((zoa σ).filter (ztakes σ wov pl (zinfo (qc, qn, T.2.2, pl) v :: l))) v (zRq (zasn σ wov pl (zoa σ)) (zRp s))
  have ec := zdc_add m1 m2
  have es := zds_add m1 m2
  rw [hcc] at ec
  rw [hcs] at es
  rw [ep] at b1 b2 ⊢
  have hfl : ((zoa σ).filter (ztakes σ wov pl (zinfo (qc, qn, T.2.2, pl) v :: l))).length ≤ 12 := by
    have := List.length_filter_le (ztakes σ wov pl (zinfo (qc, qn, T.2.2, pl) v :: l)) (zoa σ)
    rw [zoa_len hw hr] at this
    omega
  have hfm : ∀ n ∈ (zoa σ).filter (ztakes σ wov pl (zinfo (qc, qn, T.2.2, pl) v :: l)), n < σ.2.2.1.length := fun n hn => zoa_lt n (List.mem_filter.mp hn).1
  -- the counter
  refine z_gA R.2.1 rfl (z_gI R.2.2.1 rfl (z_pt R.2.2.1 (by decide) (by simp) ?_))
  obtain ⟨R1, k1⟩ := R.res (s' := zRp s) rfl (show s.1 + 1 ≤ 120 by omega)
  have e9 : wv_up h D.2.1 ((130, 0, 0, 0), wo_o ciX5 ([va_rf (some D.2.2.2.2), .int 32, .int 0, .int (nI s.1), .int (nI s.2.1)].set 3 (.int (nI s.1 + 1)))) = wv_up h D.2.1 ((130, 0, 0, 0), zDq D (zRp s)) := by
    rw [← nI_succ]
    rfl
  rw [e9]
  generalize wv_up h D.2.1 ((130, 0, 0, 0), zDq D (zRp s)) = h1 at R1 k1 ⊢
  -- what goes on
  generalize hQ : zgo σ (zact σ wov (zpoint σ wov d' (zinfo (qc, qn, T.2.2, pl) v :: l)) (qc, qn, T.2.2, pl)) ((zoa σ).filter (ztakes σ wov pl (zinfo (qc, qn, T.2.2, pl) v :: l))) v (zRq (zasn σ wov pl (zoa σ)) (zRp s)) = Q at ec es m2 b1 b2 ⊢
  generalize hC1 : zdc σ cp s Q.2 - 1 = c1
  generalize hS1 : zds σ cp s Q.2 - 4 = c2
  generalize hC2 : zdc σ cp (zRq (zasn σ wov pl (zoa σ)) (zRp s)) Q.2 = g1 at ec
  generalize hS2 : zds σ cp (zRq (zasn σ wov pl (zoa σ)) (zRp s)) Q.2 = g2 at es
  -- what it holds
  refine z_loop σ.2.1.length (by omega) (fun u => u.2.2.2.2.2.2.2.2.2) (fun j u w => u = (some D.1, qc, qn, some T.1, (zinfo (qc, qn, T.2.2, pl) v).2.2.2.1, mm, ix, v, zm (fun n => zhold σ n (zinfo (qc, qn, T.2.2, pl) v :: l)) j, nI j) ∧ kp kn h1 w.1 ∧ (σ.2.1.length - j) + (6 + cp.1 * σ.2.2.1.length + g1) ≤ w.2.1 ∧ 4 * (σ.2.1.length - j) + (62 + cp.2 * σ.2.2.1.length + g2) ≤ w.2.2) rfl ⟨rfl, kp.refl _, by show _ ≤ c1; omega, by show _ ≤ c2; omega⟩ ?_
  rintro K j _ w hj - ⟨rfl, kw, bc, bs⟩ hK
  have Rw := R1.keepn kw
  refine z_gA Rw.2.1 rfl (z_gI Rw.1.1 rfl (pk_le σ.2.1.length j (fun hle => ?_) (fun hlt => ?_)))
  · -- all looked at: the point
    have e : j = σ.2.1.length := by omega
    subst e
    rw [Nat.sub_self] at bc bs
    have hh : ∀ n, n < σ.2.1.length → zb (zm (fun n => zhold σ n (zinfo (qc, qn, T.2.2, pl) v :: l)) σ.2.1.length) n = zhold σ n (zinfo (qc, qn, T.2.2, pl) v :: l) := fun n hn => by
      rw [zb_zm (by omega), decide_eq_true hn, Bool.true_and]
    generalize zm (fun n => zhold σ n (zinfo (qc, qn, T.2.2, pl) v :: l)) σ.2.1.length = hd at hh ⊢
    refine z_no (143, 0, 0, 0) (by omega) (by omega) (fun a ha _ => ?_)
    have ha : w.1 a = none := ha
    have R2 := Rw.keepn (kp.new (x := ((143, 0, 0, 0), wo_o ciX29 [.int 0, .int 0, .int 0, .int 0, .int 0, .int 0, .int 0, .int 0])) ha)
    refine z_gI R2.2.2.2.2.2.2.2.1.2.1 rfl (z_iV (z29_init hG (by decide) hfit) (by omega) ?_)
    have k3 : kp kn w.1 (wv_up w.1 a ((143, 0, 0, 0), zpnO qc qn (nI T.2.2) (zinfo (qc, qn, T.2.2, pl) v).2.2.2.1 mm ix v hd)) := kp.new ha
    have a3 : wv_up w.1 a ((143, 0, 0, 0), zpnO qc qn (nI T.2.2) (zinfo (qc, qn, T.2.2, pl) v).2.2.2.1 mm ix v hd) a = some ((143, 0, 0, 0), zpnO qc qn (nI T.2.2) (zinfo (qc, qn, T.2.2, pl) v).2.2.2.1 mm ix v hd) := wv_up_self
    show wv_gA (wv_up w.1 a ((143, 0, 0, 0), zpnO qc qn (nI T.2.2) (zinfo (qc, qn, T.2.2, pl) v).2.2.2.1 mm ix v hd), w.2.1 - 1, w.2.2 - 8) _ _ _ _
    generalize wv_up w.1 a ((143, 0, 0, 0), zpnO qc qn (nI T.2.2) (zinfo (qc, qn, T.2.2, pl) v).2.2.2.1 mm ix v hd) = h3 at k3 a3 ⊢
    have R3 := Rw.keepn k3
    have el : ∀ x ∈ ps.reverse, wl_el G h3 x := by
      intro x hx
      obtain ⟨o, ho⟩ := zOpn_mem R3.2.2.2.2.2.2.1 x (List.mem_reverse.mp hx)
      exact z_el (z_is ho ccX29) q2638
    refine z_gA R3.2.1 rfl (R3.2.2.2.1.cadd hG (z_el (z_is a3 ccX29) q2638) el (by rw [List.length_reverse]; omega) (by omega) (by show 1 ≤ w.2.1 - 1; omega) (by show 22 ≤ w.2.2 - 8; omega) (fun h4 c4 s4 l4 o4 hc4 hs4 => ?_))
    rw [← List.reverse_cons] at l4
    obtain ⟨R4, k4⟩ := R3.push (i := zinfo (qc, qn, T.2.2, pl) v) l4 o4 ⟨mm, ix, hd, a3, hh⟩
    have a4 : h4 a = some ((143, 0, 0, 0), zpnO qc qn (nI T.2.2) (zinfo (qc, qn, T.2.2, pl) v).2.2.2.1 mm ix v hd) := k4 _ _ a3 (zSD_n 143 (by decide) rfl)
    have hc4 : w.2.1 - 1 - 1 ≤ c4 := hc4
    have hs4 : w.2.2 - 8 - 22 ≤ s4 := hs4
    refine ⟨D.1, rfl, R4.is, z_c (z26_around (i := zinfo (qc, qn, T.2.2, pl) v) (pl := pl) hG hw ht hr hcp R4 a4 hh hq) (by omega) (by show _ ≤ c4; omega) (by show _ ≤ s4; omega) ?_⟩
    rintro y h5 ⟨al, rfl, f5, l5, R5, k5⟩
    have a5 : h5 a = some ((143, 0, 0, 0), zpnO qc qn (nI T.2.2) (zinfo (qc, qn, T.2.2, pl) v).2.2.2.1 mm ix v hd) := k5 _ _ a4 (zSD_n 143 (by decide) rfl)
    have kh5 : kp (zSD D T) h h5 := ((k1.trans (kn.to kw)).trans (kn.to k3)).trans (k4.trans k5)
    refine Or.inl ⟨_, rfl, ?_⟩
    have hgo := z26_goes (cp := cp) hG hw hF (hA1 a h5 hd a5) hmon l5 hfm hfl ((zoa σ).filter (ztakes σ wov pl (zinfo (qc, qn, T.2.2, pl) v :: l))) 0 rfl (Nat.zero_le _) v _ h5 R5 (kp.refl _)
    have hQ2 : zgo σ (zact σ wov (zpoint σ wov d' (zinfo (qc, qn, T.2.2, pl) v :: l)) (qc, qn, T.2.2, pl)) ((zoa σ).filter (ztakes σ wov pl (zinfo (qc, qn, T.2.2, pl) v :: l))) v (zRq (zasn σ wov pl (zoa σ)) (zRp s)) = Q := hQ
    rw [hQ2, nI_0] at hgo
    refine ⟨D.1, rfl, R5.is, z_dP hgo (by omega) (by rw [hC2]; show g1 ≤ c4 - _; omega) (by rw [hS2]; show g2 ≤ s4 - _; omega) (fun v6 h6 e6 R6 k6 => ?_) (fun o x6 h6 e6 R6 k6 ex6 => ?_)⟩
    · refine z26_pop hG R6 (by omega) (fun x h7 R7 k7 => ⟨R7, (kh5.trans k6).trans k7, ?_⟩)
      rw [e6]
      rfl
    · refine z26_pop (K := fun _ w => wv_at w (some x6) _) hG R6 (by omega) (fun x h7 R7 k7 => ?_)
      have ex7 := ex6.keep k7 zSD_150
      refine zEx4.at (w := (h7, _, _)) ex7 ⟨R7, (kh5.trans k6).trans k7, ?_⟩
      rw [e6]
      exact ⟨x6, rfl, ex7⟩
  · -- one pattern
    have hp : σ.2.1[j]? = some σ.2.1[j] := List.getElem?_eq_getElem hlt
    generalize σ.2.1[j] = p at hp
    have hl20 : ps.length ≤ 20 := by omega
    have hC := z26_holdsNow (h := w.1) (th := th) (L := L) (i := zinfo (qc, qn, T.2.2, pl) v) (hd := zm (fun n => zhold σ n (zinfo (qc, qn, T.2.2, pl) v :: l)) j) hG hw ht Rw.1 hp Rw.2.1 Rw.2.2.2.1 hl20 Rw.2.2.2.2.2.2.1 Rw.2.2.2.2.2.2.2.1.1 (fun n hn => by rw [zb_zm (by omega), decide_eq_true hn, Bool.true_and])
    rw [← zhold_eq hw hp] at hC
    refine z_gI Rw.2.2.2.2.2.2.2.1.2.1 rfl ⟨D.1, rfl, Rw.is, z_c hC (by omega) (by omega) (by omega) ?_⟩
    rintro y h2 ⟨rfl, k2⟩
    refine Or.inl ⟨_, rfl, ?_⟩
    have nx : ∀ x : Int32, x = (if zhold σ j (zinfo (qc, qn, T.2.2, pl) v :: l) = true then nI (2 ^ j) else 0) → K (some D.1, qc, qn, some T.1, (zinfo (qc, qn, T.2.2, pl) v).2.2.2.1, mm, ix, v, zm (fun n => zhold σ n (zinfo (qc, qn, T.2.2, pl) v :: l)) j ||| x, nI j + 1) (h2, w.2.1 - 1, w.2.2 - 4) := by
      intro x hx
      refine hK _ _ hlt ?_ ⟨?_, kw.trans k2, ?_, ?_⟩
      · show nI j + 1 = _
        rw [← nI_succ]
      · rw [← nI_succ, hx]
        rfl
      · show _ ≤ w.2.1 - 1
        omega
      · show _ ≤ w.2.2 - 4
        omega
    refine ⟨fun q7 => ?_, fun q7 => ?_⟩
    · exact nx 0 (by rw [zbI_e0 q7]; rfl)
    · refine nx _ ?_
      rw [zbI_n0 q7, zb_sh (by omega)]
      rfl
end ZTY
