/-! THE COMPONENT: a point -/
section ZX1
variable {G : wv_G} {A A' : zA} {σ σ' : zS} {h h0 h1 h2 h' : wv_H} {w : wv_W} {fr fr' kc ks : Nat} {P : wv_R → wv_H → Prop} {KX : String → Nat → wv_W → Prop} {a b : Nat} {t ta tb : wv_T} {r : Nat} {tr : List zAc} {e : Bool × Int32 × Int32} {ch : List (Nat × zIn)} {th : Nat × Nat × Nat} {s s1 s2 : zR}
variable {act : Int32 → zM} {lam F : Nat} {c : Int32} {i n : Nat} {l : List Nat}
theorem z2_around (hG : wv_G0 G) (hw : zwf σ) (hn : n < σ.2.2.1.length) (h1 : (zadv σ n).2.1 = 114) (hF : 7 < F) (hm : ∀ v s, zl9 σ s (act v s).2) (hgo : zGO G A σ r e ch th h0 lam F act c (i + 1) l) (v : Int32) (R : zRS G A σ r e ch th s h) (k0 : kp (zSR r th) h0 h) :
    wv_C G yX2_around [.ref (A 51 r 0), .ref (A 14 n 0), .int c, .int (nI i), .int v, .ref lam] h (F + 1) (zcc σ s (zgo σ act (n :: l) v s).2) (zcs σ s (zgo σ act (n :: l) v s).2) (zPo G A σ r e ch th (zgo σ act (n :: l) v s) h) := by
  have hmon := zgo_mon (σ := σ) (act := act) hm l
  have ht2 := (zadv_ok hw hn).2.2.2
  have eg := zgo_r (s := s) (act := act) (l := l) (v := v) h1
  obtain ⟨C, L, o1, T, O, H, Th⟩ := id R
  refine wk_X2_around (v0 := some (A 51 r 0)) (v1 := some (A 14 n 0)) (v5 := some lam) hG (z_gA o1 rfl ?_)
  rcases zadd_cases (σ := σ) n v s with ⟨hl, ea⟩ | ⟨hl, ea⟩
  · rw [ea] at eg
    have eg : zgo σ act (n :: l) v s = (zup, zRe s) := eg
    rw [eg]
    have hcc : zcc σ s (zRe s) = 2 := by unfold zcc zPc zRe; first | (simp; done) | (simp; omega)
    have hcs : zcs σ s (zRe s) = 11 := by unfold zcs zPs zRe; first | (simp; done) | (simp; omega)
    refine z2_add hG hw hn R (by omega) (fun hl2 => absurd hl hl2) (fun _ => by show 1 ≤ zcc σ s (zRe s); omega) (fun _ => by show 6 ≤ zcs σ s (zRe s); omega) (fun _ q3 h3 R3 k3 ex3 => ?_)
    exact ⟨R3, k3, q3, rfl, ex3⟩
  · rw [ea] at eg
    have eg : zgo σ act (n :: l) v s = zrep (zgo σ act l) (zadv σ n).2.2.2.1 (zadv σ n).2.2.2.2.1 v (zRt ((zadv σ n).2.1, v, n) s) := eg
    rw [eg]
    generalize hQ : zrep (zgo σ act l) (zadv σ n).2.2.2.1 (zadv σ n).2.2.2.2.1 v (zRt ((zadv σ n).2.1, v, n) s) = Q
    refine z2_add hG hw hn R (by omega) (fun _ h3 R3 k3 => ?_) (fun hl2 => absurd hl2 hl) (fun hl2 => absurd hl2 hl) (fun hl2 => absurd hl2 hl)
    refine z_loop (zadv σ n).2.2.2.2.1 (by omega) (fun v => v.2.2.2.2.2.2) (fun j v w => ∃ lastv sj, v = (some (A 51 r 0), some (A 14 n 0), c, nI i, some lam, lastv, nI j) ∧ zRS G A σ r e ch th sj w.1 ∧ kp (zSR r th) h w.1 ∧ zrep (zgo σ act l) (zadv σ n).2.2.2.1 ((zadv σ n).2.2.2.2.1 - j) lastv sj = Q ∧ zcc σ sj Q.2 ≤ w.2.1 ∧ zcs σ sj Q.2 ≤ w.2.2) rfl ⟨v, zRt ((zadv σ n).2.1, v, n) s, rfl, R3, k3, hQ, Nat.le_refl _, Nat.le_refl _⟩ ?_
    rintro K j _ w hj - ⟨lastv, sj, rfl, Rj, kj, hQj, b1, b2⟩ hK
    have Cj := Rj.1
    have hadv := Cj.adv (zadv_get hn)
    refine z_gI hadv rfl (pk_le (zadv σ n).2.2.2.2.1 j (fun hle => ?_) (fun hlt => ?_))
    · have e9 : (zadv σ n).2.2.2.2.1 - j = 0 := by omega
      rw [e9] at hQj
      have hQj : (.inl lastv, sj) = Q := hQj
      subst hQj
      exact ⟨Rj, kj, rfl⟩
    · obtain ⟨t, ht⟩ : ∃ t, (zadv σ n).2.2.2.2.1 - j = t + 1 := ⟨(zadv σ n).2.2.2.2.1 - j - 1, by omega⟩
      rw [ht] at hQj
      have hQj : (match zgo σ act l (lastv + (zadv σ n).2.2.2.1) sj with | (.inl v', s') => zrep (zgo σ act l) (zadv σ n).2.2.2.1 t v' s' | e => e) = Q := hQj
      have hC := hgo (lastv + (zadv σ n).2.2.2.1) sj w.1 Rj (k0.trans kj)
      rw [nI_succ] at hC
      have m1 := hmon (lastv + (zadv σ n).2.2.2.1) sj
      generalize hq : zgo σ act l (lastv + (zadv σ n).2.2.2.1) sj = q at hC m1 hQj
      obtain ⟨x, s'⟩ := q
      have m2 : zl9 σ s' Q.2 := by
        cases x with
        | inl v' => rw [← hQj]; exact zrep_mon hmon _ _ _ _
        | inr o => rw [← hQj]; exact zl9.refl _
      have ec := zcc_add m1 m2
      have es := zcs_add m1 m2
      have ec : zcc σ sj s' + zcc σ s' Q.2 = zcc σ sj Q.2 := ec
      have es : zcs σ sj s' + zcs σ s' Q.2 = zcs σ sj Q.2 := es
      refine z_gI hadv rfl ⟨A 51 r 0, rfl, z2_isR Rj, z_cP hC (by omega) (by show zcc σ sj s' ≤ _; omega) (by show zcs σ sj s' ≤ _; omega) (fun v' h4 e1 R4 k4 => ?_) (fun o x4 h4 e1 R4 k4 ex4 => ?_)⟩
      · have e1 : x = .inl v' := e1
        subst e1
        refine hK _ (h4, w.2.1 - zcc σ sj s', w.2.2 - zcs σ sj s') hlt (nI_succ j).symm ⟨v', s', ?_, R4, kj.trans k4, ?_, ?_, ?_⟩
        · rw [nI_succ]
        · rw [show (zadv σ n).2.2.2.2.1 - (j + 1) = t by omega]
          exact hQj
        · show zcc σ s' Q.2 ≤ w.2.1 - zcc σ sj s'
          omega
        · show zcs σ s' Q.2 ≤ w.2.2 - zcs σ sj s'
          omega
      · have e1 : x = .inr o := e1
        subst e1
        have hQj : (.inr o, s') = Q := hQj
        subst hQj
        exact ⟨R4, kj.trans k4, x4, rfl, ex4⟩
/-- goOn -/
theorem z2_goOn (hG : wv_G0 G) (hw : zwf σ) (hr : zring σ = false) (hF : 10 ≤ F) (hA : zAC G A σ r e ch th h0 lam F act) (hm : ∀ v s, zl9 σ s (act v s).2) : ∀ (l : List Nat) (i : Nat), zsel c i ((zoa σ).drop i) = l → i ≤ σ.2.2.1.length → zGO G A σ r e ch th h0 lam (F + 3 + 2 * l.length) act c i l := by
  have h12 := hw.2.2.2.2.1
  have hlen := zoa_len hw hr
  intro l
  induction l with
  | nil =>
    intro i hsel hi v s h R k0
    refine wk_X2_goOn (v0 := some (A 51 r 0)) (v4 := some lam) hG ?_
    refine ⟨fun v9 w => ∃ j, i ≤ j ∧ j ≤ σ.2.2.1.length ∧ v9 = (some (A 51 r 0), c, v, some lam, nI j) ∧ w = (h, zcc σ s (zgo σ act [] v s).2, zcs σ s (zgo σ act [] v s).2) ∧ zsel c j ((zoa σ).drop j) = [], fun v9 _ => σ.2.2.1.length - v9.2.2.2.2.toNatClampNeg, ⟨i, Nat.le_refl _, hi, rfl, rfl, hsel⟩, ?_⟩
    rintro _ _ ⟨j, hij, hj, rfl, rfl, hs⟩
    obtain ⟨C, L, o1, T, ⟨f, O1, O2⟩, H, Th⟩ := id R
    refine z_gA o1 rfl (z_gA C.comp rfl (C.advs.vsizeR hG (by omega) (pk_le σ.2.2.1.length j (fun hle => ?_) (fun hlt => ?_))))
    · have e9 : j = σ.2.2.1.length := by omega
      subst e9
      refine z_gA o1 rfl (z_gA C.comp rfl (C.advs.vsizeR hG (by omega) ⟨fun q => absurd rfl q, fun _ => ?_⟩))
      obtain ⟨j, vs, hA⟩ := hA
      obtain ⟨hlk, hC⟩ := hA h (zRa s) v R k0
      refine ⟨lam, j, vs, F, _, _, _, rfl, hlk, hC, by omega, Nat.le_refl _, Nat.le_refl _, ?_, ?_⟩
      · rintro y h' ⟨-, -, h3⟩
        unfold zYr at h3
        split at h3
        · rename_i v' hv'
          injection h3 with h3
          exact ⟨v', h3⟩
        · obtain ⟨q, h3, -⟩ := h3
          cases h3
      · rintro y h' ⟨g1, g2, g3⟩
        cases hx : (act v (zRa s)).1 with
        | inl v' =>
          rw [hx] at g3
          refine Or.inl ⟨v', g3, g1, g2, ?_⟩
          show zYr (act v (zRa s)).1 _ _
          rw [hx]
          rfl
        | inr o =>
          rw [hx] at g3
          obtain ⟨q, g3, g4⟩ := g3
          refine Or.inr ⟨_, q, g3, g1, g2, ?_⟩
          show zYr (act v (zRa s)).1 _ _
          rw [hx]
          exact ⟨q, rfl, g4⟩
    · obtain ⟨n, hn⟩ : ∃ n, (zoa σ)[j]? = some n := ⟨_, List.getElem?_eq_getElem (by omega)⟩
      rw [zsel_drop hn] at hs
      have hb : zb c j = false := by
        cases hb : zb c j
        · rfl
        · rw [if_pos hb] at hs; cases hs
      rw [if_neg (by rw [hb]; decide)] at hs
      have hbit : (c >>> (nI j &&& 31)) &&& 1 = 0 := by
        rw [zb_shr1 (by omega), hb]
        rfl
      refine ⟨fun q => absurd hbit q, fun _ => ⟨⟨j + 1, by omega, by omega, by rw [nI_succ], rfl, hs⟩, ?_⟩⟩
      show σ.2.2.1.length - (nI j + 1).toNatClampNeg < σ.2.2.1.length - (nI j).toNatClampNeg
      rw [← nI_succ, nI_clamp (by omega), nI_clamp (by omega)]
      omega
  | cons n l ih =>
    intro i hsel hi v s h R k0
    refine wk_X2_goOn (v0 := some (A 51 r 0)) (v4 := some lam) hG ?_
    have hFl : F + 3 + 2 * (n :: l).length = F + 3 + 2 * l.length + 2 := by rw [List.length_cons]; omega
    refine ⟨fun v9 w => ∃ j, i ≤ j ∧ j ≤ σ.2.2.1.length ∧ v9 = (some (A 51 r 0), c, v, some lam, nI j) ∧ w = (h, zcc σ s (zgo σ act (n :: l) v s).2, zcs σ s (zgo σ act (n :: l) v s).2) ∧ zsel c j ((zoa σ).drop j) = n :: l, fun v9 _ => σ.2.2.1.length - v9.2.2.2.2.toNatClampNeg, ⟨i, Nat.le_refl _, hi, rfl, rfl, hsel⟩, ?_⟩
    rintro _ _ ⟨j, hij, hj, rfl, rfl, hs⟩
    obtain ⟨C, L, o1, T, ⟨f, O1, O2⟩, H, Th⟩ := id R
    refine z_gA o1 rfl (z_gA C.comp rfl (C.advs.vsizeR hG (by omega) (pk_le σ.2.2.1.length j (fun hle => ?_) (fun hlt => ?_))))
    · have e9 : j = σ.2.2.1.length := by omega
      rw [e9, ← hlen, List.drop_length] at hs
      cases hs
    · obtain ⟨n', hn'⟩ : ∃ n, (zoa σ)[j]? = some n := ⟨_, List.getElem?_eq_getElem (by omega)⟩
      rw [zsel_drop hn'] at hs
      cases hb : zb c j with
      | false =>
        rw [if_neg (by rw [hb]; decide)] at hs
        have hbit : (c >>> (nI j &&& 31)) &&& 1 = 0 := by
          rw [zb_shr1 (by omega), hb]
          rfl
        refine ⟨fun q => absurd hbit q, fun _ => ⟨⟨j + 1, by omega, by omega, by rw [nI_succ], rfl, hs⟩, ?_⟩⟩
        show σ.2.2.1.length - (nI j + 1).toNatClampNeg < σ.2.2.1.length - (nI j).toNatClampNeg
        rw [← nI_succ, nI_clamp (by omega), nI_clamp (by omega)]
        omega
      | true =>
        rw [if_pos hb] at hs
        injection hs with hs1 hs2
        subst hs1
        have hbit : ¬ (c >>> (nI j &&& 31)) &&& 1 = 0 := by
          rw [zb_shr1 (by omega), hb]
          decide
        have hnl := zoa_lt n' (List.mem_of_getElem? hn')
        have hadv := C.adv (zadv_get hnl)
        have hgo := ih (j + 1) hs2 (by omega)
        refine ⟨fun _ => ?_, fun q => absurd q hbit⟩
        refine z_gA o1 rfl (z_gA C.comp rfl (C.advs.vsizeR hG (by omega) ⟨fun _ => ?_, fun q => absurd ((nI_eq (by omega) (by omega)).mp q) (by omega)⟩))
        refine z_gA o1 rfl (z_lq O1 (by omega) (by decide) ?_)
        rw [O2 j n' hn']
        refine z_gI hadv rfl ⟨fun q => z_gI hadv rfl ⟨fun q2 => ?_, fun q2 => ?_⟩, fun q => ?_⟩
        · refine ⟨A 51 r 0, rfl, z2_isR R, z_cP (z2_behind hG hw hnl q q2 (by omega) hm hgo v R k0) (by omega) (Nat.le_refl _) (Nat.le_refl _) (fun v' h4 e1 R4 k4 => ⟨R4, k4, ?_⟩) (fun o x4 h4 e1 R4 k4 ex4 => ⟨R4, k4, ?_⟩)⟩
          · show zYr (zgo σ act (n' :: l) v s).1 _ _
            rw [e1]
            rfl
          · show zYr (zgo σ act (n' :: l) v s).1 _ _
            rw [e1]
            exact ⟨x4, rfl, ex4⟩
        · have eg := zgo_b (s := s) (act := act) (l := l) (v := v) q2
          rcases zadd_cases (σ := σ) n' v s with ⟨hl, ea⟩ | ⟨hl, ea⟩
          · rw [ea] at eg
            have eg : zgo σ act (n' :: l) v s = (zup, zRe s) := eg
            rw [eg]
            have hcc : zcc σ s (zRe s) = 2 := by unfold zcc zPc zRe; first | (simp; done) | (simp; omega)
            have hcs : zcs σ s (zRe s) = 11 := by unfold zcs zPs zRe; first | (simp; done) | (simp; omega)
            refine z_gA o1 rfl (z2_add hG hw hnl R (by omega) (fun hl2 => absurd hl hl2) (fun _ => by show 1 ≤ zcc σ s (zRe s); omega) (fun _ => by show 6 ≤ zcs σ s (zRe s); omega) (fun _ q3 h3 R3 k3 ex3 => ?_))
            exact ⟨R3, k3, q3, rfl, ex3⟩
          · rw [ea] at eg
            have eg : zgo σ act (n' :: l) v s = zgo σ act l v (zRt ((zadv σ n').2.1, v, n') s) := eg
            rw [eg]
            refine z_gA o1 rfl (z2_add hG hw hnl R (by omega) (fun _ h3 R3 k3 => ?_) (fun hl2 => absurd hl2 hl) (fun hl2 => absurd hl2 hl) (fun hl2 => absurd hl2 hl))
            have hC := hgo v _ h3 R3 (k0.trans k3)
            rw [nI_succ] at hC
            refine ⟨A 51 r 0, rfl, z2_isR R3, z_cP hC (by omega) (Nat.le_refl _) (Nat.le_refl _) (fun v' h4 e1 R4 k4 => ⟨R4, k3.trans k4, ?_⟩) (fun o x4 h4 e1 R4 k4 ex4 => ⟨R4, k3.trans k4, ?_⟩)⟩
            · show zYr (zgo σ act l v _).1 _ _
              rw [e1]
              rfl
            · show zYr (zgo σ act l v _).1 _ _
              rw [e1]
              exact ⟨x4, rfl, ex4⟩
        · refine ⟨A 51 r 0, rfl, z2_isR R, z_cP (z2_around hG hw hnl q (by omega) hm hgo v R k0) (by omega) (Nat.le_refl _) (Nat.le_refl _) (fun v' h4 e1 R4 k4 => ⟨R4, k4, ?_⟩) (fun o x4 h4 e1 R4 k4 ex4 => ⟨R4, k4, ?_⟩)⟩
          · show zYr (zgo σ act (n' :: l) v s).1 _ _
            rw [e1]
            rfl
          · show zYr (zgo σ act (n' :: l) v s).1 _ _
            rw [e1]
            exact ⟨x4, rfl, ex4⟩
end ZX1
