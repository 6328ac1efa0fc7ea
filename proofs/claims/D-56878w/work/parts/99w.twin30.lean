/-! THE REFERENCE: the steps of a body; what a point is, done; deeper and deeper -/
section ZTZ1
variable {G : wv_G} {B B' : zA} {σ σ' : zS} {h h0 h1 h2 h' : wv_H} {w : wv_W} {fr fr' kc ks : Nat} {P : wv_R → wv_H → Prop} {KX : String → Nat → wv_W → Prop} {a b L : Nat} {t : wv_T} {n k m p i : Nat} {ps : List Nat} {l : List zIn} {th : Int32} {wov : Bool} {s s1 s2 s' : zR} {cp : Nat × Nat} {D : zD} {T : Nat × Nat × Nat}
variable {F d : Nat} {Q : zX × zR} {v' qc qn v mm ix z : Int32} {pl : Option (Nat × Nat × Nat)} {st : zSt}
theorem zhp_1 {body : List zSt} (hi : body[i]? = some st) (h : st.1 = 104) : zhix body (i + 1) = zhix body i ++ [i] := by
  rw [zhix_s, if_pos (by unfold zhp; rw [hi]; exact decide_eq_true h)]
theorem zhp_0 {body : List zSt} (hi : body[i]? = some st) (h : ¬ st.1 = 104) : zhix body (i + 1) = zhix body i := by
  rw [zhix_s, if_neg (by unfold zhp; rw [hi]; simp [h]), List.append_nil]
theorem zdone_h {wov : Bool} {pt : zPF} {ty k m p : Nat} (h : st.1 = 104) (v : Int32) (s : zR) : ∃ s', zdone wov pt ty k m p st v s = (.inl v, s') := by
  obtain ⟨c, x, y⟩ := st
  have h : c = 104 := h
  subst h
  rw [zdone_eq]
  exact ⟨_, zdn1_h⟩
/-- an exception in a body: its handler's point, or on -/
theorem z26_79 (hG : wv_G0 G) (hw : zwf σ) (hP : zPC4 G B σ th L D wov cp d F) (hd : d + ps.length = 20) (hk : k < zn σ) (hm : m < 6) (hi : i ≤ (zbody σ k m).length) (hne : (zbody σ k m).isEmpty = false) {hl x : Nat} {K27 : ((Option Nat) × (Option Nat) × Int32 × Int32 × (Option Nat) × (Option Nat) × Int32 × Int32) → wv_W → Prop} (R : zTS G B σ th L D wov ps l T s w.1) (kh : kp (zSD D T) h w.1) (ex : zEx4 w.1 x (some z)) (hL : zLx w.1 hl (146, 0, 0, 0) ((zhix (zbody σ k m) i).map (wb G))) (hf : F < fr) (hf3 : 3 < fr) {H : zX × zR} (hH : zhandled σ wov (zpoint σ wov d l) T.2.2 k m i z s = H)
    (hc : zdc σ cp s H.2 + 1 ≤ w.2.1) (hs : zds σ cp s H.2 + 4 ≤ w.2.2) {P : wv_R → wv_H → Prop} {j8 : Int32} (hx : ∀ o x h', H.1 = .inr o → zTS G B σ th L D wov ps l T H.2 h' → kp (zSD D T) h h' → zEx4 h' x o → P (.inr (zEn4 o, x)) h')
    (hv : ∀ v h', H.1 = .inl v → zTS G B σ th L D wov ps l T H.2 h' → kp (zSD D T) h h' → kp (zSD D T) w.1 h' → K27 (some D.1, some T.1, nI k, nI m, some (B 120 (6 * k + m) 0), some hl, v, j8 + 1) (h', w.2.1 - zdc σ cp s H.2, w.2.2 - zds σ cp s H.2)) :
    vc_X26_carries_79 G fr P K27 (some D.1) (some T.1) (nI k) (nI m) (some (B 120 (6 * k + m) 0)) (some hl) j8 (some x) w := by
  have h6 := hw.1
  have h8 := zbody_le hw hk hm
  obtain ⟨fs, x1, x2⟩ := id ex
  have hM := R.1.2.2.1 k m (by omega) hm hne
  refine z_gI x1 x2 ⟨D.1, rfl, R.is, z_c (z26_handler (a := D.1) hG hM h8 hL (by omega) z) (by omega) (by omega) (by omega) ?_⟩
  rintro y h1 ⟨rfl, k1⟩
  refine Or.inl ⟨_, rfl, ?_⟩
  have R1 := R.keepn k1
  have ex1 := ex.keep k1 (fun _ _ q => q.elim)
  have kh1 := kh.trans (kn.to (S := zSD D T) k1)
  cases hz : zhandler (zbody σ k m) z i with
  | none =>
    rw [zhandled_n hz] at hH
    subst hH
    refine ⟨fun q => absurd rfl q, fun _ => ?_⟩
    exact zEx4.at (w := (h1, w.2.1 - 1, w.2.2 - 4)) ex1 (hx (some z) x h1 rfl R1 kh1 ex1)
  | some j =>
    rw [zhandled_s hz] at hH
    obtain ⟨st, hj, h104, hji⟩ : ∃ st, (zbody σ k m)[j]? = some st ∧ st.1 = 104 ∧ j < i := by
      clear hH hL hi hv hx
      induction i with
      | zero => cases hz
      | succ i ih =>
        rw [zhandler] at hz
        cases hb : (zbody σ k m)[i]? with
        | none =>
          rw [hb] at hz
          obtain ⟨st, g1, g2, g3⟩ := ih hz
          exact ⟨st, g1, g2, by omega⟩
        | some st =>
          rw [hb] at hz
          have hz : (if st.1 = 104 ∧ z ≤ st.2.1 then some i else zhandler (zbody σ k m) z i) = some j := hz
          by_cases e : st.1 = 104 ∧ z ≤ st.2.1
          · rw [if_pos e] at hz
            cases hz
            exact ⟨st, hb, e.1, Nat.lt_succ_self _⟩
          · rw [if_neg e] at hz
            obtain ⟨st2, g1, g2, g3⟩ := ih hz
            exact ⟨st2, g1, g2, by omega⟩
    obtain ⟨c, x9, y9⟩ := st
    have h104 : c = 104 := h104
    subst h104
    have hsp : (zspots σ k m)[zplace (zbody σ k m) j]? = some (104, x9, none, nI j) := by
      have := zspot_step (L := 0) hj (by rw [zpls_h]; decide)
      rw [zsp1_o (Or.inr (Or.inr (Or.inr rfl)))] at this
      exact this
    obtain ⟨fs1, y1, y2⟩ := id ex1
    obtain ⟨b1, b2⟩ := zdc_point (σ := σ) (cp := cp) wov d l (104, z, T.2.2, some (k, m, zplace (zbody σ k m) j)) 0 (zRk wov k m (zplace (zbody σ k m) j) s)
    have hC := hP ps l T (zRk wov k m (zplace (zbody σ k m) j) s) h1 104 z 0 (nI m) (nI j) (some (k, m, zplace (zbody σ k m) j)) hd ⟨rfl, rfl⟩ (zQx_of hk hm hsp) (Or.inr (Or.inr (Or.inr (Or.inr rfl)))) R1
    rw [hH] at hC b1 b2
    have b1 : 2 ≤ zdc σ cp s H.2 := b1
    have b2 : 11 ≤ zds σ cp s H.2 := b2
    refine ⟨fun _ => z_gI y1 y2 ⟨D.1, rfl, R1.is, z_dP hC hf (by show zdc σ cp s H.2 - 1 ≤ w.2.1 - 1; omega) (by show zds σ cp s H.2 - 4 ≤ w.2.2 - 4; omega) (fun v3 h3 e3 R3 k3 => ?_) (fun o x3 h3 e3 R3 k3 ex3 => hx o x3 h3 e3 R3 (kh1.trans k3) ex3)⟩, fun q => absurd q (nI_m1 (j := j) (by omega))⟩
    have := hv v3 h3 e3 R3 (kh1.trans k3) ((kn.to k1).trans k3)
    have e1 : w.2.1 - 1 - (zdc σ cp s H.2 - 1) = w.2.1 - zdc σ cp s H.2 := by omega
    have e2 : w.2.2 - 4 - (zds σ cp s H.2 - 4) = w.2.2 - zds σ cp s H.2 := by omega
    rw [← e1, ← e2] at this
    exact this
set_option maxHeartbeats 2000000 in
theorem z26_carries (hG : wv_G0 G) (hw : zwf σ) (hP : zPC4 G B σ th L D wov cp d F) (hd : d + ps.length = 20) (hF : 7 < F) (hk : k < zn σ) (hm : m < 6) (hne : (zbody σ k m).isEmpty = false) (v : Int32) (R : zTS G B σ th L D wov ps l T s h) :
    wv_C G yX26_carries [.ref D.1, .ref T.1, .int (nI k), .int (nI m), .int v] h (F + 2) (zdc σ cp s (zstepsF σ wov (zpoint σ wov d l) T.2.2 k m 0 (zbody σ k m) v s).2 + 3) (zds σ cp s (zstepsF σ wov (zpoint σ wov d l) T.2.2 k m 0 (zbody σ k m) v s).2 + 17) (zDo G B σ th L D wov ps l T (zstepsF σ wov (zpoint σ wov d l) T.2.2 k m 0 (zbody σ k m) v s) h) := by
  have h6 := hw.1
  have h8 := zbody_le hw hk hm
  have hwb : ∀ {h9 : wv_H} {z : Nat}, z ≤ 127 → wl_el G h9 (wb G z) := fun hz => z_el (wb_is hz) q2624
  have hmon := fun q v s => zdl_point (σ := σ) (cp := cp) wov d l q v s
  generalize hQ : zstepsF σ wov (zpoint σ wov d l) T.2.2 k m 0 (zbody σ k m) v s = Q
  generalize hX : zdc σ cp s Q.2 = X
  generalize hY : zds σ cp s Q.2 = Y
  have hX : zdc σ cp s Q.2 ≤ X := Nat.le_of_eq hX
  have hY : zds σ cp s Q.2 ≤ Y := Nat.le_of_eq hY
  refine wk_X26_carries (v0 := some D.1) (v1 := some T.1) hG (z_gA R.2.1 rfl (z_vA R.isM (z4_body hG R.1 (by omega) hm) (by omega) ?_))
  rw [hne, if_neg (by decide)]
  refine zlst hG (146, 0, 0, 0) (Nat.succ_ne_zero _) (by omega) (by show 1 ≤ X + 3; omega) (by show 3 ≤ Y + 17; omega) (fun hl h1 f1 k1 d1 => ?_)
  have f1 : h hl = none := f1
  have k1 : kp kn h h1 := k1
  have g8 : ∀ j, j ≤ 8 → zgc j ≤ 1 ∧ zgs j ≤ 10 := fun j hj => by
    have g1 := zgc_mono hj (by decide)
    have g2 : zgc 8 = 1 ∧ zgs 8 = 10 := by decide
    omega
  refine ⟨fun u w => ∃ i v' s', u = (some D.1, some T.1, nI k, nI m, some (B 120 (6 * k + m) 0), some hl, v', nI i) ∧ i ≤ (zbody σ k m).length ∧ zTS G B σ th L D wov ps l T s' w.1 ∧ kp (zSD D T) h w.1 ∧ zLx w.1 hl (146, 0, 0, 0) ((zhix (zbody σ k m) i).map (wb G)) ∧ zstepsF σ wov (zpoint σ wov d l) T.2.2 k m i ((zbody σ k m).drop i) v' s' = Q ∧ zdc σ cp s' Q.2 + 1 + (1 - zgc (zhix (zbody σ k m) i).length) ≤ w.2.1 ∧ zds σ cp s' Q.2 + 4 + (10 - zgs (zhix (zbody σ k m) i).length) ≤ w.2.2, fun u _ => (zbody σ k m).length - zAt u.2.2.2.2.2.2.2, ⟨0, v, s, rfl, Nat.zero_le _, R.keepn k1, kn.to k1, zLx.nil d1, hQ, ?_, ?_⟩, ?_⟩
  · show zdc σ cp s Q.2 + 1 + (1 - 0) ≤ X + 3 - 1
    omega
  · show zds σ cp s Q.2 + 4 + (10 - 0) ≤ Y + 17 - 3
    omega
  rintro _ w ⟨i, v', s', rfl, hi, R1, kh1, L1, hQ1, hc, hs⟩
  obtain ⟨o1, ⟨fa, ba, va⟩, -, -⟩ := R1.1.2.2.1 k m (by omega) hm hne
  refine z_gI o1 rfl (pk_le (zbody σ k m).length i (fun hle => ?_) (fun hil => ?_))
  · rw [List.drop_of_length_le hle] at hQ1
    rw [← hQ1]
    exact ⟨R1, kh1, rfl⟩
  · have hx : (zbody σ k m)[i]? = some (zbody σ k m)[i] := List.getElem?_eq_getElem hil
    rw [List.drop_eq_getElem_cons hil, zsteps_c] at hQ1
    generalize (zbody σ k m)[i] = st at hx hQ1
    -- the step, its handler noted
    have one : ∀ w1 : wv_W, zTS G B σ th L D wov ps l T s' w1.1 → kp (zSD D T) h w1.1 → zLx w1.1 hl (146, 0, 0, 0) ((zhix (zbody σ k m) (i + 1)).map (wb G)) → zdc σ cp s' Q.2 + 1 + (1 - zgc (zhix (zbody σ k m) (i + 1)).length) ≤ w1.2.1 → zds σ cp s' Q.2 + 4 + (10 - zgs (zhix (zbody σ k m) (i + 1)).length) ≤ w1.2.2 → vc_X26_carries_61 G (F + 2) (zDo G B σ th L D wov ps l T Q h) (fun u' w' => (∃ i v' s', u' = (some D.1, some T.1, nI k, nI m, some (B 120 (6 * k + m) 0), some hl, v', nI i) ∧ i ≤ (zbody σ k m).length ∧ zTS G B σ th L D wov ps l T s' w'.1 ∧ kp (zSD D T) h w'.1 ∧ zLx w'.1 hl (146, 0, 0, 0) ((zhix (zbody σ k m) i).map (wb G)) ∧ zstepsF σ wov (zpoint σ wov d l) T.2.2 k m i ((zbody σ k m).drop i) v' s' = Q ∧ zdc σ cp s' Q.2 + 1 + (1 - zgc (zhix (zbody σ k m) i).length) ≤ w'.2.1 ∧ zds σ cp s' Q.2 + 4 + (10 - zgs (zhix (zbody σ k m) i).length) ≤ w'.2.2) ∧ (zbody σ k m).length - zAt u'.2.2.2.2.2.2.2 < (zbody σ k m).length - zAt (nI i)) (some D.1) (some T.1) (nI k) (nI m) (some (B 120 (6 * k + m) 0)) (some hl) v' (nI i) w1 := by
      intro w1 R2 kh2 L2 hc2 hs2
      have hC := z26_step (v := v') hG hw hP hd hk hm hx R2 (by omega)
      have m1 := zdl_done (σ := σ) (cp := cp) hmon wov T.2.2 k m (zplace (zbody σ k m) i) st v' s'
      have noh : ∀ z S, zdone wov (zpoint σ wov d l) T.2.2 k m (zplace (zbody σ k m) i) st v' s' = (.inr z, S) → ¬ st.1 = 104 := by
        intro z S e e104
        obtain ⟨s9, e9⟩ := zdone_h (wov := wov) (pt := zpoint σ wov d l) (ty := T.2.2) (k := k) (m := m) (p := zplace (zbody σ k m) i) e104 v' s'
        rw [e9] at e
        cases e
      -- what comes next
      have nxt : ∀ (v2 : Int32) (s2 : zR) (w2 : wv_W), zTS G B σ th L D wov ps l T s2 w2.1 → kp (zSD D T) h w2.1 → kp (zSD D T) w1.1 w2.1 → zstepsF σ wov (zpoint σ wov d l) T.2.2 k m (i + 1) ((zbody σ k m).drop (i + 1)) v2 s2 = Q → zdc σ cp s2 Q.2 + 1 + (1 - zgc (zhix (zbody σ k m) (i + 1)).length) ≤ w2.2.1 → zds σ cp s2 Q.2 + 4 + (10 - zgs (zhix (zbody σ k m) (i + 1)).length) ≤ w2.2.2 → ((∃ i9 v' s', (some D.1, some T.1, nI k, nI m, some (B 120 (6 * k + m) 0), some hl, v2, nI i + 1) = (some D.1, some T.1, nI k, nI m, some (B 120 (6 * k + m) 0), some hl, v', nI i9) ∧ i9 ≤ (zbody σ k m).length ∧ zTS G B σ th L D wov ps l T s' w2.1 ∧ kp (zSD D T) h w2.1 ∧ zLx w2.1 hl (146, 0, 0, 0) ((zhix (zbody σ k m) i9).map (wb G)) ∧ zstepsF σ wov (zpoint σ wov d l) T.2.2 k m i9 ((zbody σ k m).drop i9) v' s' = Q ∧ zdc σ cp s' Q.2 + 1 + (1 - zgc (zhix (zbody σ k m) i9).length) ≤ w2.2.1 ∧ zds σ cp s' Q.2 + 4 + (10 - zgs (zhix (zbody σ k m) i9).length) ≤ w2.2.2) ∧ (zbody σ k m).length - zAt (nI i + 1) < (zbody σ k m).length - zAt (nI i)) := by
        intro v2 s2 w2 g1 g2 g3 g4 g5 g6
        refine ⟨⟨i + 1, v2, s2, by rw [nI_succ], hil, g1, g2, L2.keep g3 (zSD_n 146 (by decide) rfl), g4, g5, g6⟩, ?_⟩
        rw [← nI_succ, zAt_nI (by omega), zAt_nI (by omega)]
        omega
      generalize hD : zdone wov (zpoint σ wov d l) T.2.2 k m (zplace (zbody σ k m) i) st v' s' = DD at hC hQ1 m1 noh
      obtain ⟨DX, S⟩ := DD
      replace m1 : zdl σ cp s' S := m1
      cases DX with
      | inl v2 =>
        have hQ2 : zstepsF σ wov (zpoint σ wov d l) T.2.2 k m (i + 1) ((zbody σ k m).drop (i + 1)) v2 S = Q := hQ1
        have m2 := zdl_steps (σ := σ) (cp := cp) hmon wov T.2.2 k m ((zbody σ k m).drop (i + 1)) (i + 1) v2 S
        rw [hQ2] at m2
        have ec := zdc_add m1 m2
        have es := zds_add m1 m2
        refine ⟨D.1, rfl, R2.is, z_dPl hC (by omega) (by show zdc σ cp s' S ≤ _; omega) (by show zds σ cp s' S ≤ _; omega) (fun h3 R3 k3 => ?_)⟩
        exact nxt v2 S (h3, w1.2.1 - zdc σ cp s' S, w1.2.2 - zds σ cp s' S) R3 (kh2.trans k3) k3 hQ2 (by show _ ≤ w1.2.1 - zdc σ cp s' S; omega) (by show _ ≤ w1.2.2 - zds σ cp s' S; omega)
      | inr o =>
        cases o with
        | none =>
          have hQ2 : (zup, S) = Q := hQ1
          rw [← hQ2] at hc2 hs2 ⊢
          have hc2 : zdc σ cp s' S + 1 + _ ≤ w1.2.1 := hc2
          have hs2 : zds σ cp s' S + 4 + _ ≤ w1.2.2 := hs2
          refine ⟨D.1, rfl, R2.is, z_dPr hC (by omega) (by show zdc σ cp s' S ≤ _; omega) (by show zds σ cp s' S ≤ _; omega) (fun x h3 R3 k3 ex => ?_)⟩
          exact ⟨fun q9 => absurd q9 (by decide), fun _ => ⟨zN_GR hG, R3, kh2.trans k3, x, rfl, ex⟩⟩
        | some z =>
          have h104 := noh _ _ rfl
          have m2 := zdl_handled (σ := σ) (cp := cp) hmon wov T.2.2 k m i z S
          have hQ2 : (match zhandled σ wov (zpoint σ wov d l) T.2.2 k m i z S with
            | (.inl v', s'') => zstepsF σ wov (zpoint σ wov d l) T.2.2 k m (i + 1) ((zbody σ k m).drop (i + 1)) v' s''
            | e => e) = Q := hQ1
          have eh : zhandled σ wov (zpoint σ wov d l) T.2.2 k m (i + 1) z S = zhandled σ wov (zpoint σ wov d l) T.2.2 k m i z S := by
            have e : zhandler (zbody σ k m) z (i + 1) = zhandler (zbody σ k m) z i := by
              rw [zhandler_s hx, if_neg (fun e => h104 e.1)]
            unfold zhandled
            rw [e]
          generalize hH : zhandled σ wov (zpoint σ wov d l) T.2.2 k m i z S = H at hQ2 m2 eh
          have L3 : ∀ h3, kp (zSD D T) w1.1 h3 → zLx h3 hl (146, 0, 0, 0) ((zhix (zbody σ k m) (i + 1)).map (wb G)) := fun h3 k3 => L2.keep k3 (zSD_n 146 (by decide) rfl)
          have m3 : zdl σ cp H.2 Q.2 := by
            obtain ⟨HX, S2⟩ := H
            cases HX with
            | inl v3 =>
              rw [← hQ2]
              exact zdl_steps (σ := σ) (cp := cp) hmon wov T.2.2 k m ((zbody σ k m).drop (i + 1)) (i + 1) v3 S2
            | inr o2 =>
              rw [← hQ2]
              exact zdl.refl S2
          have ec := zdc_add m1 (m2.trans m3)
          have es := zds_add m1 (m2.trans m3)
          have ec2 := zdc_add m2 m3
          have es2 := zds_add m2 m3
          refine ⟨D.1, rfl, R2.is, z_dPr hC (by omega) (by show zdc σ cp s' S ≤ _; omega) (by show zds σ cp s' S ≤ _; omega) (fun x h3 R3 k3 ex => ⟨fun _ => ?_, fun q9 => absurd rfl q9⟩)⟩
          refine z26_79 (w := (h3, w1.2.1 - zdc σ cp s' S, w1.2.2 - zds σ cp s' S)) (i := i + 1) hG hw hP hd hk hm hil hne R3 (kh2.trans k3) ex (L3 h3 k3) (by omega) (by omega) eh (by show _ ≤ w1.2.1 - zdc σ cp s' S; omega) (by show _ ≤ w1.2.2 - zds σ cp s' S; omega) (fun o x4 h4 e4 R4 k4 ex4 => ?_) (fun v4 h4 e4 R4 k4 kw4 => ?_)
          · have hQ3 : H = Q := by
              obtain ⟨HX, S2⟩ := H
              have e4 : HX = .inr o := e4
              subst e4
              exact hQ2
            rw [← hQ3]
            refine ⟨R4, k4, ?_⟩
            rw [e4]
            exact ⟨x4, rfl, ex4⟩
          · have hQ3 : zstepsF σ wov (zpoint σ wov d l) T.2.2 k m (i + 1) ((zbody σ k m).drop (i + 1)) v4 H.2 = Q := by
              obtain ⟨HX, S2⟩ := H
              have e4 : HX = .inl v4 := e4
              subst e4
              exact hQ2
            exact nxt v4 H.2 (h4, w1.2.1 - zdc σ cp s' S - zdc σ cp S H.2, w1.2.2 - zds σ cp s' S - zds σ cp S H.2) R4 k4 (k3.trans kw4) hQ3 (by show _ ≤ w1.2.1 - zdc σ cp s' S - zdc σ cp S H.2; omega) (by show _ ≤ w1.2.2 - zds σ cp s' S - zds σ cp S H.2; omega)
    refine z_gA o1 rfl (z_li ba (by omega) (by decide) ?_)
    rw [va i _ hx]
    refine ⟨fun q => ?_, fun q => ?_⟩
    · have e := zhp_0 hx q
      refine one w R1 kh1 ?_ ?_ ?_
      · rw [e]; exact L1
      · rw [e]; exact hc
      · rw [e]; exact hs
    · have e := zhp_1 hx q
      have el : (zhix (zbody σ k m) (i + 1)).length = (zhix (zbody σ k m) i).length + 1 := by rw [e, List.length_append]; rfl
      have hle := zhix_len (body := zbody σ k m) i
      have ga := g8 ((zhix (zbody σ k m) i).length + 1) (by omega)
      have gb := zgc_le (n := (zhix (zbody σ k m) i).length) (by omega)
      have hel : ∀ x ∈ (zhix (zbody σ k m) i).map (wb G), wl_el G w.1 x := by
        intro x hx9
        obtain ⟨z, hz, rfl⟩ := List.mem_map.mp hx9
        have := (zhix_lt z hz).2
        exact hwb (by omega)
      refine z_cA (wl_valueOf hG (k := i) (by omega)) (by omega) (L1.cadd hG (hwb (by omega)) hel (by rw [List.length_map]; omega) (by omega) (by rw [List.length_map]; omega) (by rw [List.length_map]; omega) (fun h3 L3 o3 => ?_))
      rw [List.length_map]
      obtain ⟨md, l9⟩ := id L1
      have k3 : kp (fun _ t => t.1 = 146) w.1 h3 := kp.of l9 rfl o3
      refine one (h3, _, _) (R1.keepA k3) (kh1.fresh f1 o3) ?_ ?_ ?_
      · rw [e, List.map_append]
        exact L3
      · rw [el]
        show _ ≤ w.2.1 - (zgc ((zhix (zbody σ k m) i).length + 1) - zgc (zhix (zbody σ k m) i).length)
        omega
      · rw [el]
        show _ ≤ w.2.2 - (zgs ((zhix (zbody σ k m) i).length + 1) - zgs (zhix (zbody σ k m) i).length)
        omega
-- ===== does =====
theorem z26_does (hG : wv_G0 G) (hw : zwf σ) (hP : zPC4 G B σ th L D wov cp d F) (hd : d + ps.length = 20) (hF : 7 < F) (hK : zKq σ qc qn pl) (hfit : wv_fit .char qc) {hd9 : Int32} (hb : h0 b = some ((143, 0, 0, 0), zpnO qc qn (nI T.2.2) (zinfo (qc, qn, T.2.2, pl) v).2.2.2.1 mm ix v hd9)) : zAc4 G B σ th L D wov ps l T cp h0 b (F + 3) (zact σ wov (zpoint σ wov d l) (qc, qn, T.2.2, pl)) := by
  have h6 := hw.1
  intro v5 s h R k0
  have hb1 : h b = some ((143, 0, 0, 0), zpnO qc qn (nI T.2.2) (zinfo (qc, qn, T.2.2, pl) v).2.2.2.1 mm ix v hd9) := k0 _ _ hb (zSD_n 143 (by decide) rfl)
  have R1 : zTS G B σ th L D wov ps l T (zRa s) h := R
  obtain ⟨a0, a1, a2⟩ := zdl_a (σ := σ) (cp := cp) s
  have hmon := zdl_act (σ := σ) (cp := cp) (fun q v s => zdl_point wov d l q v s) wov (qc, qn, T.2.2, pl) v5 (zRa s)
  have ec := zdc_add a0 hmon
  have es := zds_add a0 hmon
  rw [a1] at ec
  rw [a2] at es
  refine wk_X26_does (v0 := some D.1) (v1 := some b) (v2 := some T.1) hG (z_vI (z_is hb1 ccX29) (z29_name hG hb1) (by omega) (z_vI (z_is hb1 ccX29) (z29_kind hG hb1 hfit) (by omega) ?_))
  rcases hK with ⟨rfl, m, hm, rfl⟩ | ⟨rfl, k, m, rfl, hk, hm, rfl, hne⟩ | ⟨hc, j, hj, rfl⟩ | hc
  · -- a call
    refine ⟨fun q => absurd rfl q, fun _ => z_gA R.2.1 rfl (z_gI R.2.2.2.2.2.2.2.1.2.1 rfl (z_vI R.isM (z4_found hG hw R.1 hm R.2.2.2.2.2.2.2.1.1) (by omega) ?_))⟩
    have ea := zact_c (σ := σ) (wov := wov) (pt := zpoint σ wov d l) (ty := T.2.2) hm (pl := pl) v5 (zRa s)
    cases hz : zfind σ m T.2.2 with
    | none =>
      rw [hz] at ea
      have ea : zact σ wov (zpoint σ wov d l) (99, nI m, T.2.2, pl) v5 (zRa s) = (zraise 4, zRe (zRa s)) := ea
      rw [ea] at ec es ⊢
      obtain ⟨-, e1, e2⟩ := zdl_e (σ := σ) (cp := cp) (zRa s)
      have ec : 3 + zdc σ cp (zRa s) (zRe (zRa s)) = zdc σ cp s (zRe (zRa s)) := ec
      have es : 17 + zds σ cp (zRa s) (zRe (zRa s)) = zds σ cp s (zRe (zRa s)) := es
      refine ⟨fun q => absurd rfl q, fun _ => ?_⟩
      exact zraise4 (w := (h, zdc σ cp s (zRe (zRa s)), zds σ cp s (zRe (zRa s)))) hG (by omega) (by show 1 ≤ zdc σ cp s (zRe (zRa s)); omega) (by show 7 ≤ zds σ cp s (zRe (zRa s)); omega) (fun a h' k ex => ⟨R1.keepn k, kn.to k, a, rfl, ex⟩)
    | some k =>
      rw [hz] at ea
      have ea : zact σ wov (zpoint σ wov d l) (99, nI m, T.2.2, pl) v5 (zRa s) = zpoint σ wov d l (101, nI m, T.2.2, some (k, m, 0)) v5 (zRk wov k m 0 (zRa s)) := ea
      obtain ⟨z1, z2⟩ := zfind_lt hw R.2.2.2.2.2.2.2.1.1 hz
      have hty := R.2.2.2.2.2.2.2.1.1
      have hk : k < zn σ := by omega
      rw [ea] at ec es ⊢
      have hsp : (zspots σ k m)[0]? = some ((101, nI m, none, -1) : zSp) := by
        rw [zspots_0 (zspots_p0 z2)]
        rfl
      have hC := hP ps l T (zRk wov k m 0 (zRa s)) h 101 (nI m) v5 (nI m) (-1) (some (k, m, 0)) hd ⟨rfl, rfl⟩ (zQx_of hk hm hsp) (Or.inr (Or.inl ⟨rfl, k, m, rfl, hk, hm, rfl, z2⟩)) R1
      generalize zpoint σ wov d l (101, nI m, T.2.2, some (k, m, 0)) v5 (zRk wov k m 0 (zRa s)) = q at hC ec es ⊢
      have ec : 3 + zdc σ cp (zRk wov k m 0 (zRa s)) q.2 = zdc σ cp s q.2 := ec
      have es : 17 + zds σ cp (zRk wov k m 0 (zRa s)) q.2 = zds σ cp s q.2 := es
      refine ⟨fun _ => ⟨D.1, rfl, R.is, ?_⟩, fun q => absurd q (nI_m1 (j := k) (by omega))⟩
      exact z_dPo (w := (h, zdc σ cp s q.2, zds σ cp s q.2)) hC (by omega) (by show _ ≤ zdc σ cp s q.2; omega) (by show _ ≤ zds σ cp s q.2; omega) (kp.refl h)
  · -- a body
    refine ⟨fun _ => z_vI (z_is hb1 ccX29) (z29_kind hG hb1 hfit) (by omega) ⟨fun q => absurd rfl q, fun _ => z_vI (z_is hb1 ccX29) (z29_placeClass hG hb1) (by omega) ⟨D.1, rfl, R.is, ?_⟩⟩, fun q => absurd q (by decide)⟩
    have ea := zact_e (σ := σ) (wov := wov) (pt := zpoint σ wov d l) (x := nI m) (ty := T.2.2) (k := k) (m := m) (p := 0) v5 (zRa s)
    rw [ea] at ec es ⊢
    have hC := z26_carries hG hw hP hd hF hk hm hne v5 R1
    generalize zstepsF σ wov (zpoint σ wov d l) T.2.2 k m 0 (zbody σ k m) v5 (zRa s) = q at hC ec es ⊢
    exact z_dPo (w := (h, zdc σ cp s q.2, zds σ cp s q.2)) hC (by omega) (by show _ ≤ zdc σ cp s q.2; omega) (by show _ ≤ zds σ cp s q.2; omega) (kp.refl h)
  · -- a field
    obtain ⟨t1, t2, t3⟩ := R.2.2.2.2.2.2.2.1
    rcases hc with rfl | rfl
    · refine ⟨fun _ => z_vI (z_is hb1 ccX29) (z29_kind hG hb1 hfit) (by omega) ⟨fun _ => z_vI (z_is hb1 ccX29) (z29_kind hG hb1 hfit) (by omega) ⟨fun q => absurd rfl q, fun _ => z_gA t2 rfl (z_li t3 hj (by decide) ?_)⟩, fun q => absurd q (by decide)⟩, fun q => absurd q (by decide)⟩
      rw [zact_g rfl]
      refine ⟨R1, kp.refl h, ?_⟩
      show _ = Sum.inl (some (Value.int (v5 + s.2.2.2.1 (zAt (nI j)))))
      rw [zAt_nI (by omega)]
    · refine ⟨fun _ => z_vI (z_is hb1 ccX29) (z29_kind hG hb1 hfit) (by omega) ⟨fun _ => z_vI (z_is hb1 ccX29) (z29_kind hG hb1 hfit) (by omega) ⟨fun _ => z_vI (z_is hb1 ccX29) (z29_kind hG hb1 hfit) (by omega) ⟨fun q => absurd rfl q, fun _ => z_gA t2 rfl (z_si t3 (by decide) hj (by decide) ?_)⟩, fun q => absurd q (by decide)⟩, fun q => absurd q (by decide)⟩, fun q => absurd q (by decide)⟩
      rw [zact_s rfl]
      obtain ⟨R2, k2⟩ := R1.fields (upd s.2.2.2.1 j v5)
      refine ⟨?_, k2, rfl⟩
      show zTS G B σ th L D wov ps l T (zRF (upd s.2.2.2.1 (zAt (nI j)) v5) (zRa s)) _
      rw [zAt_nI (by omega)]
      exact R2
  · -- nothing of its own
    have n99 : ¬ qc = 99 := by rcases hc with rfl | rfl <;> decide
    have n101 : ¬ qc = 101 := by rcases hc with rfl | rfl <;> decide
    have n103 : ¬ qc = 103 := by rcases hc with rfl | rfl <;> decide
    have n115 : ¬ qc = 115 := by rcases hc with rfl | rfl <;> decide
    rw [zact_o n99 n101 n103 n115]
    exact ⟨fun _ => z_vI (z_is hb1 ccX29) (z29_kind hG hb1 hfit) (by omega) ⟨fun _ => z_vI (z_is hb1 ccX29) (z29_kind hG hb1 hfit) (by omega) ⟨fun _ => z_vI (z_is hb1 ccX29) (z29_kind hG hb1 hfit) (by omega) ⟨fun _ => ⟨R1, kp.refl h, rfl⟩, fun q => absurd q n115⟩, fun q => absurd q n103⟩, fun q => absurd q n101⟩, fun q => absurd q n99⟩
/-- however many more can be open -/
theorem z26_deep (hG : wv_G0 G) (hw : zwf σ) (ht : zwt σ) (hr : zring σ = false) (hcp : zcpo σ wov cp) : ∀ d, zPC4 G B σ th L D wov cp d (31 * d + 45)
  | 0 => fun ps l T s h qc qn v mm ix pl hd hfit hq hK R => z26_point (F := 17) hG hw ht hr hcp hd hfit hq R (by omega) (fun d' e => by cases e)
  | d + 1 => fun ps l T s h qc qn v mm ix pl hd hfit hq hK R => by
    have ih := z26_deep hG hw ht hr hcp d
    have := z26_point (F := 31 * d + 48) hG hw ht hr hcp hd hfit hq R (by omega) (fun d' e b h1 hd9 hb => by
      have e : d = d' := by omega
      subst e
      exact z26_does (F := 31 * d + 45) hG hw ih (by rw [List.length_cons]; omega) (by omega) hK hfit hb)
    exact this
end ZTZ1
