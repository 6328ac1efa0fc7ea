/-! THE COMPONENT: the steps of a body; deeper and deeper -/
section ZXA
variable {G : wv_G} {A A' : zA} {σ σ' : zS} {h h0 h1 h2 h' : wv_H} {w : wv_W} {fr fr' kc ks : Nat} {P : wv_R → wv_H → Prop} {KX : String → Nat → wv_W → Prop} {a b : Nat} {t ta tb : wv_T} {r : Nat} {tr : List zAc} {e : Bool × Int32 × Int32} {ch : List (Nat × zIn)} {th : Nat × Nat × Nat} {s s1 s2 : zR}
variable {act : Int32 → zM} {lam F : Nat} {c x y v : Int32} {i n j k m p d ty : Nat} {l : List Nat} {pt : zPF} {st : zSt} {wov : Bool} {dd : Option Nat}
theorem zsteps_c {l : List zSt} (i : Nat) (v : Int32) (s : zR) : zstepsF σ wov pt ty k m i (st :: l) v s = match zdone wov pt ty k m (zplace (zbody σ k m) i) st v s with
    | (.inl v', s') => zstepsF σ wov pt ty k m (i + 1) l v' s'
    | (.inr (some n), s') => (match zhandled σ wov pt ty k m i n s' with
      | (.inl v', s'') => zstepsF σ wov pt ty k m (i + 1) l v' s''
      | e => e)
    | (.inr none, s') => (zup, s') := by
  rw [zstepsF]
  rfl
theorem z2_steps (hG : wv_G0 G) (hw : zwf σ) (hr : zring σ = false) (hB : ∀ d', d = d' + 1 → zBC G A σ r e d') : zSC G A σ r e d := by
  intro ch th s h k m v hd hk hm hne R
  have h8 := zbody_le hw hk hm
  have C := R.1
  generalize hQ : zstepsF σ e.1 (zpoint σ e.1 d (ch.map (fun x => x.2))) th.2.2 k m 0 (zbody σ k m) v s = Q
  generalize hX : zcc σ s Q.2 = X
  generalize hY : zcs σ s Q.2 = Y
  have hX : zcc σ s Q.2 ≤ X := Nat.le_of_eq hX
  have hY : zcs σ s Q.2 ≤ Y := Nat.le_of_eq hY
  have hmon := fun q v s => zpoint_mon (σ := σ) e.1 d (ch.map (fun x => x.2)) q v s
  refine wk_X2_steps (v0 := some (A 51 r 0)) (v1 := some th.1) (v2 := some (A 4 k 0)) hG (z_gA (C.type hk) rfl ((C.bods hk).vgetR hG hm (by omega) (z_cc (C.body hk hm).is ?_)))
  refine ⟨fun u w => ∃ i v' s', u = (some (A 51 r 0), some th.1, some (A 4 k 0), nI m, some (A 7 k m), v', nI (zplace (zbody σ k m) i), nI i) ∧ i ≤ (zbody σ k m).length ∧ zRS G A σ r e ch th s' w.1 ∧ kp (zSR r th) h w.1 ∧ zstepsF σ e.1 (zpoint σ e.1 d (ch.map (fun x => x.2))) th.2.2 k m i ((zbody σ k m).drop i) v' s' = Q ∧ zcc σ s' Q.2 ≤ w.2.1 ∧ zcs σ s' Q.2 ≤ w.2.2, fun u _ => (zbody σ k m).length - zAt u.2.2.2.2.2.2.2, ⟨0, v, s, ?_, Nat.zero_le _, R, kp.refl _, hQ, hX, hY⟩, ?_⟩
  · rw [zplace_0]
    rfl
  · rintro _ w ⟨i, v', s', rfl, hi, R1, k1, hQ1, hc, hs⟩
    refine (R1.1.body hk hm).vsizeR hG (by omega) ⟨fun q9 => ?_, fun q9 => ?_⟩
    · have hil : i = (zbody σ k m).length := by
        have := (nI_leI (a := (zbody σ k m).length) (b := i) (by omega) (by omega)).mp q9
        omega
      rw [List.drop_of_length_le (by omega)] at hQ1
      rw [← hQ1]
      exact ⟨R1, k1, rfl⟩
    · have hil : i < (zbody σ k m).length := by
        rcases Nat.lt_or_ge i (zbody σ k m).length with hij | hij
        · exact hij
        · exact absurd ((nI_leI (a := (zbody σ k m).length) (b := i) (by omega) (by omega)).mpr hij) q9
      have hx : (zbody σ k m)[i]? = some (zbody σ k m)[i] := List.getElem?_eq_getElem hil
      rw [List.drop_eq_getElem_cons hil, zsteps_c] at hQ1
      generalize (zbody σ k m)[i] = st at hx hQ1
      have c8 : w.1 (A 8 (k * 6 + m) i) = some ((8, k, m, i), wo_o ciX7 [.int st.1, .int st.2.1, .int st.2.2]) := R1.1.step hk hm hx
      refine (R1.1.body hk hm).vgetR hG hil (by omega) (z_cc (z_is c8 ccX7) ?_)
      have hC := z2_done hG hw hr hd hk hm hB hx v' R1
      have m1 := zdone_mon (σ := σ) hmon e.1 th.2.2 k m (zplace (zbody σ k m) i) st v' s'
      -- what comes next
      have nxt : ∀ (v2 : Int32) (s2 : zR) (w2 : wv_W), zRS G A σ r e ch th s2 w2.1 → kp (zSR r th) h w2.1 → zstepsF σ e.1 (zpoint σ e.1 d (ch.map (fun x => x.2))) th.2.2 k m (i + 1) ((zbody σ k m).drop (i + 1)) v2 s2 = Q → zcc σ s2 Q.2 ≤ w2.2.1 → zcs σ s2 Q.2 ≤ w2.2.2 →
          vc_X2_steps_78 G (36 * d + 77) (zPo G A σ r e ch th Q h) (fun a' w' => (∃ i v' s', a' = (some (A 51 r 0), some th.1, some (A 4 k 0), nI m, some (A 7 k m), v', nI (zplace (zbody σ k m) i), nI i) ∧ i ≤ (zbody σ k m).length ∧ zRS G A σ r e ch th s' w'.1 ∧ kp (zSR r th) h w'.1 ∧ zstepsF σ e.1 (zpoint σ e.1 d (ch.map (fun x => x.2))) th.2.2 k m i ((zbody σ k m).drop i) v' s' = Q ∧ zcc σ s' Q.2 ≤ w'.2.1 ∧ zcs σ s' Q.2 ≤ w'.2.2) ∧ (zbody σ k m).length - zAt a'.2.2.2.2.2.2.2 < (zbody σ k m).length - zAt (nI i)) (some (A 51 r 0)) (some th.1) (some (A 4 k 0)) (nI m) (some (A 7 k m)) v2 (nI (zplace (zbody σ k m) i)) (nI i) (some (A 8 (k * 6 + m) i)) w2 := by
        intro v2 s2 w2 R2 k2 hQ2 hc2 hs2
        have c9 : w2.1 (A 8 (k * 6 + m) i) = some ((8, k, m, i), wo_o ciX7 [.int st.1, .int st.2.1, .int st.2.2]) := R2.1.step hk hm hx
        refine z_vI (z_is c9 ccX7) (z7_places (n := zn σ) hG (zsteps_ok hw hk hm hx) c9) (by omega) ⟨⟨i + 1, v2, s2, ?_, hil, R2, k2, hQ2, hc2, hs2⟩, ?_⟩
        · rw [zplace_s hx, nI_succ, ← nI_add]
        · show (zbody σ k m).length - zAt (nI i + 1) < _
          rw [← nI_succ, zAt_nI (by omega), zAt_nI (by omega)]
          omega
      generalize hD : zdone e.1 (zpoint σ e.1 d (ch.map (fun x => x.2))) th.2.2 k m (zplace (zbody σ k m) i) st v' s' = D at hC hQ1 m1
      obtain ⟨DX, S⟩ := D
      replace m1 : zl9 σ s' S := m1
      cases DX with
      | inl v2 =>
        have hQ2 : zstepsF σ e.1 (zpoint σ e.1 d (ch.map (fun x => x.2))) th.2.2 k m (i + 1) ((zbody σ k m).drop (i + 1)) v2 S = Q := hQ1
        have m2 := zsteps_mon (σ := σ) hmon e.1 th.2.2 k m ((zbody σ k m).drop (i + 1)) (i + 1) v2 S
        rw [hQ2] at m2
        have ec := zcc_add m1 m2
        have es := zcs_add m1 m2
        refine ⟨A 51 r 0, rfl, z2_isR R1, z_cPl hC (by omega) (by show zcc σ s' S ≤ _; omega) (by show zcs σ s' S ≤ _; omega) (fun h2 R2 k2 => ?_)⟩
        exact nxt v2 S _ R2 (k1.trans k2) hQ2 (by show zcc σ S Q.2 ≤ w.2.1 - zcc σ s' S; omega) (by show zcs σ S Q.2 ≤ w.2.2 - zcs σ s' S; omega)
      | inr o =>
        cases o with
        | none =>
          have hQ2 : (zup, S) = Q := hQ1
          rw [← hQ2] at hc hs ⊢
          refine ⟨A 51 r 0, rfl, z2_isR R1, z_cPr hC (by omega) hc hs (fun x h2 R2 k2 ex => ?_)⟩
          exact ⟨fun q9 => absurd q9 (by decide), fun _ => ⟨zN_GT hG, R2, k1.trans k2, x, rfl, ex⟩⟩
        | some z =>
          have m2 := zhandled_mon (σ := σ) hmon e.1 th.2.2 k m i z S
          have hQ2 : (match zhandled σ e.1 (zpoint σ e.1 d (ch.map (fun x => x.2))) th.2.2 k m i z S with
            | (.inl v', s'') => zstepsF σ e.1 (zpoint σ e.1 d (ch.map (fun x => x.2))) th.2.2 k m (i + 1) ((zbody σ k m).drop (i + 1)) v' s''
            | e => e) = Q := hQ1
          have hCh : ∀ h2 q, zRS G A σ r e ch th S h2 → zEx h2 q (some z) → _ := fun h2 q R2 ex => z2_handled (i := i) hG hw hr hd hk hm hi ex R2
          generalize hH : zhandled σ e.1 (zpoint σ e.1 d (ch.map (fun x => x.2))) th.2.2 k m i z S = H at hQ2 m2 hCh
          obtain ⟨HX, S2⟩ := H
          replace m2 : zl9 σ S S2 := m2
          cases HX with
          | inl v3 =>
            have hQ3 : zstepsF σ e.1 (zpoint σ e.1 d (ch.map (fun x => x.2))) th.2.2 k m (i + 1) ((zbody σ k m).drop (i + 1)) v3 S2 = Q := hQ2
            have m3 := zsteps_mon (σ := σ) hmon e.1 th.2.2 k m ((zbody σ k m).drop (i + 1)) (i + 1) v3 S2
            rw [hQ3] at m3
            have ec := zcc_add m1 (m2.trans m3)
            have es := zcs_add m1 (m2.trans m3)
            have ec2 := zcc_add m2 m3
            have es2 := zcs_add m2 m3
            refine ⟨A 51 r 0, rfl, z2_isR R1, z_cPr hC (by omega) (by show zcc σ s' S ≤ _; omega) (by show zcs σ s' S ≤ _; omega) (fun x h2 R2 k2 ex => ⟨fun _ => ?_, fun q9 => absurd rfl q9⟩)⟩
            refine ⟨A 51 r 0, rfl, z2_isR R2, z_cPl (hCh h2 x R2 ex) (by omega) (by show zcc σ S S2 ≤ w.2.1 - zcc σ s' S; omega) (by show zcs σ S S2 ≤ w.2.2 - zcs σ s' S; omega) (fun h3 R3 k3 => ?_)⟩
            exact nxt v3 S2 _ R3 ((k1.trans k2).trans k3) hQ3 (by show zcc σ S2 Q.2 ≤ w.2.1 - zcc σ s' S - zcc σ S S2; omega) (by show zcs σ S2 Q.2 ≤ w.2.2 - zcs σ s' S - zcs σ S S2; omega)
          | inr o2 =>
            have hQ3 : (.inr o2, S2) = Q := hQ2
            have ec := zcc_add m1 m2
            have es := zcs_add m1 m2
            rw [← hQ3] at hc hs ⊢
            have hc : zcc σ s' S2 ≤ w.2.1 := hc
            have hs : zcs σ s' S2 ≤ w.2.2 := hs
            refine ⟨A 51 r 0, rfl, z2_isR R1, z_cPr hC (by omega) (by show zcc σ s' S ≤ _; omega) (by show zcs σ s' S ≤ _; omega) (fun x h2 R2 k2 ex => ⟨fun _ => ?_, fun q9 => absurd rfl q9⟩)⟩
            refine ⟨A 51 r 0, rfl, z2_isR R2, z_cPr (hCh h2 x R2 ex) (by omega) (by show zcc σ S S2 ≤ w.2.1 - zcc σ s' S; omega) (by show zcs σ S S2 ≤ w.2.2 - zcs σ s' S; omega) (fun x3 h3 R3 k3 ex3 => ?_)⟩
            exact ⟨R3, (k1.trans k2).trans k3, x3, rfl, ex3⟩
/-- however many more can be open -/
theorem z2_deep (hG : wv_G0 G) (hw : zwf σ) (hr : zring σ = false) : ∀ d, zBC G A σ r e d ∧ zSC G A σ r e d
  | 0 => by
    have hS : zSC G A σ r e 0 := z2_steps hG hw hr (fun d' q => by cases q)
    exact ⟨z2_body hG hw hr (fun d' q => by cases q), hS⟩
  | d + 1 => by
    have ih := z2_deep hG hw hr d
    exact ⟨z2_body hG hw hr (fun d' q => by cases q; exact ih.2), z2_steps hG hw hr (fun d' q => by cases q; exact ih.1)⟩
end ZXA
