/-! THE COMPONENT: a step done; handlers; the steps of a body -/
section ZX8
variable {G : wv_G} {A A' : zA} {σ σ' : zS} {h h0 h1 h2 h' : wv_H} {w : wv_W} {fr fr' kc ks : Nat} {P : wv_R → wv_H → Prop} {KX : String → Nat → wv_W → Prop} {a b : Nat} {t ta tb : wv_T} {r : Nat} {tr : List zAc} {e : Bool × Int32 × Int32} {ch : List (Nat × zIn)} {th : Nat × Nat × Nat} {s s1 s2 : zR}
variable {act : Int32 → zM} {lam F : Nat} {c x y v : Int32} {i n j k m p d ty : Nat} {l : List Nat} {pt : zPF} {st : zSt} {wov : Bool} {dd : Option Nat}
theorem z2_kinds2 (hG : wv_G0 G) (hw : zwf σ) (hr : zring σ = false) (hd : d + ch.length = 20) (hk : k < zn σ) (hm : m < 6) (hB : ∀ d', d = d' + 1 → zBC G A σ r e d') (hi : (zbody σ k m)[i]? = some st) (hok : zstOk (zn σ) st) (hpl : p + zplaces st ≤ (zspots σ k m).length) (R : zRS G A σ r e ch th s w.1) (hp : 0 < zplaces st → zPa σ e.1 (some (k, m, p)) dd w.1) (k0 : kp (zSR r th) h w.1) {Q : zX × zR} (hQ : zdn1 e.1 (zpoint σ e.1 d (ch.map (fun x => x.2))) th.2.2 k m p st v s = Q)
    (hc : zcc σ s Q.2 ≤ w.2.1) (hs : zcs σ s Q.2 ≤ w.2.2) :
    vc_X2_done_36 G (36 * d + 75) (zPo G A σ r e ch th Q h) (some (A 51 r 0)) (some th.1) (some (A 4 k 0)) (nI m) (some (A 8 (k * 6 + m) i)) (nI p) v (nI k) dd w := by
  subst hQ
  have hkk : st.1 = 99 ∨ st.1 = 103 ∨ st.1 = 109 ∨ st.1 = 110 ∨ st.1 = 115 ∨ st.1 = 116 ∨ st.1 = 104 := zstOk.kinds (n := zn σ) (x := st.2.1) (y := st.2.2) hok
  have c8 : w.1 (A 8 (k * 6 + m) i) = some ((8, k, m, i), wo_o ciX7 [.int st.1, .int st.2.1, .int st.2.2]) := R.1.step hk hm hi
  exact z2_word hG c8 hkk (by omega) (z2_kinds hG hw hr hd hk hm hB hi hok hpl R hp k0 hc hs)
theorem zsteps_ok (hw : zwf σ) (hk : k < zn σ) (hm : m < 6) (hi : (zbody σ k m)[i]? = some st) : zstOk (zn σ) st := by
  obtain ⟨cl, hcl, e9⟩ : ∃ cl, σ.1[k]? = some cl ∧ zbody σ k m = cl.2 m := by
    refine ⟨_, List.getElem?_eq_getElem hk, ?_⟩
    unfold zbody
    rw [List.getElem?_eq_getElem hk]
  rw [e9] at hi
  exact ((hw.2.1 k cl hcl).2 m hm).2 st (List.mem_of_getElem? hi)
theorem zbody_le (hw : zwf σ) (hk : k < zn σ) (hm : m < 6) : (zbody σ k m).length ≤ 8 := by
  obtain ⟨cl, hcl, e9⟩ : ∃ cl, σ.1[k]? = some cl ∧ zbody σ k m = cl.2 m := by
    refine ⟨_, List.getElem?_eq_getElem hk, ?_⟩
    unfold zbody
    rw [List.getElem?_eq_getElem hk]
  rw [e9]
  exact ((hw.2.1 k cl hcl).2 m hm).1
theorem z2_done (hG : wv_G0 G) (hw : zwf σ) (hr : zring σ = false) (hd : d + ch.length = 20) (hk : k < zn σ) (hm : m < 6) (hB : ∀ d', d = d' + 1 → zBC G A σ r e d') (hi : (zbody σ k m)[i]? = some st) (v : Int32) (R : zRS G A σ r e ch th s h) :
    wv_C G yX2_done [.ref (A 51 r 0), .ref th.1, .ref (A 4 k 0), .int (nI m), .ref (A 8 (k * 6 + m) i), .int (nI (zplace (zbody σ k m) i)), .int v] h (36 * d + 75) (zcc σ s (zdone e.1 (zpoint σ e.1 d (ch.map (fun x => x.2))) th.2.2 k m (zplace (zbody σ k m) i) st v s).2) (zcs σ s (zdone e.1 (zpoint σ e.1 d (ch.map (fun x => x.2))) th.2.2 k m (zplace (zbody σ k m) i) st v s).2) (zPo G A σ r e ch th (zdone e.1 (zpoint σ e.1 d (ch.map (fun x => x.2))) th.2.2 k m (zplace (zbody σ k m) i) st v s) h) := by
  have hl := zplace_lt hi
  generalize zplace (zbody σ k m) i = p at hl ⊢
  have hok : zstOk (zn σ) st := zsteps_ok hw hk hm hi
  have C := R.1
  have c8 : h (A 8 (k * 6 + m) i) = some ((8, k, m, i), wo_o ciX7 [.int st.1, .int st.2.1, .int st.2.2]) := C.step hk hm hi
  rw [zdone_eq]
  generalize hs1 : (if 0 < zplaces st then zRk e.1 k m p s else s) = s1
  have m2 := zdn1_mon (σ := σ) (fun q v s => zpoint_mon (σ := σ) e.1 d (ch.map (fun x => x.2)) q v s) e.1 th.2.2 k m p st v s1
  generalize hQ : zdn1 e.1 (zpoint σ e.1 d (ch.map (fun x => x.2))) th.2.2 k m p st v s1 = Q at m2 ⊢
  have m1 : zl9 σ s s1 := by
    rw [← hs1]
    split
    · exact zRk_mon _ _ _ _ _
    · exact zl9.refl _
  have ec := zcc_add m1 m2
  have es := zcs_add m1 m2
  rw [← ec, ← es]
  clear ec es
  generalize hX : zcc σ s1 Q.2 = X
  generalize hY : zcs σ s1 Q.2 = Y
  have hX : zcc σ s1 Q.2 ≤ X := Nat.le_of_eq hX
  have hY : zcs σ s1 Q.2 ≤ Y := Nat.le_of_eq hY
  -- without a place
  have none0 : s1 = s → (0 < zplaces st → e.1 = false) → vc_X2_done_36 G (36 * d + 75) (zPo G A σ r e ch th Q h) (some (A 51 r 0)) (some th.1) (some (A 4 k 0)) (nI m) (some (A 8 (k * 6 + m) i)) (nI p) v (nI k) none (h, zcc σ s s1 + X, zcs σ s s1 + Y) := by
    intro q1 q2
    rw [q1, zcc_0, zcs_0, Nat.zero_add, Nat.zero_add]
    rw [q1] at hQ hX hY
    refine z2_kinds2 (w := (h, X, Y)) (dd := none) hG hw hr hd hk hm hB hi hok hl R (fun q => ?_) (kp.refl h) hQ hX hY
    rw [q2 q]
    exact rfl
  refine wk_X2_done (v0 := some (A 51 r 0)) (v1 := some th.1) (v2 := some (A 4 k 0)) (v4 := some (A 8 (k * 6 + m) i)) hG (z_gI (C.type hk) rfl (z_gI R.2.2.1 rfl ?_))
  refine ⟨fun q => ?_, fun q => ?_⟩
  · have he : e.1 = false := by
      cases he : e.1 with
      | false => rfl
      | true => rw [he] at q; exact absurd q (by decide)
    refine none0 ?_ (fun _ => he)
    rw [← hs1]
    split
    · exact zRk_f he
    · rfl
  · have he : e.1 = true := by
      cases he : e.1 with
      | true => rfl
      | false => rw [he] at q; exact absurd rfl q
    refine z_vI (z_is c8 ccX7) (z7_places (n := zn σ) hG hok c8) (by omega) ⟨fun q => ?_, fun q => ?_⟩
    · have hz : ¬ 0 < zplaces st := fun hz => by
        have h17 := zspots_le hw (k := k) hm
        have q : nI (zplaces st) ≤ 0 := q
        exact absurd q (nI_nle hz (by omega))
      refine none0 ?_ (fun q => absurd q hz)
      rw [← hs1, if_neg hz]
    · have hz : 0 < zplaces st := by
        rcases Nat.eq_zero_or_pos (zplaces st) with hz | hz
        · exfalso
          apply q
          rw [show zplaces (st.1, st.2.1, st.2.2) = 0 from hz]
          exact Int32.le_refl _
        · exact hz
      rw [if_pos hz] at hs1
      subst hs1
      refine z2_placeT (w := (h, zcc σ s (zRk e.1 k m p s) + X, zcs σ s (zRk e.1 k m p s) + Y)) (K := fun y w => vc_X2_done_36 G (36 * d + 75) _ (some (A 51 r 0)) (some th.1) (some (A 4 k 0)) (nI m) (some (A 8 (k * 6 + m) i)) (nI p) v (nI k) y w) hG hw hk hm (by omega) R he (by omega) (Nat.le_add_right _ _) (Nat.le_add_right _ _) (fun dd h1 R1 P1 k1 => ?_)
      show vc_X2_done_36 G (36 * d + 75) _ (some (A 51 r 0)) (some th.1) (some (A 4 k 0)) (nI m) (some (A 8 (k * 6 + m) i)) (nI p) v (nI k) dd (h1, zcc σ s (zRk e.1 k m p s) + X - zcc σ s (zRk e.1 k m p s), zcs σ s (zRk e.1 k m p s) + Y - zcs σ s (zRk e.1 k m p s))
      rw [Nat.add_sub_cancel_left, Nat.add_sub_cancel_left]
      exact z2_kinds2 (w := (h1, X, Y)) hG hw hr hd hk hm hB hi hok hl R1 (fun _ => P1) k1 hQ hX hY
end ZX8
