/-! THE COMPONENT: handlers; the steps of a body; deeper and deeper -/
section ZX9
variable {G : wv_G} {A A' : zA} {σ σ' : zS} {h h0 h1 h2 h' : wv_H} {w : wv_W} {fr fr' kc ks : Nat} {P : wv_R → wv_H → Prop} {KX : String → Nat → wv_W → Prop} {a b : Nat} {t ta tb : wv_T} {r : Nat} {tr : List zAc} {e : Bool × Int32 × Int32} {ch : List (Nat × zIn)} {th : Nat × Nat × Nat} {s s1 s2 : zR}
variable {act : Int32 → zM} {lam F : Nat} {c x y v : Int32} {i n j k m p d ty : Nat} {l : List Nat} {pt : zPF} {st : zSt} {wov : Bool} {dd : Option Nat}
def zdm : Nat → Int32
  | 0 => -1
  | j + 1 => nI j
theorem zdm_1 : ∀ j, zdm j + 1 = nI j
  | 0 => by decide
  | j + 1 => nI_1 j
theorem zdm_p (i : Nat) : nI i - 1 = zdm i := by
  cases i with
  | zero => decide
  | succ i => exact nI_pred i
theorem zdm_n : ∀ j, nI j + (-1) = zdm j
  | 0 => by decide
  | j + 1 => pk_m1 j
theorem zhandler_s {l : List zSt} {z : Int32} (hj : l[j]? = some st) : zhandler l z (j + 1) = if st.1 = 104 ∧ z ≤ st.2.1 then some j else zhandler l z j := by
  rw [zhandler, hj]
theorem zhandled_n {z : Int32} (hz : zhandler (zbody σ k m) z i = none) : zhandled σ wov pt ty k m i z s = (zraise z, s) := by
  unfold zhandled
  show (match zhandler (zbody σ k m) z i with | none => (zraise z, s) | some j => _ : zX × zR) = _
  rw [hz]
theorem zhandled_s {z : Int32} (hz : zhandler (zbody σ k m) z i = some j) : zhandled σ wov pt ty k m i z s = pt (104, z, ty, some (k, m, zplace (zbody σ k m) j)) 0 (zRk wov k m (zplace (zbody σ k m) j) s) := by
  unfold zhandled
  show (match zhandler (zbody σ k m) z i with | none => (zraise z, s) | some j => pt (104, z, ty, some (k, m, zplace (zbody σ k m) j)) 0 (zRk wov k m (zplace (zbody σ k m) j) s) : zX × zR) = _
  rw [hz]
theorem z63 (r : Nat) (th : Nat × Nat × Nat) : ∀ a t, zSR r th a t → t.1 ≠ 64 := fun _ t q x => by rcases q with q | q | q <;> omega
/-- the handler found -/
theorem z2_hand (hG : wv_G0 G) (hw : zwf σ) (hr : zring σ = false) (hd : d + ch.length = 20) (hk : k < zn σ) (hm : m < 6) {z : Int32} {q : Nat} (hj : (zbody σ k m)[j]? = some st) (h104 : st.1 = 104) (ex : zEx w.1 q (some z)) (R : zRS G A σ r e ch th s w.1) (k0 : kp (zSR r th) h w.1) {Q : zX × zR} (hQ : zpoint σ e.1 d (ch.map (fun x => x.2)) (104, z, th.2.2, some (k, m, zplace (zbody σ k m) j)) 0 (zRk e.1 k m (zplace (zbody σ k m) j) s) = Q) (hc : zcc σ s Q.2 ≤ w.2.1) (hs : zcs σ s Q.2 ≤ w.2.2) :
    vc_X2_handled_69 G (36 * d + 75) (zPo G A σ r e ch th Q h) (some (A 51 r 0)) (some th.1) (some (A 4 k 0)) (nI m) (some q) (some (A 7 k m)) (nI j) w := by
  have h8 := zbody_le hw hk hm
  have hjl := (List.getElem?_eq_some_iff.mp hj).1
  refine ⟨fun _ => ?_, fun q9 => absurd (nI_pos' (by omega)) q9⟩
  refine z_loopV j (by omega) (fun v => v.2.2.2.2.2.2.2.2) (fun i => (some (A 51 r 0), some th.1, some (A 4 k 0), nI m, some q, some (A 7 k m), nI j, nI (zplace (zbody σ k m) i), nI i)) (fun i => rfl) ?_ ?_
  · rw [zplace_0]
    rfl
  · intro K i hi hK
    refine ⟨fun q9 => ?_, fun q9 => ?_⟩
    · have hij : i = j := by
        have := (nI_leI (a := j) (b := i) (by omega) (by omega)).mp q9
        omega
      subst hij
      have hl := zplace_lt hj
      have hz1 : zplaces st = 1 := by
        obtain ⟨c, x, y⟩ := st
        have h104 : c = 104 := h104
        subst h104
        exact zpls_h
      have m1 := zRk_mon (σ := σ) e.1 k m (zplace (zbody σ k m) i) s
      have m2 := zpoint_mon (σ := σ) e.1 d (ch.map (fun x => x.2)) (104, z, th.2.2, some (k, m, zplace (zbody σ k m) i)) 0 (zRk e.1 k m (zplace (zbody σ k m) i) s)
      rw [hQ] at m2
      have ec := zcc_add m1 m2
      have es := zcs_add m1 m2
      refine z_gI R.2.2.1 rfl (z2_place (w := w) (K := fun y w => vc_X2_handled_136 G (36 * d + 75) _ (some (A 51 r 0)) (some th.1) (some (A 4 k 0)) (some q) y w) hG hw hk hm (by omega) R (by omega) (by omega) (by omega) (fun dd h1 R1 P1 k1 => ?_))
      have ex1 := ex.keep k1 (z63 r th)
      obtain ⟨fs, x1, x2⟩ := ex1
      obtain ⟨-, -, -, -, -, -, ⟨t1, t2, t3⟩, -⟩ := id R1
      have hC := z2_lone (j := 5) hG hw hr hd (q := (104, z, th.2.2, some (k, m, zplace (zbody σ k m) i))) (v := 0) ⟨rfl, rfl⟩ (Or.inr rfl) (Or.inr rfl) t1 R1 P1
      rw [hQ] at hC
      exact z_gI x1 x2 (z_gA t2 rfl (z_gI (R1.1.type hk) rfl ⟨by omega, A 51 r 0, rfl, z2_isR R1, z_cPo hC (by omega) (by show zcc σ _ _ - 1 ≤ w.2.1 - _; omega) (by show zcs σ _ _ - 4 ≤ w.2.2 - _; omega) (k0.trans k1)⟩))
    · have hij : i < j := by
        rcases Nat.lt_or_ge i j with hij | hij
        · exact hij
        · exact absurd ((nI_leI (a := j) (b := i) (by omega) (by omega)).mpr hij) q9
      have hx : (zbody σ k m)[i]? = some (zbody σ k m)[i] := List.getElem?_eq_getElem (by omega)
      have c8 : w.1 (A 8 (k * 6 + m) i) = some ((8, k, m, i), wo_o ciX7 [.int (zbody σ k m)[i].1, .int (zbody σ k m)[i].2.1, .int (zbody σ k m)[i].2.2]) := R.1.step hk hm hx
      refine (R.1.body hk hm).vgetR hG (by omega) (by omega) (z_cc (z_is c8 ccX7) (z_vI (z_is c8 ccX7) (z7_places (n := zn σ) hG (zsteps_ok hw hk hm hx) c8) (by omega) ?_))
      have := hK hij
      rw [zplace_s hx, nI_succ, ← nI_add] at this
      exact this
theorem z2_handled (hG : wv_G0 G) (hw : zwf σ) (hr : zring σ = false) (hd : d + ch.length = 20) (hk : k < zn σ) (hm : m < 6) (hi : i ≤ (zbody σ k m).length) {z : Int32} {q : Nat} (ex : zEx h q (some z)) (R : zRS G A σ r e ch th s h) :
    wv_C G yX2_handled [.ref (A 51 r 0), .ref th.1, .ref (A 4 k 0), .int (nI m), .int (nI i), .ref q] h (36 * d + 75) (zcc σ s (zhandled σ e.1 (zpoint σ e.1 d (ch.map (fun x => x.2))) th.2.2 k m i z s).2) (zcs σ s (zhandled σ e.1 (zpoint σ e.1 d (ch.map (fun x => x.2))) th.2.2 k m i z s).2) (zPo G A σ r e ch th (zhandled σ e.1 (zpoint σ e.1 d (ch.map (fun x => x.2))) th.2.2 k m i z s) h) := by
  have h8 := zbody_le hw hk hm
  have C := R.1
  generalize hQ : zhandled σ e.1 (zpoint σ e.1 d (ch.map (fun x => x.2))) th.2.2 k m i z s = Q
  generalize hX : zcc σ s Q.2 = X
  generalize hY : zcs σ s Q.2 = Y
  have hX : zcc σ s Q.2 ≤ X := Nat.le_of_eq hX
  have hY : zcs σ s Q.2 ≤ Y := Nat.le_of_eq hY
  refine wk_X2_handled (v0 := some (A 51 r 0)) (v1 := some th.1) (v2 := some (A 4 k 0)) (v5 := some q) hG (z_gA (C.type hk) rfl ((C.bods hk).vgetR hG hm (by omega) (z_cc (C.body hk hm).is ?_)))
  refine ⟨fun v w => w = (h, X, Y) ∧ ∃ j, j ≤ i ∧ v = (some (A 51 r 0), some th.1, some (A 4 k 0), nI m, some q, some (A 7 k m), zdm j) ∧ zhandler (zbody σ k m) z i = zhandler (zbody σ k m) z j, fun v _ => zAt (v.2.2.2.2.2.2 + 1), ⟨rfl, i, Nat.le_refl _, ?_, rfl⟩, ?_⟩
  · rw [zdm_p]
  · rintro _ _ ⟨rfl, j, hj, rfl, hzj⟩
    have hmu : ∀ j', j' < 2 ^ 31 → zAt (zdm j' + 1) = j' := fun j' hj' => by rw [zdm_1]; exact zAt_nI hj'
    cases j with
    | zero =>
      refine ⟨fun _ => ⟨fun q9 => absurd q9 (show ¬ (0 : Int32) ≤ -1 by decide), fun _ => ex.at ?_⟩, fun q9 => absurd (show (-1 : Int32) < 0 by decide) q9⟩
      have hn : zhandler (zbody σ k m) z i = none := hzj
      rw [zhandled_n hn] at hQ
      rw [← hQ]
      exact ⟨R, kp.refl _, q, rfl, ex⟩
    | succ j =>
      have hx : (zbody σ k m)[j]? = some (zbody σ k m)[j] := List.getElem?_eq_getElem (by omega)
      have c8 : h (A 8 (k * 6 + m) j) = some ((8, k, m, j), wo_o ciX7 [.int (zbody σ k m)[j].1, .int (zbody σ k m)[j].2.1, .int (zbody σ k m)[j].2.2]) := C.step hk hm hx
      rw [zhandler_s hx] at hzj
      have nxt : zhandler (zbody σ k m) z i = zhandler (zbody σ k m) z j → (((h, X, Y) : wv_W) = (h, X, Y) ∧ ∃ j_1, j_1 ≤ i ∧ (some (A 51 r 0), some th.1, some (A 4 k 0), nI m, some q, some (A 7 k m), nI j + (-1)) = (some (A 51 r 0), some th.1, some (A 4 k 0), nI m, some q, some (A 7 k m), zdm j_1) ∧ zhandler (zbody σ k m) z i = zhandler (zbody σ k m) z j_1) ∧ zAt (nI j + (-1) + 1) < zAt (zdm (j + 1) + 1) := by
        intro q9
        rw [zdm_n, hmu j (by omega), hmu (j + 1) (by omega)]
        exact ⟨⟨rfl, j, by omega, rfl, q9⟩, Nat.lt_succ_self j⟩
      refine ⟨fun q9 => absurd q9 (nI_pos (n := j) (by omega)), fun _ => ?_⟩
      refine (C.body hk hm).vgetR hG (i := j) (by omega) (by omega) (z_cc (z_is c8 ccX7) (z_gI c8 rfl ⟨fun q9 => ?_, fun q9 => ?_⟩))
      · rw [if_neg (fun x => q9 x.1)] at hzj
        exact nxt hzj
      · obtain ⟨fs, x1, x2⟩ := id ex
        refine z_gI x1 x2 ((C.body hk hm).vgetR hG (i := j) (by omega) (by omega) (z_cc (z_is c8 ccX7) (z_gI c8 rfl ⟨fun q8 => ?_, fun q8 => ?_⟩)))
        · rw [if_pos ⟨q9, q8⟩] at hzj
          rw [zhandled_s hzj] at hQ
          exact z2_hand (w := (h, X, Y)) hG hw hr hd hk hm hx q9 ex R (kp.refl _) hQ hX hY
        · rw [if_neg (fun x => q8 x.2)] at hzj
          exact nxt hzj
end ZX9
