/-! THE COMPONENT: advice told, the order asked, figures -/
section ZO
variable {G : wv_G} {A A' : zA} {σ σ' : zS} {h h1 h2 h' : wv_H} {w : wv_W} {fr fr' kc ks : Nat} {P : wv_R → wv_H → Prop} {KX : String → Nat → wv_W → Prop} {a : Nat} {t : wv_T} {f g : Nat → Nat → Nat}
def zisA (c : Int32) : Bool := decide (c = 98 ∨ c = 97 ∨ c = 120 ∨ c = 102 ∨ c = 114)
theorem z1_isAdvice (hG : wv_G0 G) (c : Int32) : wv_C G yX1_isAdvice [.int c] h 0 0 0 (fun r h' => r = .inl (some (.int (zbI (zisA c)))) ∧ h' = h) := by
  refine wk_X1_isAdvice hG ⟨fun e => ?_, fun n1 => ⟨fun e => ?_, fun n2 => ⟨fun e => ?_, fun n3 => ⟨fun e => ?_, fun n4 => ⟨fun n5 => ?_, fun e => ?_⟩⟩⟩⟩⟩
  · exact ⟨rfl, by simp [zisA, zbI, e], rfl⟩
  · exact ⟨rfl, by simp [zisA, zbI, e], rfl⟩
  · exact ⟨rfl, by simp [zisA, zbI, e], rfl⟩
  · exact ⟨rfl, by simp [zisA, zbI, e], rfl⟩
  · exact ⟨rfl, by simp [zisA, zbI, n1, n2, n3, n4, n5], rfl⟩
  · exact ⟨rfl, by simp [zisA, zbI, e], rfl⟩
/-- patterns and classes are the same -/
theorem zPls_2 (hw : zwf σ) (e : σ'.1 = σ.1) (e2 : σ'.2.1 = σ.2.1) (L : zPls G A σ f h) : zPls G A σ' f h := zPls_1 hw e (fun n _ => by unfold zpat; rw [e2]) (by rw [e2]; exact Nat.le_refl _) L
def zeA (σ : zS) (x c p m n : Int32) : Nat := if (zir x 0 3 && zisA c) = false then 1 else if (zir m (-99) 99 && zir n 0 2) = false then 1 else if zix p σ.2.1.length = none then 2 else if σ.2.2.1.length < 12 then 0 else 3
def zsA (σ : zS) (x c p m n : Int32) : zS := zaddA σ (zAt x, c, zAt p, m, zAt n, true)
theorem z1_addAdvice51 (hG : wv_G0 G) (hw : zwf σ) (C : zCf G A σ h) (L : zPls G A σ f h) {x c p m n : Int32} (h0 : (zir x 0 3 && zisA c) = true) {b : Bool} (hb : b = (zir m (-99) 99 && zir n 0 2)) : vc_X1_addAdvice_51 G 10 (zRes h (zeA σ x c p m n) [zIAE, zNSE, zISE] (fun r h' => r = .inl (some (.int (nI σ.2.2.1.length))) ∧ zNew G A (zsA σ x c p m n) h h')) (some (A 2 0 0)) x c p m n (zbI b) (h, 4, 60) := by
  have h12 := hw.2.2.2.2.1
  have hx := (Bool.and_eq_true _ _).mp h0 |>.1
  have hc := (Bool.and_eq_true _ _).mp h0 |>.2
  have hn0 : ¬ (zir x 0 3 && zisA c) = false := by rw [h0]; decide
  cases b with
  | false => exact z_tV (z1_ckA0 hG) (by omega) zle zle (fun q h' k => zRes.err 1 (by unfold zeA; rw [if_neg hn0, if_pos hb.symm]) (by decide) rfl k)
  | true =>
    have hn1 : ¬ (zir m (-99) 99 && zir n 0 2) = false := by rw [← hb]; decide
    have hbt := (Bool.and_eq_true _ _).mp hb.symm
    refine z_cV (z1_ckA hG) (by omega) ?_
    cases hk : zix p σ.2.1.length with
    | none => exact ⟨A 2 0 0, rfl, z_isC C, z_tA (z1_pattern0 hG C hk) (by omega) zle zle (fun q h' k => zRes.err 2 (by unfold zeA; rw [if_neg hn0, if_neg hn1, if_pos hk]) (by decide) rfl k)⟩
    | some k =>
      have hk0 : ¬ zix p σ.2.1.length = none := by rw [hk]; simp
      obtain ⟨hkl, -⟩ := (zix_some (by have := hw.2.2.1; omega)).mp hk
      refine z_vA (z_isC C) (z1_pattern hG hw C hk) (by omega) (z_gA C.comp rfl (C.advs.vsizeR hG (by omega) (pk_le 12 σ.2.2.1.length (fun hle => ?_) (fun hlt => ?_))))
      · exact z_tV (z1_ckS0 hG) (by omega) zle zle (fun q h' k => zRes.err 3 (by unfold zeA; rw [if_neg hn0, if_neg hn1, if_neg hk0, if_neg (by omega)]) (by decide) rfl k)
      · have hc0 : zeA σ x c p m n = 0 := by unfold zeA; rw [if_neg hn0, if_neg hn1, if_neg hk0, if_pos hlt]
        rw [zir3] at hx
        obtain ⟨i, hi4, rfl⟩ := zir_ok (by decide) hx
        have hn2 := hbt.2
        rw [zir2] at hn2
        obtain ⟨j, hj3, rfl⟩ := zir_ok (by decide) hn2
        have hfc : wv_fit .char c := by
          unfold zisA at hc
          rw [decide_eq_true_eq] at hc
          rcases hc with e | e | e | e | e <;> rw [e] <;> exact ⟨rfl, rfl⟩
        have hok : zadOk σ.2.1.length (zAt (nI i), c, zAt p, m, zAt (nI j), true) := by
          refine ⟨by rw [zAt_nI (by omega)]; exact hi4, ?_, by rw [zix_at hk]; exact hkl, ?_⟩
          · unfold zisA at hc
            exact decide_eq_true_eq.mp hc
          · show zAt (nI j) ≤ 2
            rw [zAt_nI (by omega)]
            omega
        refine z_cV (z1_ckS hG) (by omega) (z_gA C.comp rfl (z_no (14, σ.2.2.1.length, 0, 0) zle zle (fun d hd _ => ?_)))
        have hd : h d = none := hd
        have C1 := C.keepn (kp.new (x := ((14, σ.2.2.1.length, 0, 0), wo_o ciX19 [.int 0, .int 0, .int 0, va_rf none, .int 0, .int 0, .int 0])) hd)
        refine z_gA C1.comp rfl (C1.advs.vsizeR hG (by omega) (z_iV (z19_init hG (Nat.succ_ne_zero _) hfc) (by omega) ?_))
        have k3 : kp kn h (wv_up h d ((14, σ.2.2.1.length, 0, 0), wo_o ciX19 [.int (nI σ.2.2.1.length), .int (nI i), .int c, va_rf (some (A 11 k 0)), .int m, .int (nI j), .int 1])) := kp.new hd
        have C3 := C.keepn k3
        have hnc : wl_nc σ.2.2.1.length ≤ 17 := by
          unfold wl_nc
          split
          · omega
          · have := Nat.max_le.mpr ⟨(show 1 ≤ 5 by omega), (show σ.2.2.1.length / 2 ≤ 5 by omega)⟩
            omega
        refine C3.advs.cadd hG (z_el (z_is wv_up_self ccX19) q2600) (fun x hx => ?_) (by rw [z_rgl]; omega) (by omega) zle (by rw [z_rgl]; show _ ≤ 60 - 7; omega) (fun h4 c4 s4 l4 o4 g2 g3 => ?_)
        · obtain ⟨i, hi, rfl⟩ := List.mem_map.mp hx
          exact z_el (z_is (C3.adv (List.getElem?_eq_getElem (List.mem_range.mp hi))) ccX19) q2600
        · obtain ⟨md, cap, -, e9⟩ := C3.advs
          have k4 : kp (fun _ t => t = (13, 0, 0, 0)) (wv_up h d ((14, σ.2.2.1.length, 0, 0), wo_o ciX19 [.int (nI σ.2.2.1.length), .int (nI i), .int c, va_rf (some (A 11 k 0)), .int m, .int (nI j), .int 1])) h4 := kp.of e9 rfl o4
          obtain ⟨A', hA'⟩ : ∃ A' : zA, A' = fun r i j => if i = σ.2.2.1.length ∧ r = 14 then d else A r i j := ⟨_, rfl⟩
          have hval : ∀ r i j, zval σ r i j → A' r i j = A r i j := by
            rintro r i j ⟨-, -, -, v4⟩
            rw [hA']
            exact if_neg (by omega)
          have hAe : zAe A A' := by
            intro r i j hr
            rw [hA']
            exact if_neg (by omega)
          have a14 : A' 14 σ.2.2.1.length 0 = d := by rw [hA']; simp
          have C4 := C3.congrA hw hval
          have C5 : zCf G A' (zsA σ (nI i) c p m (nI j)) h4 := by
            refine C4.addA k4 ?_ ?_
            · rw [hval 13 0 0 (zval_o (by omega)), a14, zmapR (g := fun k => A 14 k 0) (fun i hi => hval 14 i 0 (zval_a hi))]
              exact l4
            · unfold zca
              rw [a14, hval 11 _ 0 (zval_p (by omega) hok.2.2.1)]
              show h4 d = some (_, wo_o ciX19 [.int (nI σ.2.2.1.length), .int (nI (zAt (nI i))), .int c, va_rf (some (A 11 (zAt p) 0)), .int m, .int (nI (zAt (nI j))), .int 1])
              rw [zAt_nI (by omega), zAt_nI (by omega), zix_at hk]
              exact k4 _ _ wv_up_self (fun q => by cases q)
          have L5 : zPls G A' (zsA σ (nI i) c p m (nI j)) f h4 := zPls_2 hw rfl rfl (((L.keep k3 (fun _ _ q => q.elim)).keep k4 (fun _ t e => by rw [e]; exact ⟨by decide, by decide⟩)).congrA (fun k m hk => hval 58 k m (zval_c (by omega) hk)))
          have hcx := C5.comp
          have hps := C5.advs
          rw [hAe 2 0 0 (Or.inl rfl)] at hcx
          have hps : zL h4 (A' 13 0 0) (13, 0, 0, 0) ((List.range (σ.2.2.1 ++ [(zAt (nI i), c, zAt p, m, zAt (nI j), true)]).length).map (fun n => A' 14 n 0)) := hps
          rw [List.length_append] at hps
          refine z_gA hcx rfl (hps.vsizeR hG (by omega) (zRes.ok hc0 ⟨?_, A', f, hAe, C5, L5, ?_⟩))
          · show Sum.inl (some (Value.int (nI (σ.2.2.1.length + 1) - 1))) = _
            rw [nI_pred]
          · exact (kn.to k3).trans (k4.mono (fun _ t e => Or.inl (by rw [e]; decide)))
theorem z1_addAdvice21 (hG : wv_G0 G) (hw : zwf σ) (C : zCf G A σ h) (L : zPls G A σ f h) {x c p m n : Int32} {b : Bool} (hb : b = (zir x 0 3 && zisA c)) : vc_X1_addAdvice_21 G 10 (zRes h (zeA σ x c p m n) [zIAE, zNSE, zISE] (fun r h' => r = .inl (some (.int (nI σ.2.2.1.length))) ∧ zNew G A (zsA σ x c p m n) h h')) (some (A 2 0 0)) x c p m n (zbI b) (h, 4, 60) := by
  cases b with
  | false => exact z_tV (z1_ckA0 hG) (by omega) zle zle (fun q h' k => zRes.err 1 (by unfold zeA; rw [if_pos hb.symm]) (by decide) rfl k)
  | true =>
    refine z_cV (z1_ckA hG) (by omega) (z_cI (z1_inRange hG _ _ _) (by omega) ⟨fun q => ?_, fun q => z_cI (z1_inRange hG _ _ _) (by omega) ⟨fun q2 => ?_, fun q2 => ?_⟩⟩)
    · exact z1_addAdvice51 hG hw C L hb.symm (b := false) (by rw [zbI_e0 q]; rfl)
    · exact z1_addAdvice51 hG hw C L hb.symm (b := false) (by rw [zbI_n0 q, zbI_e0 q2]; rfl)
    · exact z1_addAdvice51 hG hw C L hb.symm (b := true) (by rw [zbI_n0 q, zbI_n0 q2]; rfl)
theorem z1_addAdvice (hG : wv_G0 G) (hw : zwf σ) (C : zCf G A σ h) (L : zPls G A σ f h) (x c p m n : Int32) : wv_C G yX1_addAdvice [.ref (A 2 0 0), .int x, .int c, .int p, .int m, .int n] h 10 4 60 (zRes h (zeA σ x c p m n) [zIAE, zNSE, zISE] (fun r h' => r = .inl (some (.int (nI σ.2.2.1.length))) ∧ zNew G A (zsA σ x c p m n) h h')) := by
  refine wk_X1_addAdvice (v0 := some (A 2 0 0)) hG (z_cI (z1_inRange hG _ _ _) (by omega) ⟨fun q => ?_, fun q => z_cI (z1_isAdvice hG c) (by omega) ⟨fun q2 => ?_, fun q2 => ?_⟩⟩)
  · exact z1_addAdvice21 hG hw C L (b := false) (by rw [zbI_e0 q]; rfl)
  · exact z1_addAdvice21 hG hw C L (b := false) (by rw [zbI_n0 q, zbI_e0 q2]; rfl)
  · exact z1_addAdvice21 hG hw C L (b := true) (by rw [zbI_n0 q, zbI_n0 q2]; rfl)
-- ===== turn =====
def zturn (σ : zS) (k : Nat) (b : Bool) : zS := (σ.1, σ.2.1, σ.2.2.1.modify k (fun x => (x.1, x.2.1, x.2.2.1, x.2.2.2.1, x.2.2.2.2.1, b)), σ.2.2.2)
theorem zturn_get (k : Nat) (b : Bool) (n : Nat) : (zturn σ k b).2.2.1[n]? = (σ.2.2.1[n]?).map (fun x => if n = k then (x.1, x.2.1, x.2.2.1, x.2.2.2.1, x.2.2.2.2.1, b) else x) := by
  show (σ.2.2.1.modify k _)[n]? = _
  rw [List.getElem?_modify]
  by_cases e : k = n
  · subst e
    simp
  · have e2 : ¬ n = k := fun q => e q.symm
    simp [e, e2]
theorem zturn_wf (hw : zwf σ) (k : Nat) (b : Bool) : zwf (zturn σ k b) := by
  obtain ⟨w1, w2, w3, w4, w5, w6, w7⟩ := hw
  refine ⟨w1, w2, w3, w4, by rw [show (zturn σ k b).2.2.1.length = σ.2.2.1.length from List.length_modify _ _ _]; exact w5, fun x hx => ?_, w7⟩
  obtain ⟨n, hn⟩ := List.mem_iff_getElem?.mp hx
  rw [zturn_get] at hn
  cases hy : σ.2.2.1[n]? with
  | none => rw [hy] at hn; cases hn
  | some y =>
    rw [hy] at hn
    have hn : (if n = k then (y.1, y.2.1, y.2.2.1, y.2.2.2.1, y.2.2.2.2.1, b) else y) = x := by injection hn
    have h9 := w6 y (List.mem_of_getElem? hy)
    subst hn
    split
    · exact h9
    · exact h9
def zeT (σ : zS) (x : Int32) : Nat := if zix x σ.2.2.1.length = none then 1 else 0
theorem z1_turn (hG : wv_G0 G) (hw : zwf σ) (C : zCf G A σ h) (L : zPls G A σ f h) (x : Int32) (b : Bool) : wv_C G yX1_turn [.ref (A 2 0 0), .int x, .int (zbI b)] h 9 1 6 (zRes h (zeT σ x) [zNSE] (fun r h' => r = .inl (some (.int (zbI (zadv σ (zAt x)).2.2.2.2.2))) ∧ zNew G A (zturn σ (zAt x) b) h h')) := by
  have h12 := hw.2.2.2.2.1
  refine wk_X1_turn (v0 := some (A 2 0 0)) hG ?_
  cases hk : zix x σ.2.2.1.length with
  | none => exact ⟨A 2 0 0, rfl, z_isC C, z_tA (z1_advice0 hG C hk) (by omega) zle zle (fun q h' k => zRes.err 1 (by unfold zeT; rw [if_pos hk]) (by decide) rfl k)⟩
  | some k =>
    obtain ⟨hlt, -⟩ := (zix_some (by omega)).mp hk
    have hx : σ.2.2.1[k]? = some (zadv σ k) := by
      have := List.getElem?_eq_getElem hlt
      rw [zadv_eq this]
      exact this
    have hc0 : zeT σ x = 0 := by unfold zeT; rw [if_neg (by rw [hk]; simp)]
    rw [zix_at hk]
    have hadv := C.adv hx
    have fit : wv_fit .boolean (zbI b) := by cases b <;> exact ⟨rfl, rfl⟩
    refine z_vA (z_isC C) (z1_advice hG hw C hk) (by omega) (z_gI hadv rfl ⟨fit, z_pt hadv (Nat.succ_ne_zero _) (by simp) ⟨zbI_n _, zRes.ok hc0 ⟨rfl, A, f, zAe.refl A, ?_, ?_, ?_⟩⟩⟩)
    · have k1 : kp (fun _ t => t = (14, k, 0, 0)) h (wv_up h (A 14 k 0) ((14, k, 0, 0), wo_o ciX19 ([.int (nI k), .int (nI (zadv σ k).1), .int (zadv σ k).2.1, va_rf (some (A 11 (zadv σ k).2.2.1 0)), .int (zadv σ k).2.2.2.1, .int (nI (zadv σ k).2.2.2.2.1), .int (zbI (zadv σ k).2.2.2.2.2)].set 6 (.int (zbI b))))) := kp.put hadv rfl
      have hS : ∀ (r : Nat), r ≠ 14 → ∀ (a : Nat) (t : wv_T), t = (14, k, 0, 0) → t.1 ≠ r := fun r hr a t e => by rw [e]; exact fun q => hr q.symm
      refine zCf.mk (C.cx.keep k1 (hS 2 (by decide))) (C.types.keep k1 (fun q => by cases q)) (fun j hj => (C.cl (σ := σ) hj).keep k1 (fun a t e => ⟨hS 4 (by decide) a t e, hS 5 (by decide) a t e, hS 6 (by decide) a t e, hS 7 (by decide) a t e, hS 8 (by decide) a t e⟩)) (C.pats.keep k1 (fun q => by cases q)) (fun n p hn => (C.cp (σ := σ) hn).keep k1 (fun a t e => ⟨hS 11 (by decide) a t e, hS 12 (by decide) a t e⟩)) ?_ (fun n y hn => ?_) (C.ch.keep k1 (hS 15 (by decide)))
      · rw [show (zturn σ k b).2.2.1.length = σ.2.2.1.length from List.length_modify _ _ _]
        exact C.advs.keep k1 (fun q => by cases q)
      · rw [zturn_get] at hn
        cases hz : σ.2.2.1[n]? with
        | none => rw [hz] at hn; cases hn
        | some z =>
          rw [hz] at hn
          have hn : (if n = k then (z.1, z.2.1, z.2.2.1, z.2.2.2.1, z.2.2.2.2.1, b) else z) = y := by injection hn
          by_cases e : n = k
          · subst e
            rw [hx] at hz
            have hz : zadv σ n = z := Option.some.inj hz
            rw [if_pos rfl] at hn
            subst hn
            rw [← hz]
            exact wv_up_self
          · rw [if_neg e] at hn
            subst hn
            refine (k1 _ _ (C.ca hz) (fun q => e ?_))
            injection q with _ q
            injection q
    · exact zPls_2 hw rfl rfl (L.keep (S := fun _ t => t = (14, k, 0, 0)) (kp.put hadv rfl) (fun _ t e => by rw [e]; exact ⟨by show (14 : Nat) ≠ 58; decide, by show (14 : Nat) ≠ 59; decide⟩))
    · exact kp.put hadv (Or.inl (by show (14 : Nat) < 50; decide))
-- ===== precede =====
def zprec (σ : zS) (i j : Nat) (b : Bool) : zS := (σ.1, σ.2.1, σ.2.2.1, fun x y => if x = i ∧ y = j then b else σ.2.2.2 x y)
def zeE (x y : Int32) : Nat := if zir x 0 3 = true ∧ zir y 0 3 = true ∧ ¬ x = y then 0 else 1
theorem zprec_wf (hw : zwf σ) {i j : Nat} (hij : i ≠ j) (b : Bool) : zwf (zprec σ i j b) := by
  obtain ⟨w1, w2, w3, w4, w5, w6, w7⟩ := hw
  refine ⟨w1, w2, w3, w4, w5, w6, fun k => ?_⟩
  show (if k = i ∧ k = j then b else σ.2.2.2 k k) = false
  rw [if_neg (by omega)]
  exact w7 k
theorem z1_precede28 (hG : wv_G0 G) (hw : zwf σ) (C : zCf G A σ h) (L : zPls G A σ f h) {x y : Int32} {b c : Bool} (hc : c = decide (zir x 0 3 = true ∧ zir y 0 3 = true ∧ ¬ x = y)) : vc_X1_precede_28 G 8 (zRes h (zeE x y) [zIAE] (fun r h' => r = .inl (some (.int (zbI (σ.2.2.2 (zAt x) (zAt y))))) ∧ zNew G A (zprec σ (zAt x) (zAt y) b) h h')) (some (A 2 0 0)) x y (zbI b) (zbI c) (h, 1, 6) := by
  cases c with
  | false => exact z_tV (z1_ckA0 hG) (by omega) zle zle (fun q h' k => zRes.err 1 (by unfold zeE; rw [if_neg (of_decide_eq_false hc.symm)]) (by decide) rfl k)
  | true =>
    obtain ⟨e1, e2, e3⟩ := of_decide_eq_true hc.symm
    have hc0 : zeE x y = 0 := by unfold zeE; rw [if_pos ⟨e1, e2, e3⟩]
    rw [zir3] at e1 e2
    obtain ⟨i, hi, rfl⟩ := zir_ok (by decide) e1
    obtain ⟨j, hj, rfl⟩ := zir_ok (by decide) e2
    rw [zAt_nI (by omega), zAt_nI (by omega)]
    obtain ⟨fw, r1, r2⟩ := C.row hi
    refine z_cV (z1_ckA hG) (by omega) (z_gA C.comp rfl (z_lq C.ahead hi (by decide) (z_li r1 hj (by decide) (z_gA C.comp rfl (z_lq C.ahead hi (by decide) (z_si r1 (by decide) hj (by decide) ?_))))))
    rw [r2 j hj]
    have hv : vp_nar .boolean (zbI b) = zbI b := by cases b <;> rfl
    rw [hv]
    have k1 : kp (fun _ t => t = (15, 0, 0, 0)) h (wv_up h (A 15 0 0 + 1 + i) ((15, 0, 0, 0), wo_i (wv_A G 2) 4 (upd fw j (zbI b)))) := kp.put r1 rfl
    have hS : ∀ (r : Nat), r ≠ 15 → ∀ (a : Nat) (t : wv_T), t = (15, 0, 0, 0) → t.1 ≠ r := fun r hr a t e => by rw [e]; exact fun q => hr q.symm
    refine ⟨zbI_n _, zRes.ok hc0 ⟨rfl, A, f, zAe.refl A, ?_, ?_, ?_⟩⟩
    · refine zCf.mk (C.cx.keep k1 (hS 2 (by decide))) (C.types.keep k1 (fun q => by cases q)) (fun j hj => (C.cl (σ := σ) hj).keep k1 (fun a t e => ⟨hS 4 (by decide) a t e, hS 5 (by decide) a t e, hS 6 (by decide) a t e, hS 7 (by decide) a t e, hS 8 (by decide) a t e⟩)) (C.pats.keep k1 (fun q => by cases q)) (fun n p hn => (C.cp (σ := σ) hn).keep k1 (fun a t e => ⟨hS 11 (by decide) a t e, hS 12 (by decide) a t e⟩)) (C.advs.keep k1 (fun q => by cases q)) (fun n y hn => (C.ca (σ := σ) hn).keep k1 (hS 14 (by decide))) ⟨?_, fun i' hi' => ?_⟩
      · exact z_upo (by omega) C.ahead
      · by_cases e : i' = i
        · subst e
          refine ⟨_, wv_up_self, fun j' hj' => ?_⟩
          show _ = zbI (if i' = i' ∧ j' = j then b else σ.2.2.2 i' j')
          by_cases e9 : j' = j
          · subst e9
            rw [pk_us, if_pos ⟨rfl, rfl⟩]
          · rw [pk_un e9, if_neg (fun q => e9 q.2)]
            exact r2 j' hj'
        · obtain ⟨f2, s1, s2⟩ := C.row hi'
          refine ⟨f2, z_upo (by omega) s1, fun j' hj' => ?_⟩
          show _ = zbI (if i' = i ∧ j' = j then b else σ.2.2.2 i' j')
          rw [if_neg (fun q => e q.1)]
          exact s2 j' hj'
    · exact zPls_2 hw rfl rfl (L.keep k1 (fun _ t e => by rw [e]; exact ⟨by decide, by decide⟩))
    · exact k1.mono (fun _ t e => Or.inl (by rw [e]; decide))
theorem z1_precede (hG : wv_G0 G) (hw : zwf σ) (C : zCf G A σ h) (L : zPls G A σ f h) (x y : Int32) (b : Bool) : wv_C G yX1_precede [.ref (A 2 0 0), .int x, .int y, .int (zbI b)] h 8 1 6 (zRes h (zeE x y) [zIAE] (fun r h' => r = .inl (some (.int (zbI (σ.2.2.2 (zAt x) (zAt y))))) ∧ zNew G A (zprec σ (zAt x) (zAt y) b) h h')) := by
  refine wk_X1_precede (v0 := some (A 2 0 0)) hG (z_cI (z1_inRange hG _ _ _) (by omega) ⟨fun q => ?_, fun q => z_cI (z1_inRange hG _ _ _) (by omega) ⟨fun q2 => ?_, fun q2 => ⟨fun q3 => ?_, fun q3 => ?_⟩⟩⟩)
  · exact z1_precede28 hG hw C L (c := false) (by rw [zbI_e0 q]; simp)
  · exact z1_precede28 hG hw C L (c := false) (by rw [zbI_e0 q2]; simp)
  · exact z1_precede28 hG hw C L (c := false) (by simp [q3])
  · exact z1_precede28 hG hw C L (c := true) (by rw [zbI_n0 q, zbI_n0 q2]; simp [q3])
end ZO
