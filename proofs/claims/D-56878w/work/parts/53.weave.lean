/-! THE COMPONENT: checks, classes and steps found, places made -/
section ZD
variable {G : wv_G} {A : zA} {σ : zS} {h h1 h' : wv_H} {w : wv_W} {fr fr' kc ks : Nat} {P : wv_R → wv_H → Prop} {KX : String → Nat → wv_W → Prop} {y : MethodName} {av As : List Value}
-- ===== ranges =====
def zir (x lo hi : Int32) : Bool := if x < lo then false else if hi < x then false else true
theorem zir_ix {x : Int32} {n : Nat} (hn : n < 2 ^ 30) : zir x 0 (nI n - 1) = true ↔ ∃ j, j < n ∧ x = nI j := by
  have e1 : (nI n - 1).toInt = (n : Int) - 1 := by
    have := pk_sub_toInt (a := n) (b := 1) hn (by decide)
    exact this
  unfold zir
  by_cases h0 : x < 0
  · rw [if_pos h0]
    refine ⟨fun q => (by cases q), ?_⟩
    rintro ⟨j, hj, rfl⟩
    exact absurd h0 (nI_pos (by omega))
  · rw [if_neg h0]
    obtain ⟨j, hj, rfl⟩ := nI_of h0
    by_cases h1 : nI n - 1 < nI j
    · rw [if_pos h1]
      refine ⟨fun q => (by cases q), ?_⟩
      rintro ⟨i, hi, e⟩
      have h2 := Int32.lt_iff_toInt_lt.mp h1
      rw [e1, e, nI_toInt (by omega)] at h2
      omega
    · rw [if_neg h1]
      refine ⟨fun _ => ⟨j, ?_, rfl⟩, fun _ => rfl⟩
      have h2 : ¬ (nI n - 1).toInt < (nI j).toInt := fun q => h1 (Int32.lt_iff_toInt_lt.mpr q)
      rw [e1, nI_toInt hj] at h2
      omega
/-- an int as a place under n -/
def zix (x : Int32) (n : Nat) : Option Nat := if zir x 0 (nI n - 1) = true then some (zAt x) else none
theorem zix_some {x : Int32} {n k : Nat} (hn : n < 2 ^ 30) : zix x n = some k ↔ k < n ∧ x = nI k := by
  unfold zix
  by_cases e : zir x 0 (nI n - 1) = true
  · rw [if_pos e]
    obtain ⟨j, hj, rfl⟩ := (zir_ix hn).mp e
    rw [zAt_nI (by omega)]
    refine ⟨fun q => by cases q; exact ⟨hj, rfl⟩, fun q => ?_⟩
    rw [(nI_eq (by omega) (by omega)).mp q.2]
  · rw [if_neg e]
    refine ⟨fun q => (by cases q), fun q => absurd ((zir_ix hn).mpr ⟨k, q.1, q.2⟩) e⟩
theorem zix_none {x : Int32} {n : Nat} : zix x n = none ↔ zir x 0 (nI n - 1) = false := by
  unfold zix
  cases zir x 0 (nI n - 1) <;> simp
theorem zir_of {x : Int32} {n k : Nat} (hn : n < 2 ^ 30) (e : zix x n = some k) : zir x 0 (nI n - 1) = true := (zir_ix hn).mpr ⟨k, ((zix_some hn).mp e).1, ((zix_some hn).mp e).2⟩
theorem z1_inRange (hG : wv_G0 G) (x lo hi : Int32) : wv_C G yX1_inRange [.int x, .int lo, .int hi] h 0 0 0 (fun r h' => r = .inl (some (.int (zbI (zir x lo hi)))) ∧ h' = h) := by
  refine wk_X1_inRange hG ⟨fun e => ?_, fun e => ⟨fun e2 => ?_, fun e2 => ?_⟩⟩
  · exact ⟨rfl, by rw [zir, if_pos e]; rfl, rfl⟩
  · exact ⟨rfl, by rw [zir, if_neg e, if_pos e2]; rfl, rfl⟩
  · exact ⟨rfl, by rw [zir, if_neg e, if_neg e2]; rfl, rfl⟩
-- ===== a call that throws =====
theorem z_tV {E : String} {K : wv_W → Prop} (hC : wv_C G y av w.1 fr' 1 6 (zTh E w.1)) (hf : fr' < fr) (hc : 1 ≤ w.2.1) (hs : 6 ≤ w.2.2) (hK : ∀ q h', kp kn w.1 h' → KX E q (h', w.2.1 - 1, w.2.2 - 6)) : wv_c0 G fr y av w (wv_rV K KX) :=
  z_c hC hf hc hs (by rintro r h' ⟨⟨q, rfl⟩, k⟩; exact Or.inr ⟨E, q, rfl, hK q h' k⟩)
theorem z_tA {E : String} {K : Option Nat → wv_W → Prop} (hC : wv_C G y av w.1 fr' 1 6 (zTh E w.1)) (hf : fr' < fr) (hc : 1 ≤ w.2.1) (hs : 6 ≤ w.2.2) (hK : ∀ q h', kp kn w.1 h' → KX E q (h', w.2.1 - 1, w.2.2 - 6)) : wv_c0 G fr y av w (wv_rA K KX) :=
  z_c hC hf hc hs (by rintro r h' ⟨⟨q, rfl⟩, k⟩; exact Or.inr ⟨E, q, rfl, hK q h' k⟩)
theorem z_tI {E : String} {K : Int32 → wv_W → Prop} (hC : wv_C G y av w.1 fr' 1 6 (zTh E w.1)) (hf : fr' < fr) (hc : 1 ≤ w.2.1) (hs : 6 ≤ w.2.2) (hK : ∀ q h', kp kn w.1 h' → KX E q (h', w.2.1 - 1, w.2.2 - 6)) : wv_c0 G fr y av w (wv_rI K KX) :=
  z_c hC hf hc hs (by rintro r h' ⟨⟨q, rfl⟩, k⟩; exact Or.inr ⟨E, q, rfl, hK q h' k⟩)
theorem z1_ckA (hG : wv_G0 G) : wv_C G yX1_checkArgument [.int 1] h 0 0 0 (fun r h' => r = .inl none ∧ h' = h) := wk_X1_checkArgument hG ⟨fun _ => ⟨rfl, rfl⟩, fun q => absurd q (by decide)⟩
theorem z1_ckS (hG : wv_G0 G) : wv_C G yX1_checkState [.int 1] h 0 0 0 (fun r h' => r = .inl none ∧ h' = h) := wk_X1_checkState hG ⟨fun _ => ⟨rfl, rfl⟩, fun q => absurd q (by decide)⟩
theorem z1_ckP (hG : wv_G0 G) : wv_C G yX1_checkPlace [.int 1] h 0 0 0 (fun r h' => r = .inl none ∧ h' = h) := wk_X1_checkPlace hG ⟨fun _ => ⟨rfl, rfl⟩, fun q => absurd q (by decide)⟩
theorem z1_ckF (hG : wv_G0 G) : wv_C G yX1_checkFound [.int 1] h 0 0 0 (fun r h' => r = .inl none ∧ h' = h) := wk_X1_checkFound hG ⟨fun _ => ⟨rfl, rfl⟩, fun q => absurd q (by decide)⟩
theorem z1_ckA0 (hG : wv_G0 G) : wv_C G yX1_checkArgument [.int 0] h 7 1 6 (zTh "java/lang/IllegalArgumentException" h) :=
  wk_X1_checkArgument hG ⟨fun q => absurd rfl q, fun _ => z_throw (w := (h, 1, 6)) ccJ15 (by decide) (Nat.le_refl _) (Nat.le_refl _) wv_excJ15 (fun h a t fs ha ht he h4 => z_J15 hG ha ht he h4) (fun a h' k => ⟨⟨a, rfl⟩, k⟩)⟩
theorem z1_ckS0 (hG : wv_G0 G) : wv_C G yX1_checkState [.int 0] h 7 1 6 (zTh "java/lang/IllegalStateException" h) :=
  wk_X1_checkState hG ⟨fun q => absurd rfl q, fun _ => z_throw (w := (h, 1, 6)) ccJ11 (by decide) (Nat.le_refl _) (Nat.le_refl _) wv_excJ11 (fun h a t fs ha ht he h4 => z_J11 hG ha ht he h4) (fun a h' k => ⟨⟨a, rfl⟩, k⟩)⟩
theorem z1_ckP0 (hG : wv_G0 G) : wv_C G yX1_checkPlace [.int 0] h 7 1 6 (zTh "java/lang/IndexOutOfBoundsException" h) :=
  wk_X1_checkPlace hG ⟨fun q => absurd rfl q, fun _ => z_throw (w := (h, 1, 6)) ccJ6 (by decide) (Nat.le_refl _) (Nat.le_refl _) wv_excJ6 (fun h a t fs ha ht he h4 => z_J6 hG ha ht he h4) (fun a h' k => ⟨⟨a, rfl⟩, k⟩)⟩
theorem z1_ckF0 (hG : wv_G0 G) : wv_C G yX1_checkFound [.int 0] h 7 1 6 (zTh "java/util/NoSuchElementException" h) :=
  wk_X1_checkFound hG ⟨fun q => absurd rfl q, fun _ => z_throw (w := (h, 1, 6)) ccJ16 (by decide) (Nat.le_refl _) (Nat.le_refl _) wv_excJ16 (fun h a t fs ha ht he h4 => z_J16 hG ha ht he h4) (fun a h' k => ⟨⟨a, rfl⟩, k⟩)⟩
theorem zir5 (x : Int32) : zir x 0 5 = zir x 0 (nI 6 - 1) := by rw [show nI 6 - 1 = 5 from by decide]
theorem zir3 (x : Int32) : zir x 0 3 = zir x 0 (nI 4 - 1) := by rw [show nI 4 - 1 = 3 from by decide]
theorem zir2 (x : Int32) : zir x 0 2 = zir x 0 (nI 3 - 1) := by rw [show nI 3 - 1 = 2 from by decide]
theorem z1_ckM (hG : wv_G0 G) {x : Int32} {m : Nat} (hm : zix x 6 = some m) : wv_C G yX1_checkMethod [.int x] h 1 0 0 (fun r h' => r = .inl none ∧ h' = h) := by
  refine wk_X1_checkMethod hG (z_cI (z1_inRange hG _ _ _) (by omega) ?_)
  rw [zir5, zir_of (n := 6) (by decide) hm]
  exact z_cV (z1_ckA hG) (by omega) ⟨rfl, rfl⟩
theorem z1_ckM0 (hG : wv_G0 G) {x : Int32} (hm : zix x 6 = none) : wv_C G yX1_checkMethod [.int x] h 8 1 6 (zTh "java/lang/IllegalArgumentException" h) := by
  refine wk_X1_checkMethod hG (z_cI (z1_inRange hG _ _ _) (by omega) ?_)
  rw [zir5, zix_none.mp hm]
  exact z_tV (z1_ckA0 hG) (by omega) (Nat.le_refl _) (Nat.le_refl _) (fun q h' k => ⟨⟨q, rfl⟩, k⟩)
-- ===== classes, patterns, advices found =====
theorem z_isC (C : zCf G A σ h) : wv_is G h (A 2 0 0) RX1 := z_is C.comp ccX1
theorem z1_type (hG : wv_G0 G) (hw : zwf σ) (C : zCf G A σ h) {x : Int32} {k : Nat} (hk : zix x (zn σ) = some k) : wv_C G yX1_type [.ref (A 2 0 0), .int x] h 3 0 0 (fun r h' => r = .inl (some (va_rf (some (A 4 k 0)))) ∧ h' = h) := by
  have hn := hw.1
  obtain ⟨hlt, rfl⟩ := (zix_some (by omega)).mp hk
  refine wk_X1_type (v0 := some (A 2 0 0)) hG (z_gA C.comp rfl (C.types.vsizeR hG (by omega) (z_cI (z1_inRange hG _ _ _) (by omega) ?_)))
  rw [zir_of (by omega) hk]
  exact z_cV (z1_ckP hG) (by omega) (z_gA C.comp rfl (C.types.vgetR hG hlt (by omega) (z_cc (z_is (C.type hlt) ccX6) ⟨rfl, rfl⟩)))
theorem z1_type0 (hG : wv_G0 G) (C : zCf G A σ h) {x : Int32} (hk : zix x (zn σ) = none) : wv_C G yX1_type [.ref (A 2 0 0), .int x] h 8 1 6 (zTh "java/lang/IndexOutOfBoundsException" h) := by
  refine wk_X1_type (v0 := some (A 2 0 0)) hG (z_gA C.comp rfl (C.types.vsizeR hG (by omega) (z_cI (z1_inRange hG _ _ _) (by omega) ?_)))
  rw [zix_none.mp hk]
  exact z_tV (z1_ckP0 hG) (by omega) (Nat.le_refl _) (Nat.le_refl _) (fun q h' k => ⟨⟨q, rfl⟩, k⟩)
theorem z1_advice (hG : wv_G0 G) (hw : zwf σ) (C : zCf G A σ h) {x : Int32} {k : Nat} (hk : zix x σ.2.2.1.length = some k) : wv_C G yX1_advice [.ref (A 2 0 0), .int x] h 3 0 0 (fun r h' => r = .inl (some (va_rf (some (A 14 k 0)))) ∧ h' = h) := by
  have hn := hw.2.2.2.2.1
  obtain ⟨hlt, rfl⟩ := (zix_some (by omega)).mp hk
  refine wk_X1_advice (v0 := some (A 2 0 0)) hG (z_gA C.comp rfl (C.advs.vsizeR hG (by omega) (z_cI (z1_inRange hG _ _ _) (by omega) ?_)))
  rw [zir_of (by omega) hk]
  exact z_cV (z1_ckF hG) (by omega) (z_gA C.comp rfl (C.advs.vgetR hG hlt (by omega) (z_cc (z_is (C.adv (List.getElem?_eq_getElem hlt)) ccX19) ⟨rfl, rfl⟩)))
theorem z1_advice0 (hG : wv_G0 G) (C : zCf G A σ h) {x : Int32} (hk : zix x σ.2.2.1.length = none) : wv_C G yX1_advice [.ref (A 2 0 0), .int x] h 8 1 6 (zTh "java/util/NoSuchElementException" h) := by
  refine wk_X1_advice (v0 := some (A 2 0 0)) hG (z_gA C.comp rfl (C.advs.vsizeR hG (by omega) (z_cI (z1_inRange hG _ _ _) (by omega) ?_)))
  rw [zix_none.mp hk]
  exact z_tV (z1_ckF0 hG) (by omega) (Nat.le_refl _) (Nat.le_refl _) (fun q h' k => ⟨⟨q, rfl⟩, k⟩)
theorem z_ccU {a : Nat} {C C' : String} {K : Prop} (hi : wv_is G w.1 a C') (hc : Cond.castable C' C ∈ lw_tbl) (hK : K) : wv_cc G w (some a) C K := ⟨fun b hb => by cases hb; exact ⟨C', hi, Or.inr hc⟩, hK⟩
theorem z1_pattern (hG : wv_G0 G) (hw : zwf σ) (C : zCf G A σ h) {x : Int32} {k : Nat} (hk : zix x σ.2.1.length = some k) : wv_C G yX1_pattern [.ref (A 2 0 0), .int x] h 3 0 0 (fun r h' => r = .inl (some (va_rf (some (A 11 k 0)))) ∧ h' = h) := by
  have hn := hw.2.2.1
  obtain ⟨hlt, rfl⟩ := (zix_some (by omega)).mp hk
  refine wk_X1_pattern (v0 := some (A 2 0 0)) hG (z_gA C.comp rfl (C.pats.vsizeR hG (by omega) (z_cI (z1_inRange hG _ _ _) (by omega) ?_)))
  rw [zir_of (by omega) hk]
  exact z_cV (z1_ckF hG) (by omega) (z_gA C.comp rfl (C.pats.vgetR hG hlt (by omega) (z_ccU (z_is (C.pat (List.getElem?_eq_getElem hlt)) ccX18) q858 ⟨rfl, rfl⟩)))
theorem z1_pattern0 (hG : wv_G0 G) (C : zCf G A σ h) {x : Int32} (hk : zix x σ.2.1.length = none) : wv_C G yX1_pattern [.ref (A 2 0 0), .int x] h 8 1 6 (zTh "java/util/NoSuchElementException" h) := by
  refine wk_X1_pattern (v0 := some (A 2 0 0)) hG (z_gA C.comp rfl (C.pats.vsizeR hG (by omega) (z_cI (z1_inRange hG _ _ _) (by omega) ?_)))
  rw [zix_none.mp hk]
  exact z_tV (z1_ckF0 hG) (by omega) (Nat.le_refl _) (Nat.le_refl _) (fun q h' k => ⟨⟨q, rfl⟩, k⟩)
-- ===== places counted =====
theorem zsp1_length (i : Nat) (st : zSt) : (zsp1 i st).length = zplaces st := by
  unfold zsp1 zplaces
  by_cases h1 : st.1 = 109
  · rw [if_pos h1, if_pos h1]; rfl
  · rw [if_neg h1, if_neg h1]
    by_cases h2 : st.1 = 99 ∨ st.1 = 103 ∨ st.1 = 115 ∨ st.1 = 104
    · rw [if_pos h2, if_pos h2]; rfl
    · rw [if_neg h2, if_neg h2]; rfl
theorem zsps_length : ∀ (l : List zSt) (i : Nat), (zsps i l).length = (l.map zplaces).sum
  | [], _ => rfl
  | st :: r, i => by rw [zsps, List.length_append, zsp1_length, zsps_length r, List.map_cons, List.sum_cons]
theorem zspots_length (σ : zS) (k m : Nat) : (zspots σ k m).length = (if (zbody σ k m).isEmpty = true then 0 else 1) + ((zbody σ k m).map zplaces).sum := by
  unfold zspots
  cases hb : zbody σ k m with
  | nil => rfl
  | cons st r =>
    simp only [List.isEmpty_cons, if_neg, Bool.false_eq_true, not_false_eq_true]
    rw [List.length_cons, zsps_length]
    omega
theorem zplaces_le (st : zSt) : zplaces st ≤ 2 := by
  unfold zplaces
  split
  · omega
  · split <;> omega
theorem zsum_le : ∀ (l : List zSt), (l.map zplaces).sum ≤ 2 * l.length
  | [] => Nat.le_refl _
  | st :: r => by
    rw [List.map_cons, List.sum_cons, List.length_cons]
    have := zplaces_le st
    have := zsum_le r
    omega
theorem zbody_len (hw : zwf σ) {k m : Nat} (hm : m < 6) : (zbody σ k m).length ≤ 8 := by
  unfold zbody
  cases hc : σ.1[k]? with
  | none => exact Nat.zero_le _
  | some c => exact ((hw.2.1 k c hc).2 m hm).1
theorem zbody_ok (hw : zwf σ) {k m : Nat} (hm : m < 6) : ∀ st ∈ zbody σ k m, zstOk (zn σ) st := by
  unfold zbody
  cases hc : σ.1[k]? with
  | none => intro st hs; cases hs
  | some c => exact ((hw.2.1 k c hc).2 m hm).2
theorem zspots_le (hw : zwf σ) {k m : Nat} (hm : m < 6) : (zspots σ k m).length ≤ 17 := by
  rw [zspots_length]
  have := zsum_le (zbody σ k m)
  have := zbody_len hw (k := k) hm
  split <;> omega
theorem z_sum_take {l : List Nat} {i : Nat} (hi : i < l.length) : (l.take (i + 1)).sum = (l.take i).sum + l[i] := by
  rw [List.take_succ_eq_append_getElem hi, List.sum_append]
  simp
theorem z_take_map {l : List zSt} {i : Nat} (hi : i < l.length) : ((l.take (i + 1)).map zplaces).sum = ((l.take i).map zplaces).sum + zplaces l[i] := by
  rw [List.take_succ_eq_append_getElem hi, List.map_append, List.sum_append]
  simp
theorem z1_placesOf (hG : wv_G0 G) (hw : zwf σ) (C : zCf G A σ h) {k m : Nat} (hk : k < zn σ) (hm : m < 6) : wv_C G yX1_placesOf [.ref (A 2 0 0), .ref (A 4 k 0), .int (nI m)] h 4 0 0 (fun r h' => r = .inl (some (.int (nI (zspots σ k m).length))) ∧ h' = h) := by
  refine wk_X1_placesOf (v0 := some (A 2 0 0)) (v1 := some (A 4 k 0)) hG ?_
  refine z_vI (z_is (C.type hk) ccX6) (z6_hasBody hG C hk hm) (by omega) ?_
  have hl := zbody_len hw (k := k) hm
  have hs := zsum_le (zbody σ k m)
  have loop : ∀ (b : Nat), b ≤ 1 → b + ((zbody σ k m).map zplaces).sum = (zspots σ k m).length → vc_X1_placesOf_13 G 4 (fun r h' => r = .inl (some (.int (nI (zspots σ k m).length))) ∧ h' = h) (some (A 4 k 0)) (nI m) (nI b) (h, 0, 0) := by
    intro b hb1 hb
    refine z_gA (C.type hk) rfl ((C.bods hk).vgetR hG hm (by omega) (z_cc (C.body hk hm).is ?_))
    refine z_loopV (zbody σ k m).length (by omega) (fun v => v.2.2) (fun i => (nI (b + (((zbody σ k m).take i).map zplaces).sum), some (A 7 k m), nI i)) (fun _ => rfl) rfl (fun K i hi hK => ?_)
    refine (C.body hk hm).vsizeR hG (by omega) (pk_le (zbody σ k m).length i (fun hle => ?_) (fun hlt => ?_))
    · have e9 : i = (zbody σ k m).length := by omega
      subst e9
      refine ⟨?_, rfl⟩
      show Sum.inl (some (Value.int (nI (b + (((zbody σ k m).take (zbody σ k m).length).map zplaces).sum)))) = _
      rw [List.take_length, hb]
    · have hst : (zbody σ k m)[i]? = some (zbody σ k m)[i] := List.getElem?_eq_getElem hlt
      refine (C.body hk hm).vgetR hG hlt (by omega) (z_cc (z_is (C.step hk hm hst) ccX7) (z_vI (z_is (C.step hk hm hst) ccX7) (z7_places hG (zbody_ok hw hm _ (List.getElem_mem hlt)) (C.step hk hm hst)) (by omega) ?_))
      have k9 := hK hlt
      simp only [nI_succ, z_take_map hlt] at k9
      rw [← Nat.add_assoc, ← nI_add] at k9
      exact k9
  have hz := zspots_length σ k m
  refine ⟨fun e => ?_, fun e => ?_⟩
  · have he : (zbody σ k m).isEmpty = true := by simpa using zbI_e0 e
    rw [if_pos he] at hz
    exact loop 0 (by omega) hz.symm
  · have he : (zbody σ k m).isEmpty = false := by simpa using zbI_n0 e
    rw [if_neg (by rw [he]; decide)] at hz
    exact loop 1 (by omega) hz.symm
/-- one type's address is another's only if it is the same -/
theorem zCf.tyeq (C : zCf G A σ h) {j k : Nat} (hj : j < zn σ) (hk : k < zn σ) : A 4 j 0 = A 4 k 0 ↔ j = k := by
  refine ⟨fun e => ?_, fun e => by rw [e]⟩
  have h1 := C.type hj
  rw [e, C.type hk] at h1
  injection h1 with h1
  injection h1 with h1 _
  injection h1 with _ h1
  injection h1 with h1 _
  exact h1.symm
theorem z1_possibleIn (hG : wv_G0 G) (hw : zwf σ) (C : zCf G A σ h) {k m : Nat} (hk : k < zn σ) (hm : m < 6) : wv_C G yX1_possibleIn [.ref (A 2 0 0), .ref (A 4 k 0), .int (nI m)] h 11 0 0 (fun r h' => r = .inl (some (.int (zm (fun j => decide (zfind σ m j = some k)) (zn σ)))) ∧ h' = h) := by
  refine wk_X1_possibleIn (v0 := some (A 2 0 0)) (v1 := some (A 4 k 0)) hG ?_
  have hn := hw.1
  refine z_loopV (zn σ) (by omega) (fun v => v.2.2.2.2) (fun i => (some (A 2 0 0), some (A 4 k 0), nI m, zm (fun j => decide (zfind σ m j = some k)) i, nI i)) (fun _ => rfl) rfl (fun K i hi hK => ?_)
  refine z_gA C.comp rfl (C.types.vsizeR hG (by omega) (pk_le (zn σ) i (fun hle => ?_) (fun hlt => ?_)))
  · have e9 : i = zn σ := by omega
    subst e9
    exact ⟨rfl, rfl⟩
  · refine z_gA C.comp rfl (C.types.vgetR hG hlt (by omega) (z_cc (z_is (C.type hlt) ccX6) (z_vA (z_is (C.type hlt) ccX6) (z6_finder hG hw C hm i hlt) (by omega) ?_)))
    have key : (zfind σ m i).map (fun j => A 4 j 0) = some (A 4 k 0) ↔ zfind σ m i = some k := by
      cases hf : zfind σ m i with
      | none => simp
      | some j =>
        have hj := zfind_lt hw hlt hf
        rw [Option.map_some, Option.some_inj, Option.some_inj]
        exact C.tyeq (by omega) hk
    have k9 := hK hlt
    simp only [zm, nI_succ] at k9
    refine ⟨fun e => ?_, fun e => ?_⟩
    · rw [if_neg (by rw [decide_eq_true_eq]; exact fun q => e (key.mpr q))] at k9
      exact k9
    · rw [if_pos (by rw [decide_eq_true_eq]; exact key.mp e), ← zb_sh (by omega)] at k9
      exact k9
end ZD
