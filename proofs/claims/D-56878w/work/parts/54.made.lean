/-! THE COMPONENT: constructors; places made and kept -/
section ZE
variable {G : wv_G} {A : zA} {σ : zS} {h h1 h' : wv_H} {w : wv_W} {fr fr' kc ks : Nat} {P : wv_R → wv_H → Prop} {KX : String → Nat → wv_W → Prop} {a : Nat} {t : wv_T}
theorem z_pp {c : Nat × Nat} {ci k : Nat} {fs : List Value} {v : Value} {K : wv_W → Prop} (ht : t.1 ≠ 0) (hk : k < fs.length) (hK : K (wv_up h a (t, wo_o ci (fs.set k v)), c)) : wv_pt (wv_up h a (t, wo_o ci fs), c) (some a) ci k v K := by
  refine z_pt wv_up_self ht hk ?_
  rw [z_uu]
  exact hK
theorem z21_init (hG : wv_G0 G) {c n wi po : Int32} (ht : t.1 ≠ 0) (hf : wv_fit .char c) : wv_C G yX21_init [.ref a, .int c, .int n, .int wi, .int po] (wv_up h a (t, wo_o ciX21 [.int 0, .int 0, .int 0, .int 0, .int 0, .int 0, .int 0])) 1 0 0 (fun r h' => r = .inl none ∧ h' = wv_up h a (t, wo_o ciX21 [.int c, .int n, .int wi, .int po, .int 0, .int 0, .int 0])) :=
  wk_X21_init (v0 := some a) hG ⟨⟨a, rfl⟩, Nat.le_refl _, hf, z_pp ht (by simp) (z_pp ht (by simp) (z_pp ht (by simp) (z_pp ht (by simp) ⟨rfl, rfl⟩)))⟩
theorem z7_init (hG : wv_G0 G) {c n m : Int32} (ht : t.1 ≠ 0) (hf : wv_fit .char c) : wv_C G yX7_init [.ref a, .int c, .int n, .int m] (wv_up h a (t, wo_o ciX7 [.int 0, .int 0, .int 0])) 1 0 0 (fun r h' => r = .inl none ∧ h' = wv_up h a (t, wo_o ciX7 [.int c, .int n, .int m])) :=
  wk_X7_init (v0 := some a) hG ⟨⟨a, rfl⟩, Nat.le_refl _, hf, z_pp ht (by simp) (z_pp ht (by simp) (z_pp ht (by simp) ⟨rfl, rfl⟩))⟩
theorem z9_init (hG : wv_G0 G) {n : Int32} (ht : t.1 ≠ 0) : wv_C G yX9_init [.ref a, .int n] (wv_up h a (t, wo_o ciX9 [.int 0])) 1 0 0 (fun r h' => r = .inl none ∧ h' = wv_up h a (t, wo_o ciX9 [.int n])) :=
  wk_X9_init (v0 := some a) hG ⟨⟨a, rfl⟩, Nat.le_refl _, z_pp ht (by simp) ⟨rfl, rfl⟩⟩
theorem z10_init (hG : wv_G0 G) {n : Int32} {b : Nat} (ht : t.1 ≠ 0) : wv_C G yX10_init [.ref a, .ref b, .int n] (wv_up h a (t, wo_o ciX10 [.int 0, va_rf none])) 1 0 0 (fun r h' => r = .inl none ∧ h' = wv_up h a (t, wo_o ciX10 [.int n, va_rf (some b)])) :=
  wk_X10_init (v0 := some a) (v1 := some b) hG (z_pp ht (by simp) ⟨⟨a, rfl⟩, Nat.le_refl _, z_pp ht (by simp) ⟨rfl, rfl⟩⟩)
theorem z11_init (hG : wv_G0 G) {n : Int32} (ht : t.1 ≠ 0) : wv_C G yX11_init [.ref a, .int n] (wv_up h a (t, wo_o ciX11 [.int 0])) 1 0 0 (fun r h' => r = .inl none ∧ h' = wv_up h a (t, wo_o ciX11 [.int n])) :=
  wk_X11_init (v0 := some a) hG ⟨⟨a, rfl⟩, Nat.le_refl _, z_pp ht (by simp) ⟨rfl, rfl⟩⟩
theorem z12_init (hG : wv_G0 G) {n : Int32} (ht : t.1 ≠ 0) : wv_C G yX12_init [.ref a, .int n] (wv_up h a (t, wo_o ciX12 [.int 0])) 1 0 0 (fun r h' => r = .inl none ∧ h' = wv_up h a (t, wo_o ciX12 [.int n])) :=
  wk_X12_init (v0 := some a) hG ⟨⟨a, rfl⟩, Nat.le_refl _, z_pp ht (by simp) ⟨rfl, rfl⟩⟩
theorem z13_init (hG : wv_G0 G) {b : Nat} (ht : t.1 ≠ 0) : wv_C G yX13_init [.ref a, .ref b] (wv_up h a (t, wo_o ciX13 [va_rf none])) 1 0 0 (fun r h' => r = .inl none ∧ h' = wv_up h a (t, wo_o ciX13 [va_rf (some b)])) :=
  wk_X13_init (v0 := some a) (v1 := some b) hG ⟨⟨a, rfl⟩, Nat.le_refl _, z_pp ht (by simp) ⟨rfl, rfl⟩⟩
theorem z15_init (hG : wv_G0 G) {i c : Int32} {b d : Nat} (ht : t.1 ≠ 0) (hf : wv_fit .boolean i) (hg : wv_fit .char c) : wv_C G yX15_init [.ref a, .int i, .ref b, .ref d, .int c] (wv_up h a (t, wo_o ciX15 [.int 0, va_rf none, va_rf none, .int 0])) 1 0 0 (fun r h' => r = .inl none ∧ h' = wv_up h a (t, wo_o ciX15 [.int i, va_rf (some b), va_rf (some d), .int c])) :=
  wk_X15_init (v0 := some a) (v2 := some b) (v3 := some d) hG ⟨hf, z_pp ht (by simp) (z_pp ht (by simp) (z_pp ht (by simp) ⟨hg, z_pp ht (by simp) ⟨⟨a, rfl⟩, Nat.le_refl _, rfl, rfl⟩⟩))⟩
theorem z16_init (hG : wv_G0 G) {b : Nat} (ht : t.1 ≠ 0) : wv_C G yX16_init [.ref a, .ref b] (wv_up h a (t, wo_o ciX16 [va_rf none])) 1 0 0 (fun r h' => r = .inl none ∧ h' = wv_up h a (t, wo_o ciX16 [va_rf (some b)])) :=
  wk_X16_init (v0 := some a) (v1 := some b) hG (z_pp ht (by simp) ⟨⟨a, rfl⟩, Nat.le_refl _, rfl, rfl⟩)
theorem z17_init (hG : wv_G0 G) {c : Int32} (ht : t.1 ≠ 0) (hf : wv_fit .char c) : wv_C G yX17_init [.ref a, .int c] (wv_up h a (t, wo_o ciX17 [.int 0])) 1 0 0 (fun r h' => r = .inl none ∧ h' = wv_up h a (t, wo_o ciX17 [.int c])) :=
  wk_X17_init (v0 := some a) hG ⟨⟨a, rfl⟩, Nat.le_refl _, hf, z_pp ht (by simp) ⟨rfl, rfl⟩⟩
theorem z18_init (hG : wv_G0 G) {b n : Nat} (ht : t.1 ≠ 0) (hn : n < 32) : wv_C G yX18_init [.ref a, .ref b, .int (nI n)] (wv_up h a (t, wo_o ciX18 [va_rf none, .int 0])) 1 0 0 (fun r h' => r = .inl none ∧ h' = wv_up h a (t, wo_o ciX18 [va_rf (some b), .int (nI (2 ^ n))])) := by
  refine wk_X18_init (v0 := some a) (v1 := some b) hG ⟨⟨a, rfl⟩, Nat.le_refl _, z_pp ht (by simp) (z_pp ht (by simp) ⟨rfl, ?_⟩)⟩
  rw [zb_sh hn]
  rfl
theorem z19_init (hG : wv_G0 G) {n as c mo ti : Int32} {b : Nat} (ht : t.1 ≠ 0) (hf : wv_fit .char c) : wv_C G yX19_init [.ref a, .int n, .int as, .int c, .ref b, .int mo, .int ti] (wv_up h a (t, wo_o ciX19 [.int 0, .int 0, .int 0, va_rf none, .int 0, .int 0, .int 0])) 1 0 0 (fun r h' => r = .inl none ∧ h' = wv_up h a (t, wo_o ciX19 [.int n, .int as, .int c, va_rf (some b), .int mo, .int ti, .int 1])) :=
  wk_X19_init (v0 := some a) (v4 := some b) hG ⟨⟨a, rfl⟩, Nat.le_refl _, ⟨rfl, rfl⟩, z_pp ht (by simp) (z_pp ht (by simp) (z_pp ht (by simp) ⟨hf, z_pp ht (by simp) (z_pp ht (by simp) (z_pp ht (by simp) (z_pp ht (by simp) ⟨rfl, rfl⟩)))⟩))⟩
theorem z25_init (hG : wv_G0 G) {c n wi v : Int32} {b : Nat} {o : Option Nat} (ht : t.1 ≠ 0) (hf : wv_fit .char c) : wv_C G yX25_init [.ref a, .int c, .int n, .ref b, .int wi, .int v, va_rf o] (wv_up h a (t, wo_o ciX25 [.int 0, .int 0, va_rf none, .int 0, .int 0, va_rf none, .int 0, .int 0])) 1 0 0 (fun r h' => r = .inl none ∧ h' = wv_up h a (t, wo_o ciX25 [.int c, .int n, va_rf (some b), .int wi, .int v, va_rf o, .int 0, .int 0])) :=
  wk_X25_init (v0 := some a) (v3 := some b) hG ⟨⟨a, rfl⟩, Nat.le_refl _, hf, z_pp ht (by simp) (z_pp ht (by simp) (z_pp ht (by simp) (z_pp ht (by simp) (z_pp ht (by simp) (z_pp ht (by simp) ⟨rfl, rfl⟩)))))⟩
theorem z23_init (hG : wv_G0 G) {n : Int32} (ht : t.1 ≠ 0) : wv_C G yX23_init [.ref a, .int n] (wv_up h a (t, wo_o ciX23 [va_rf none, va_rf none, va_rf none, va_rf none, va_rf none, .int 0, .int 0])) 5 0 0 (fun r h' => r = .inl none ∧ ∃ fs : List Value, fs.length = 7 ∧ fs[6]? = some (.int n) ∧ h' = wv_up h a (t, wo_o ciX23 fs)) := by
  refine wk_X23_init (v0 := some a) hG ⟨a, rfl, 4, 0, 0, _, z_J4 hG wv_up_self ht wv_excX23 rfl, by omega, Nat.zero_le _, Nat.zero_le _, ?_⟩
  rintro r h' ⟨rfl, fs, h1, rfl⟩
  have h1 : fs.length = 7 := h1
  rw [z_uu]
  refine Or.inl ⟨rfl, z_pp ht (by omega) ⟨rfl, fs.set 6 (.int n), by rw [List.length_set]; exact h1, ?_, rfl⟩⟩
  rw [List.getElem?_set]
  simp [h1]
-- ===== places =====
theorem zst_fit {n : Nat} {st : zSt} (ok : zstOk n st) : wv_fit .char st.1 := by
  rcases ok with (e | e | e) | ⟨e, -⟩ | ⟨e, -⟩ | ⟨e | e, -⟩ <;> rw [e] <;> exact ⟨rfl, rfl⟩
theorem zm_one {q n : Nat} (hq : q < n) (hn : n ≤ 32) : zm (fun j => decide (j = q)) n = nI (2 ^ q) := by
  apply zb_ext
  intro j hj
  rw [zb_zm hn, zb_p q j (by omega)]
  by_cases e : j = q
  · simp [e, hq]
  · simp [e]
/-- the places of the steps from the i-th on -/
theorem zsps_at {st : zSt} {r : List zSt} {i L : Nat} (hL : L < zplaces st) : (zsps i (st :: r))[L]? = (zsp1 i st)[L]? := by
  rw [zsps, List.getElem?_append_left (by rw [zsp1_length]; exact hL)]
theorem zsps_on {st : zSt} {r : List zSt} {i L : Nat} (hL : ¬ L < zplaces st) : (zsps i (st :: r))[L]? = (zsps (i + 1) r)[L - zplaces st]? := by
  rw [zsps, List.getElem?_append_right (by rw [zsp1_length]; omega), zsp1_length]
theorem zspots_0 {k m p : Nat} (hp : p < (zspots σ k m).length) : (zspots σ k m) = (101, nI m, none, -1) :: zsps 0 (zbody σ k m) := by
  unfold zspots at hp ⊢
  by_cases e : (zbody σ k m).isEmpty = true
  · rw [if_pos e] at hp
    exact absurd hp (Nat.not_lt_zero _)
  · rw [if_neg e]
theorem zpl_of {k m p : Nat} {sp : zSp} (hs : zspot σ k m p = sp) : zpl σ k m p = (sp.1, sp.2.1, nI k, zposs σ k m sp) := by rw [zpl, hs]
theorem z1_madePlace (hG : wv_G0 G) (hw : zwf σ) (C : zCf G A σ h) {k m p : Nat} (hk : k < zn σ) (hm : m < 6) (hp : p < (zspots σ k m).length) : wv_C G yX1_madePlace [.ref (A 2 0 0), .ref (A 4 k 0), .int (nI m), .int (nI p)] h 12 1 7 (fun r h' => ∃ a, r = .inl (some (va_rf (some a))) ∧ h a = none ∧ h' = wv_up h a ((59, 0, 0, 0), zPlo σ (zpl σ k m p) 0 0 0)) := by
  have hn := hw.1
  have hsp := zspots_0 hp
  have h17 := zspots_le hw (k := k) hm
  refine wk_X1_madePlace (v0 := some (A 2 0 0)) (v1 := some (A 4 k 0)) hG (z_vI (z_isC C) (z1_possibleIn hG hw C hk hm) (by omega) ⟨fun e => ?_, fun e => ?_⟩)
  · have hp0 : 0 < p := by
      rcases Nat.eq_zero_or_pos p with e0 | e0
      · rw [e0] at e; exact absurd rfl e
      · exact e0
    obtain ⟨sp, hsp1⟩ : ∃ sp, (zsps 0 (zbody σ k m))[p - 1]? = some sp := by
      rw [hsp, List.length_cons] at hp
      exact ⟨_, List.getElem?_eq_getElem (by omega)⟩
    have hspot : zspot σ k m p = sp := by
      unfold zspot
      rw [hsp, List.getD_eq_getElem?_getD]
      obtain ⟨p', rfl⟩ : ∃ p', p = p' + 1 := ⟨p - 1, by omega⟩
      rw [List.getElem?_cons_succ]
      rw [Nat.add_sub_cancel] at hsp1
      rw [hsp1]
      rfl
    refine z_gA (C.type hk) rfl ((C.bods hk).vgetR hG hm (by omega) (z_cc (C.body hk hm).is ?_))
    have hb8 := zbody_len hw (k := k) hm
    refine z_loop (zbody σ k m).length (by omega) (fun v => v.2.2.2.1) (fun i v w => ∃ L, v = (some (A 4 k 0), zm (fun j => decide (zfind σ m j = some k)) (zn σ), some (A 7 k m), nI i, nI L) ∧ w = (h, 1, 7) ∧ L ≤ 17 ∧ (zsps i ((zbody σ k m).drop i))[L]? = some sp) rfl ⟨p - 1, ?_, rfl, by omega, ?_⟩ ?_
    · show (_, _, _, _, nI p - 1) = _
      rw [show nI p - 1 = nI (p - 1) from pk_sub hp0]
      rfl
    · rw [List.drop_zero]
      exact hsp1
    · rintro K i _ _ hi - ⟨L, rfl, rfl, hL, hs⟩ hK
      have hil : i < (zbody σ k m).length := by
        rcases Nat.lt_or_ge i (zbody σ k m).length with h9 | h9
        · exact h9
        · rw [List.drop_eq_nil_of_le h9] at hs
          simp [zsps] at hs
      have hst : (zbody σ k m)[i]? = some (zbody σ k m)[i] := List.getElem?_eq_getElem hil
      generalize hge : (zbody σ k m)[i] = st at hst
      have hok : zstOk (zn σ) st := by rw [← hge]; exact zbody_ok hw hm _ (List.getElem_mem hil)
      have hstp := C.step hk hm hst
      rw [List.drop_eq_getElem_cons hil, hge] at hs
      have hpl := zplaces_le st
      refine (C.body hk hm).vgetR hG hil (by omega) (z_cc (z_is hstp ccX7) (z_vI (z_is hstp ccX7) (z7_places hG hok hstp) (by omega) ?_))
      refine pk_lt L (zplaces st) (fun hlt => ?_) (fun hge2 => ?_)
      · rw [zsps_at hlt] at hs
        refine (C.body hk hm).vgetR hG hil (by omega) (z_cc (z_is hstp ccX7) (z_gI hstp rfl ?_))
        -- the place made out of kind c, name nm, possible po
        have fin : ∀ (a : Nat) (po c nm : Int32), h a = none → c = sp.1 → nm = sp.2.1 → po = zm (zposs σ k m sp) (zn σ) → wv_fit .char c → vc_X1_madePlace_195 G 12 (fun r h' => ∃ a, r = .inl (some (va_rf (some a))) ∧ h a = none ∧ h' = wv_up h a ((59, 0, 0, 0), zPlo σ (zpl σ k m p) 0 0 0)) po (nI k) nm c (some a) (some a) (wv_up h a ((59, 0, 0, 0), wo_o ciX21 [.int 0, .int 0, .int 0, .int 0, .int 0, .int 0, .int 0]), 0, 0) := by
          rintro a po c nm ha rfl rfl rfl hf
          refine z_iV (z21_init hG (by decide) hf) (by omega) ⟨a, rfl, ha, ?_⟩
          rw [zpl_of hspot]
          rfl
        by_cases e9 : st.1 = 109
        · have h2 : zplaces st = 2 := by unfold zplaces; rw [if_pos e9]
          have hq : ∃ q, q < zn σ ∧ st.2.1 = nI q := by
            rcases hok with (e | e | e) | ⟨e, -⟩ | ⟨-, hq, -⟩ | ⟨e | e, -⟩ <;> first | exact hq | (rw [e9] at e; exact absurd e (by decide))
          obtain ⟨q, hq1, hq2⟩ := hq
          have hpo : ∀ c nm i9, sp = (c, nm, some (zAt st.2.1), i9) → (1 : Int32) <<< (st.2.1 &&& 31) = zm (zposs σ k m sp) (zn σ) := by
            rintro c nm i9 rfl
            rw [hq2, zb_sh (by omega), zAt_nI (by omega)]
            exact (zm_one hq1 (by omega)).symm
          have hz : zsp1 i st = [(109, st.2.1, some (zAt st.2.1), nI i), (99, st.2.2, some (zAt st.2.1), nI i)] := by unfold zsp1; rw [if_pos e9]
          rw [hz] at hs
          rw [h2] at hlt
          refine ⟨fun q => absurd e9 q, fun _ => ⟨fun q => absurd q (by decide), fun _ => ?_⟩⟩
          by_cases hL1 : L = 1
          · subst hL1
            have hs : sp = (99, st.2.2, some (zAt st.2.1), nI i) := (Option.some.inj hs).symm
            refine ⟨fun q => absurd rfl q, fun _ => z_no (59, 0, 0, 0) (Nat.le_refl _) (Nat.le_refl _) (fun a ha _ => ⟨fun q => absurd q (by decide), fun _ => ⟨fun q => absurd rfl q, fun _ => ?_⟩⟩)⟩
            refine z_gI (z_upn ha hstp) rfl (z_gI (z_upn ha (C.type hk)) rfl ⟨fun q => absurd q (by decide), fun _ => z_gI (z_upn ha hstp) rfl ?_⟩)
            exact fin a _ _ _ ha (by rw [hs]) (by rw [hs]) (hpo _ _ _ hs) ⟨rfl, rfl⟩
          · have hL0 : L = 0 := by omega
            subst hL0
            have hs : sp = (109, st.2.1, some (zAt st.2.1), nI i) := (Option.some.inj hs).symm
            refine ⟨fun _ => z_gI hstp rfl (z_no (59, 0, 0, 0) (Nat.le_refl _) (Nat.le_refl _) (fun a ha _ => ⟨fun q => absurd q (by decide), fun _ => ⟨fun _ => ?_, fun q => absurd q (show ¬ nI 0 = 1 by decide)⟩⟩)), fun q => absurd q (show ¬ nI 0 = 1 by decide)⟩
            refine z_gI (z_upn ha hstp) rfl (z_gI (z_upn ha (C.type hk)) rfl ⟨fun q => absurd q (by decide), fun _ => z_gI (z_upn ha hstp) rfl ?_⟩)
            exact fin a _ _ _ ha (by rw [hs]; exact e9) (by rw [hs]) (hpo _ _ _ hs) (zst_fit hok)
        · have hz : zsp1 i st = [(st.1, st.2.1, none, nI i)] := by
            unfold zsp1
            rw [if_neg e9]
            unfold zplaces at hlt
            rw [if_neg e9] at hlt
            by_cases e8 : st.1 = 99 ∨ st.1 = 103 ∨ st.1 = 115 ∨ st.1 = 104
            · rw [if_pos e8]
            · rw [if_neg e8] at hlt
              omega
          have hL0 : L = 0 := by
            have : L < (zsp1 i st).length := by rw [zsp1_length]; exact hlt
            rw [hz] at this
            simp at this
            exact this
          subst hL0
          rw [hz] at hs
          have hs : sp = (st.1, st.2.1, none, nI i) := (Option.some.inj hs).symm
          refine ⟨fun _ => ⟨fun _ => z_gI hstp rfl (z_no (59, 0, 0, 0) (Nat.le_refl _) (Nat.le_refl _) (fun a ha _ => ⟨fun _ => ?_, fun q => absurd rfl q⟩)), fun q => absurd rfl q⟩, fun q => absurd q e9⟩
          refine z_gI (z_upn ha hstp) rfl (z_gI (z_upn ha (C.type hk)) rfl ⟨fun _ => ?_, fun q => absurd rfl q⟩)
          exact fin a _ _ _ ha (by rw [hs]) (by rw [hs]) (by rw [hs]; rfl) (zst_fit hok)
      · rw [zsps_on (by omega)] at hs
        refine (C.body hk hm).vgetR hG hil (by omega) (z_cc (z_is hstp ccX7) (z_vI (z_is hstp ccX7) (z7_places hG hok hstp) (by omega) ?_))
        refine hK _ _ hil (nI_succ i).symm ⟨L - zplaces st, ?_, rfl, by omega, hs⟩
        rw [pk_sub hge2, nI_succ]
  · have hp0 : p = 0 := by
      rcases Nat.eq_zero_or_pos p with e0 | e0
      · exact e0
      · exact absurd e (nI_ne0 e0 (by omega))
    subst hp0
    have hspot : zspot σ k m 0 = (101, nI m, none, -1) := by
      unfold zspot
      rw [hsp]
      rfl
    refine z_no (59, 0, 0, 0) (Nat.le_refl _) (Nat.le_refl _) (fun a ha _ => z_gI (z_upn ha (C.type hk)) rfl (z_iV (z21_init hG (by decide) ⟨rfl, rfl⟩) (by omega) ⟨a, rfl, ha, ?_⟩))
    rw [zpl_of hspot]
    rfl
theorem zPv_0 (q : zPl) : zPv σ q 0 0 0 := fun n _ => ⟨fun e => (by rw [zb_0] at e; cases e), fun _ => ⟨zb_0 n, zb_0 n⟩⟩
end ZE
