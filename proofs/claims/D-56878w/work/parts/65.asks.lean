/-! THE COMPONENT: what is asked of classes, patterns, advice -/
section ZQ
variable {G : wv_G} {A A' : zA} {σ σ' : zS} {h h1 h2 h' : wv_H} {w : wv_W} {fr fr' kc ks : Nat} {P : wv_R → wv_H → Prop} {KX : String → Nat → wv_W → Prop} {a : Nat} {t : wv_T} {f g : Nat → Nat → Nat}
theorem z1_isRing (hG : wv_G0 G) (C : zCf G A σ h) : wv_C G yX1_isRing [.ref (A 2 0 0)] h 3 1 4 (fun x h' => x = .inl (some (.int (zbI (zring σ)))) ∧ kp kn h h') := by
  refine wk_X1_isRing (v0 := some (A 2 0 0)) hG ⟨A 2 0 0, rfl, z_isC C, z_c (z1_hasRing hG C) (by omega) zle zle ?_⟩
  rintro r h' ⟨rfl, k⟩
  exact Or.inl ⟨_, rfl, zbI_n _, rfl, k⟩
def zeR (σ : zS) (x : Int32) : Nat := if zix x 4 = none then 1 else if zring σ = true then 2 else 0
theorem z1_aspectAt (hG : wv_G0 G) (C : zCf G A σ h) (x : Int32) : wv_C G yX1_aspectAt [.ref (A 2 0 0), .int x] h 8 2 10 (zRes h (zeR σ x) [zIAE, zISE] (fun r h' => r = .inl (some (.int (zasp σ (zAt x)))) ∧ kp kn h h')) := by
  refine wk_X1_aspectAt (v0 := some (A 2 0 0)) hG (z_cI (z1_inRange hG _ _ _) (by omega) ?_)
  rw [zir3]
  cases hk : zix x 4 with
  | none =>
    rw [zix_none.mp hk]
    exact z_tV (z1_ckA0 hG) (by omega) zle zle (fun q h' k => zRes.err 1 (if_pos hk) (by decide) rfl k)
  | some j =>
    obtain ⟨hj, rfl⟩ := (zix_some (by decide)).mp hk
    rw [zir_of (by decide) hk]
    have hk0 : ¬ zix (nI j) 4 = none := by rw [hk]; simp
    refine z_cV (z1_ckA hG) (by omega) ⟨A 2 0 0, rfl, z_isC C, z_c (z1_hasRing hG C) (by omega) zle zle ?_⟩
    rintro r h1 ⟨rfl, k1⟩
    have C1 := C.keepn k1
    refine Or.inl ⟨_, rfl, fun q => ?_, fun q => ?_⟩
    · exact z_tV (z1_ckS0 hG) (by omega) zle zle (fun q2 h' k => zRes.err 2 (by unfold zeR; rw [if_neg hk0, if_pos (zbI_n0 q)]) (by decide) rfl (k1.trans k))
    · refine z_cV (z1_ckS hG) (by omega) ⟨A 2 0 0, rfl, z_isC C1, z_c (z1_aspectOf hG hj C1) (by omega) zle zle ?_⟩
      rintro r h2 ⟨rfl, k2⟩
      exact Or.inl ⟨_, rfl, zRes.ok (by unfold zeR; rw [if_neg hk0, if_neg (by rw [zbI_e0 q]; decide)]) ⟨by rw [zAt_nI (by omega)], k1.trans k2⟩⟩
/-- the codes of match -/
def zeM (σ : zS) (x y p a : Int32) : Nat := if zix x (zn σ) = none then 1 else if zix y 6 = none then 2 else if zix p (zspots σ (zAt x) (zAt y)).length = none then 2 else if zix a σ.2.2.1.length = none then 3 else 0
theorem z1_match (hG : wv_G0 G) (hw : zwf σ) (C : zCf G A σ h) (L : zPls G A σ f h) (x y p a : Int32) : wv_C G yX1_match [.ref (A 2 0 0), .int x, .int y, .int p, .int a] h 62 34 527 (zRes h (zeM σ x y p a) [zIOOB, zIAE, zNSE] (fun r h' => r = .inl (some (.int (zat σ (zpl σ (zAt x) (zAt y) (zAt p)) (zadv σ (zAt a)).2.2.1))) ∧ kp zSq h h' ∧ ∃ g, zPls G A σ g h')) := by
  have hn6 := hw.1
  refine wk_X1_match (v0 := some (A 2 0 0)) hG ?_
  cases hk : zix x (zn σ) with
  | none => exact ⟨A 2 0 0, rfl, z_isC C, z_tA (z1_type0 hG C hk) (by omega) zle zle (fun q h' k => zRes.err 1 (if_pos hk) (by decide) rfl k)⟩
  | some k =>
    obtain ⟨hlt, -⟩ := (zix_some (by omega)).mp hk
    have hk0 : ¬ zix x (zn σ) = none := by rw [hk]; simp
    have exk := zix_at hk
    refine z_vA (z_isC C) (z1_type hG hw C hk) (by omega) ?_
    cases hm : zix y 6 with
    | none => exact z_tV (z1_ckM0 hG hm) (by omega) zle zle (fun q h' k => zRes.err 2 (by unfold zeM; rw [if_neg hk0, if_pos hm]) (by decide) rfl k)
    | some m =>
      obtain ⟨hm6, eym⟩ := (zix_some (by decide)).mp hm
      have hm0 : ¬ zix y 6 = none := by rw [hm]; simp
      have ey := zix_at hm
      have h17 := zspots_le hw (k := k) hm6
      refine z_cV (z1_ckM hG hm) (by omega) ?_
      rw [eym]
      refine z_vI (z_isC C) (z1_placesOf hG hw C hlt hm6) (by omega) (z_cI (z1_inRange hG _ _ _) (by omega) ?_)
      have ecode : zeM σ x (nI m) p a = if zix p (zspots σ k m).length = none then 2 else if zix a σ.2.2.1.length = none then 3 else 0 := by
        rw [← eym]
        unfold zeM
        rw [if_neg hk0, if_neg hm0, exk, ey]
      rw [exk, zAt_nI (by omega)]
      cases hp : zix p (zspots σ k m).length with
      | none =>
        rw [zix_none.mp hp]
        exact z_tV (z1_ckA0 hG) (by omega) zle zle (fun q h' k => zRes.err 2 (by rw [ecode, if_pos hp]) (by decide) rfl k)
      | some j =>
        obtain ⟨hj, epj⟩ := (zix_some (by omega)).mp hp
        have hp0 : ¬ zix p (zspots σ k m).length = none := by rw [hp]; simp
        rw [zir_of (by omega) hp]
        refine z_cV (z1_ckA hG) (by omega) ?_
        cases ha : zix a σ.2.2.1.length with
        | none => exact ⟨A 2 0 0, rfl, z_isC C, z_tA (z1_advice0 hG C ha) (by omega) zle zle (fun q h' k => zRes.err 3 (by rw [ecode, if_neg hp0, if_pos ha]) (by decide) rfl k)⟩
        | some i =>
          obtain ⟨hi, -⟩ := (zix_some (by have := hw.2.2.2.2.1; omega)).mp ha
          have ha0 : ¬ zix a σ.2.2.1.length = none := by rw [ha]; simp
          have hx : σ.2.2.1[i]? = some (zadv σ i) := by
            have := List.getElem?_eq_getElem hi
            rw [zadv_eq this]
            exact this
          have hok := zadv_ok hw hi
          have hpl := hok.2.2.1
          have h24 := hw.2.2.1
          rw [zix_at ha, epj, zAt_nI (by omega)]
          refine z_vA (z_isC C) (z1_advice hG hw C ha) (by omega) (z_gA (C.adv hx) rfl ?_)
          refine ⟨A 2 0 0, rfl, z_isC C, z_c (z1_placeOf hG hw hlt hm6 hj C L) (by omega) (by show _ ≤ 34; omega) (by show _ ≤ 527; omega) ?_⟩
          rintro r h2 ⟨d, rfl, m1, m2, m3⟩
          refine Or.inl ⟨_, rfl, ?_⟩
          have k2 : kp zSq h h2 := m3.mono (fun _ t e => Or.inl (by rw [e]))
          have C2 := C.keep k2 zSq_50
          obtain ⟨x1, x2, x3, n1, n2⟩ := m2
          have hpt := List.getElem?_eq_getElem (l := σ.2.1) hpl
          refine zAtP.call (z_is (C2.pat hpt) ccX18) zfA_X18 (z18_at hG hw _ hpl _ x1 x2 x3 C2 n1 n2) (by omega) (fun y1 y2 y3 n3 => ⟨zat_n _, ?_⟩)
          refine zRes.ok (by rw [← epj, ecode, if_neg hp0, if_neg ha0]) ⟨rfl, k2.trans (kp.put n1 (Or.inr rfl)), _, m1.up (by omega) n1 n3⟩
theorem z1_residues (hG : wv_G0 G) (hw : zwf σ) (C : zCf G A σ h) (L : zPls G A σ f h) : wv_C G yX1_residues [.ref (A 2 0 0)] h 65 (2 * zrem σ f) (31 * zrem σ f) (fun r h' => r = .inl (some (.int (nI (zpairs σ 109)))) ∧ kp zSq h h' ∧ ∃ g, zPls G A σ g h' ∧ ∀ k m, f k m ≤ g k m) := by
  refine wk_X1_residues (v0 := some (A 2 0 0)) hG ⟨A 2 0 0, rfl, z_isC C, z_c (z1_countPairs hG hw C L) (by omega) (Nat.le_refl _) (Nat.le_refl _) ?_⟩
  rintro r h' ⟨rfl, k⟩
  exact Or.inl ⟨_, rfl, rfl, k⟩
theorem z1_woven (hG : wv_G0 G) (hw : zwf σ) (C : zCf G A σ h) (L : zPls G A σ f h) : wv_C G yX1_woven [.ref (A 2 0 0)] h 65 (2 * zrem σ f) (31 * zrem σ f) (fun r h' => r = .inl (some (.int (nI (zpairs σ 121)))) ∧ kp zSq h h' ∧ ∃ g, zPls G A σ g h' ∧ ∀ k m, f k m ≤ g k m) := by
  refine wk_X1_woven (v0 := some (A 2 0 0)) hG ⟨A 2 0 0, rfl, z_isC C, z_c (z1_countPairs hG hw C L) (by omega) (Nat.le_refl _) (Nat.le_refl _) ?_⟩
  rintro r h' ⟨rfl, k⟩
  exact Or.inl ⟨_, rfl, rfl, k⟩
theorem zsm_leN {f : Nat → Nat} {b n N : Nat} (hf : ∀ j, j < n → f j ≤ b) (hn : n ≤ N) : zsm f n ≤ N * b := by
  have h1 : zsm f n ≤ zsm (fun _ => b) n := zsm_le hf
  have h2 : zsm (fun _ => b) n ≤ n * b := zsm_le1 (fun _ => Nat.le_refl _) n
  exact Nat.le_trans h1 (Nat.le_trans h2 (Nat.mul_le_mul_right b hn))
theorem zpairs_le (hw : zwf σ) (c : Int32) : zpairs σ c ≤ 7344 := by
  have h12 := hw.2.2.2.2.1
  refine Nat.le_trans (zsm_leN (b := 1224) (N := 6) (fun k hk => ?_) hw.1) (by decide)
  refine Nat.le_trans (zsm_leN (b := 204) (N := 6) (fun m hm => ?_) (Nat.le_refl _)) (by decide)
  refine Nat.le_trans (zsm_leN (b := 12) (N := 17) (fun p hp => ?_) (zspots_le hw hm)) (by decide)
  exact Nat.le_trans (zsm_leN (b := 1) (N := 12) (fun j hj => zcnt_le _ _ _) h12) (by decide)
def zeF (σ : zS) : Nat := if zpairs σ 121 + zpairs σ 110 + zpairs σ 109 = 0 then 1 else 0
def zshare (σ : zS) : UInt32 := FP.fdiv (FP.i2f (nI (zpairs σ 121 + zpairs σ 110))) (FP.i2f (nI (zpairs σ 121 + zpairs σ 110 + zpairs σ 109)))
theorem z1_sureShare (hG : wv_G0 G) (hw : zwf σ) (C : zCf G A σ h) (L : zPls G A σ f h) : wv_C G yX1_sureShare [.ref (A 2 0 0)] h 65 (6 * zrem σ f + 1) (93 * zrem σ f + 6) (fun r h' => kp zSq h h' ∧ (∃ g, zPls G A σ g h') ∧ ((zeF σ = 0 ∧ r = .inl (some (.float (zshare σ)))) ∨ (zeF σ = 1 ∧ ∃ q, r = .inr (zAE, q)))) := by
  refine wk_X1_sureShare (v0 := some (A 2 0 0)) hG ⟨A 2 0 0, rfl, z_isC C, z_c (z1_countPairs hG hw C L) (by omega) (by show _ ≤ 6 * zrem σ f + 1; omega) (by show _ ≤ 93 * zrem σ f + 6; omega) ?_⟩
  rintro r h1 ⟨rfl, k1, g1, l1, e1⟩
  have C1 := C.keep k1 zSq_50
  have r1 := zrem_le (σ := σ) e1
  refine Or.inl ⟨_, rfl, A 2 0 0, rfl, z_isC C1, z_c (z1_countPairs hG hw C1 l1) (by omega) (by show _ ≤ 6 * zrem σ f + 1 - 2 * zrem σ f; omega) (by show _ ≤ 93 * zrem σ f + 6 - 31 * zrem σ f; omega) ?_⟩
  rintro r h2 ⟨rfl, k2, g2, l2, e2⟩
  have C2 := C1.keep k2 zSq_50
  have r2 := zrem_le (σ := σ) e2
  refine Or.inl ⟨_, rfl, A 2 0 0, rfl, z_isC C2, z_c (z1_countPairs hG hw C2 l2) (by omega) (by show _ ≤ 6 * zrem σ f + 1 - 2 * zrem σ f - 2 * zrem σ g1; omega) (by show _ ≤ 93 * zrem σ f + 6 - 31 * zrem σ f - 31 * zrem σ g1; omega) ?_⟩
  rintro r h3 ⟨rfl, k3, g3, l3, e3⟩
  refine Or.inl ⟨_, rfl, ?_⟩
  have b1 := zpairs_le hw 121
  have b2 := zpairs_le hw 110
  have b3 := zpairs_le hw 109
  simp only [nI_add]
  refine ⟨fun q => ?_, fun q => ?_⟩
  · have q0 : zpairs σ 121 + zpairs σ 110 + zpairs σ 109 ≠ 0 := fun e => q (by rw [e]; rfl)
    exact ⟨zfdiv (by omega) (by omega) q0, (k1.trans k2).trans k3, ⟨g3, l3⟩, Or.inl ⟨if_neg q0, rfl⟩⟩
  · have q0 : zpairs σ 121 + zpairs σ 110 + zpairs σ 109 = 0 := by
      rcases Nat.eq_zero_or_pos (zpairs σ 121 + zpairs σ 110 + zpairs σ 109) with e | e
      · exact e
      · exact absurd q (nI_ne0 e (by omega))
    refine z_throw ccJ25 (by omega) (by show 1 ≤ 6 * zrem σ f + 1 - 2 * zrem σ f - 2 * zrem σ g1 - 2 * zrem σ g2; omega) (by show 6 ≤ 93 * zrem σ f + 6 - 31 * zrem σ f - 31 * zrem σ g1 - 31 * zrem σ g2; omega) wv_excJ25 (fun h a t fs ha ht he h4 => z_J25 hG ha ht he h4) (fun a h' k => ?_)
    exact ⟨((k1.trans k2).trans k3).trans (kn.to k), ⟨g3, l3.keep k (fun _ _ q => q.elim)⟩, Or.inr ⟨if_pos q0, a, rfl⟩⟩
-- ===== meanSteps =====
def zlens (σ : zS) : Nat := zsm (fun k => zsm (fun m => (zbody σ k m).length) 6) (zn σ)
def zbods (σ : zS) : Nat := zsm (fun k => zsm (fun m => if (zbody σ k m).isEmpty = true then 0 else 1) 6) (zn σ)
def zeN (σ : zS) : Nat := if zbods σ = 0 then 1 else 0
def zmean (σ : zS) : UInt64 := FP.ddiv (FP.i2d (nI (zlens σ))) (FP.i2d (nI (zbods σ)))
theorem z1_meanSteps (hG : wv_G0 G) (hw : zwf σ) (C : zCf G A σ h) : wv_C G yX1_meanSteps [.ref (A 2 0 0)] h 8 1 6 (fun r h' => kp kn h h' ∧ ((zeN σ = 0 ∧ r = .inl (some (.double (zmean σ)))) ∨ (zeN σ = 1 ∧ ∃ q, r = .inr (zAE, q)))) := by
  refine wk_X1_meanSteps (v0 := some (A 2 0 0)) hG ?_
  have hn := hw.1
  have hl8 : ∀ k m, m < 6 → (zbody σ k m).length ≤ 8 := fun k m hm => zbody_len hw hm
  have bl : zlens σ ≤ 288 := by
    refine Nat.le_trans (zsm_leN (b := 48) (N := 6) (fun k hk => ?_) hw.1) (by decide)
    exact Nat.le_trans (zsm_leN (b := 8) (N := 6) (fun m hm => hl8 k m hm) (Nat.le_refl _)) (by decide)
  have bb : zbods σ ≤ 36 := by
    refine Nat.le_trans (zsm_leN (b := 6) (N := 6) (fun k hk => ?_) hw.1) (by decide)
    exact Nat.le_trans (zsm_leN (b := 1) (N := 6) (fun m hm => by split <;> omega) (Nat.le_refl _)) (by decide)
  let F1 : Nat → Nat := fun k => zsm (fun m => (zbody σ k m).length) 6
  let F2 : Nat → Nat := fun k => zsm (fun m => if (zbody σ k m).isEmpty = true then 0 else 1) 6
  refine z_loopV (zn σ) (by omega) (fun v => v.2.2.2) (fun i => (some (A 2 0 0), nI (zsm F1 i), nI (zsm F2 i), nI i)) (fun _ => rfl) rfl (fun K i hi hK => ?_)
  refine z_gA C.comp rfl (C.types.vsizeR hG (by omega) (pk_le (zn σ) i (fun hle => ?_) (fun hlt => ?_)))
  · have e9 : i = zn σ := by omega
    subst e9
    refine ⟨fun q => ?_, fun q => ?_⟩
    · have q0 : zbods σ ≠ 0 := fun e => q (by show nI (zbods σ) = 0; rw [e]; rfl)
      exact ⟨zddiv (a := zlens σ) (b := zbods σ) (by omega) (by omega) q0, kp.refl h, Or.inl ⟨if_neg q0, rfl⟩⟩
    · have q0 : zbods σ = 0 := by
        rcases Nat.eq_zero_or_pos (zbods σ) with e | e
        · exact e
        · exact absurd q (show ¬ nI (zbods σ) = 0 from nI_ne0 e (by omega))
      exact z_throw ccJ25 (by omega) zle zle wv_excJ25 (fun h a t fs ha ht he h4 => z_J25 hG ha ht he h4) (fun a h' k => ⟨k, Or.inr ⟨if_pos q0, a, rfl⟩⟩)
  refine z_loopV 6 (by decide) (fun v => v.2.2.2.2) (fun j => (some (A 2 0 0), nI (zsm F1 i + zsm (fun m => (zbody σ i m).length) j), nI (zsm F2 i + zsm (fun m => if (zbody σ i m).isEmpty = true then 0 else 1) j), nI i, nI j)) (fun _ => rfl) rfl (fun K2 j hj hK2 => ?_)
  refine pk_le 6 j (fun hle => ?_) (fun hlt2 => ?_)
  · have e9 : j = 6 := by omega
    subst e9
    show K (some (A 2 0 0), nI (zsm F1 i + F1 i), nI (zsm F2 i + F2 i), nI i + 1) _
    rw [← nI_succ]
    exact hK hlt
  · refine z_gA C.comp rfl (C.types.vgetR hG hlt (by omega) (z_cc (z_is (C.type hlt) ccX6) (z_gA (C.type hlt) rfl ((C.bods hlt).vgetR hG hlt2 (by omega) (z_cc (C.body hlt hlt2).is ((C.body hlt hlt2).vsizeR hG (by omega) (z_gA C.comp rfl (C.types.vgetR hG hlt (by omega) (z_cc (z_is (C.type hlt) ccX6) (z_vI (z_is (C.type hlt) ccX6) (z6_hasBody hG C hlt hlt2) (by omega) ?_))))))))))
    have k9 := hK2 hlt2
    simp only [zsm, nI_succ] at k9
    rw [← Nat.add_assoc, ← Nat.add_assoc, ← nI_add (zsm F1 i + _), ← nI_add (zsm F2 i + _)] at k9
    refine ⟨fun q => ?_, fun q => ?_⟩
    · have he : (zbody σ i j).isEmpty = true := by simpa using zbI_e0 q
      rw [if_pos he] at k9
      exact k9
    · have he : (zbody σ i j).isEmpty = false := by simpa using zbI_n0 q
      rw [if_neg (by rw [he]; decide)] at k9
      exact k9
end ZQ
