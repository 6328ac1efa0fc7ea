/-! THE COMPONENT: addStep, dropBody, finds, places -/
section ZM
variable {G : wv_G} {A A' : zA} {σ : zS} {h h1 h2 h' : wv_H} {w : wv_W} {fr fr' kc ks : Nat} {P : wv_R → wv_H → Prop} {KX : String → Nat → wv_W → Prop} {a : Nat} {t : wv_T} {f g : Nat → Nat → Nat}
theorem zbI_n (b : Bool) : narrow .boolean (.int (zbI b)) = .int (zbI b) := by cases b <;> rfl
def zstR (σ : zS) (c a b : Int32) : Bool :=
  if c = 110 then zir a (-99) 99 else if c = 99 then zir a 0 5 else if c = 109 then zir a 0 (nI (zn σ) - 1) && zir b 0 5 else if c = 103 ∨ c = 115 ∨ c = 104 then zir a 0 3 else if c = 116 then zir a 0 3 && zir b (-99) 99 else false
theorem zir_ok {x : Int32} {n : Nat} (hn : n < 2 ^ 30) (e : zir x 0 (nI n - 1) = true) : ∃ j, j < n ∧ x = nI j := (zir_ix hn).mp e
theorem zstR_ok (hn : zn σ ≤ 6) {c a b : Int32} (e : zstR σ c a b = true) : zstOk (zn σ) (c, a, b) := by
  unfold zstR at e
  by_cases h1 : c = 110
  · exact Or.inl (Or.inl h1)
  rw [if_neg h1] at e
  by_cases h2 : c = 99
  · rw [if_pos h2, zir5] at e
    exact Or.inr (Or.inl ⟨h2, zir_ok (by decide) e⟩)
  rw [if_neg h2] at e
  by_cases h3 : c = 109
  · rw [if_pos h3, Bool.and_eq_true, zir5] at e
    exact Or.inr (Or.inr (Or.inl ⟨h3, zir_ok (by omega) e.1, zir_ok (by decide) e.2⟩))
  rw [if_neg h3] at e
  by_cases h4 : c = 103 ∨ c = 115 ∨ c = 104
  · rw [if_pos h4, zir3] at e
    rcases h4 with h4 | h4 | h4
    · exact Or.inr (Or.inr (Or.inr ⟨Or.inl h4, zir_ok (by decide) e⟩))
    · exact Or.inr (Or.inr (Or.inr ⟨Or.inr h4, zir_ok (by decide) e⟩))
    · exact Or.inl (Or.inr (Or.inr h4))
  rw [if_neg h4] at e
  by_cases h5 : c = 116
  · exact Or.inl (Or.inr (Or.inl h5))
  · rw [if_neg h5] at e
    cases e

theorem z1_isStepRight (hG : wv_G0 G) (C : zCf G A σ h) (c a b : Int32) : wv_C G yX1_isStepRight [.ref (A 2 0 0), .int c, .int a, .int b] h 1 0 0 (fun r h' => r = .inl (some (.int (zbI (zstR σ c a b)))) ∧ h' = h) := by
  refine wk_X1_isStepRight (v0 := some (A 2 0 0)) hG ?_
  unfold vc_X1_isStepRight_0 vc_X1_isStepRight_142
  refine ⟨fun e => ?_, fun n99 => ⟨fun e => ?_, fun n100 => ⟨fun e => ?_, fun n101 => ⟨fun e => ?_, fun n102 => ⟨fun e => ?_, fun n103 => ⟨fun e => ?_, fun n104 => ⟨fun e => ?_, fun n105 => ⟨fun e => ?_, fun n106 => ⟨fun e => ?_, fun n107 => ⟨fun e => ?_, fun n108 => ⟨fun e => ?_, fun n109 => ⟨fun e => ?_, fun n110 => ⟨fun e => ?_, fun n111 => ⟨fun e => ?_, fun n112 => ⟨fun e => ?_, fun n113 => ⟨fun e => ?_, fun n114 => ⟨fun e => ?_, fun n115 => ⟨fun e => ?_, fun n116 => ?_⟩⟩⟩⟩⟩⟩⟩⟩⟩⟩⟩⟩⟩⟩⟩⟩⟩⟩
  · subst e
    exact z_cI (z1_inRange hG _ _ _) (by omega) ⟨zbI_n _, by simp [zstR], rfl⟩
  · subst e
    exact ⟨rfl, by simp [zstR, zbI], rfl⟩
  · subst e
    exact ⟨rfl, by simp [zstR, zbI], rfl⟩
  · subst e
    exact ⟨rfl, by simp [zstR, zbI], rfl⟩
  · subst e
    exact z_cI (z1_inRange hG _ _ _) (by omega) ⟨zbI_n _, by simp [zstR], rfl⟩
  · subst e
    exact z_cI (z1_inRange hG _ _ _) (by omega) ⟨zbI_n _, by simp [zstR], rfl⟩
  · subst e
    exact ⟨rfl, by simp [zstR, zbI], rfl⟩
  · subst e
    exact ⟨rfl, by simp [zstR, zbI], rfl⟩
  · subst e
    exact ⟨rfl, by simp [zstR, zbI], rfl⟩
  · subst e
    exact ⟨rfl, by simp [zstR, zbI], rfl⟩
  · subst e
    refine z_gA C.comp rfl (C.types.vsizeR hG (by omega) (z_cI (z1_inRange hG _ _ _) (by omega) ⟨fun q => ⟨rfl, ?_, rfl⟩, fun q => z_cI (z1_inRange hG _ _ _) (by omega) ⟨fun q2 => ⟨rfl, ?_, rfl⟩, fun q2 => ⟨rfl, ?_, rfl⟩⟩⟩))
    · have q := zbI_e0 q
      simp [zstR, q, zbI]
    · have q := zbI_n0 q
      have q2 := zbI_e0 q2
      simp [zstR, q, q2, zbI]
    · have q := zbI_n0 q
      have q2 := zbI_n0 q2
      simp [zstR, q, q2, zbI]
  · subst e
    exact z_cI (z1_inRange hG _ _ _) (by omega) ⟨zbI_n _, by simp [zstR], rfl⟩
  · subst e
    exact ⟨rfl, by simp [zstR, zbI], rfl⟩
  · subst e
    exact ⟨rfl, by simp [zstR, zbI], rfl⟩
  · subst e
    exact ⟨rfl, by simp [zstR, zbI], rfl⟩
  · subst e
    exact ⟨rfl, by simp [zstR, zbI], rfl⟩
  · subst e
    exact z_cI (z1_inRange hG _ _ _) (by omega) ⟨zbI_n _, by simp [zstR], rfl⟩
  · subst e
    refine z_cI (z1_inRange hG _ _ _) (by omega) ⟨fun q => ⟨rfl, ?_, rfl⟩, fun q => z_cI (z1_inRange hG _ _ _) (by omega) ⟨fun q2 => ⟨rfl, ?_, rfl⟩, fun q2 => ⟨rfl, ?_, rfl⟩⟩⟩
    · have q := zbI_e0 q
      simp [zstR, q, zbI]
    · have q := zbI_n0 q
      have q2 := zbI_e0 q2
      simp [zstR, q, q2, zbI]
    · have q := zbI_n0 q
      have q2 := zbI_n0 q2
      simp [zstR, q, q2, zbI]
  · exact ⟨rfl, by simp [zstR, zbI, n99, n103, n104, n109, n110, n115, n116], rfl⟩
-- ===== addStep =====
theorem wl_nc8 {n : Nat} (hn : n < 8) : wl_nc n ≤ 10 := by
  rcases (show n = 0 ∨ n = 1 ∨ n = 2 ∨ n = 3 ∨ n = 4 ∨ n = 5 ∨ n = 6 ∨ n = 7 by omega) with rfl | rfl | rfl | rfl | rfl | rfl | rfl | rfl <;> decide
def zeS (σ : zS) (t m c a b : Int32) : Nat := if zix t (zn σ) = none then 1 else if zix m 6 = none ∨ zstR σ c a b = false then 2 else if (zbody σ (zAt t) (zAt m)).length < 8 then 0 else 3
def zsS (σ : zS) (t m c a b : Int32) : zS := zset σ (zAt t) (zAt m) (zbody σ (zAt t) (zAt m) ++ [(c, a, b)])
theorem zix_at {x : Int32} {n k : Nat} (hk : zix x n = some k) : zAt x = k := by
  unfold zix at hk
  split at hk
  · exact Option.some.inj hk
  · cases hk
theorem zPl0.keep2 {n : Nat} {D : Nat → Nat → Prop} {S : Nat → wv_T → Prop} (L : zPl0 A n h D) (k : kp S h h1) (hS : ∀ a t, S a t → t.1 ≠ 58) : zPl0 A n h1 D := L.keep k hS
theorem z1_addStep (hG : wv_G0 G) (hw : zwf σ) (C : zCf G A σ h) (L : zPls G A σ f h) (x y c p q : Int32) : wv_C G yX1_addStep [.ref (A 2 0 0), .int x, .int y, .int c, .int p, .int q] h 9 2 20 (zRes h (zeS σ x y c p q) [zIOOB, zIAE, zISE] (fun r h' => r = .inl (some (.int (nI ((zbody σ (zAt x) (zAt y)).length + 1)))) ∧ zNew G A (zsS σ x y c p q) h h')) := by
  have hn6 := hw.1
  refine wk_X1_addStep (v0 := some (A 2 0 0)) hG ?_
  cases hk : zix x (zn σ) with
  | none =>
    refine ⟨A 2 0 0, rfl, z_isC C, z_tA (z1_type0 hG C hk) (by omega) zle zle (fun q h' k => zRes.err 1 ?_ (by decide) rfl k)⟩
    unfold zeS
    rw [if_pos hk]
  | some k =>
    obtain ⟨hlt, -⟩ := (zix_some (by omega)).mp hk
    have exk := zix_at hk
    refine z_vA (z_isC C) (z1_type hG hw C hk) (by omega) ?_
    cases hm : zix y 6 with
    | none =>
      refine z_tV (z1_ckM0 hG hm) (by omega) zle zle (fun q h' k => zRes.err 2 ?_ (by decide) rfl k)
      unfold zeS
      rw [if_neg (by rw [hk]; simp), if_pos (Or.inl hm)]
    | some m =>
      obtain ⟨hm6, eym⟩ := (zix_some (by decide)).mp hm
      have ey := zix_at hm
      refine z_cV (z1_ckM hG hm) (by omega) (z_vI (z_isC C) (z1_isStepRight hG C c p q) (by omega) ?_)
      cases hs : zstR σ c p q with
      | false =>
        refine z_tV (z1_ckA0 hG) (by omega) zle zle (fun q h' k => zRes.err 2 ?_ (by decide) rfl k)
        unfold zeS
        rw [if_neg (by rw [hk]; simp), if_pos (Or.inr hs)]
      | true =>
        have hb8 := zbody_len hw (k := k) hm6
        rw [exk, ey]
        unfold zsS
        rw [exk, ey, eym]
        refine z_cV (z1_ckA hG) (by omega) (z_gA (C.type hlt) rfl ((C.bods hlt).vgetR hG hm6 (by omega) (z_cc (C.body hlt hm6).is ((C.body hlt hm6).vsizeR hG (by omega) (pk_le 8 (zbody σ k m).length (fun hle => ?_) (fun hl8 => ?_))))))
        · refine z_tV (z1_ckS0 hG) (by omega) zle zle (fun q h' k => zRes.err 3 ?_ (by decide) rfl k)
          unfold zeS
          rw [if_neg (by rw [hk]; simp), if_neg (by rw [← eym, hm, hs]; simp), exk, zAt_nI (by omega), if_neg (by omega)]
        · have hc0 : zeS σ x (nI m) c p q = 0 := by
            unfold zeS
            rw [if_neg (by rw [hk]; simp), if_neg (by rw [← eym, hm, hs]; simp), exk, zAt_nI (by omega), if_pos hl8]
          have hok := zstR_ok hn6 hs
          refine z_cV (z1_ckS hG) (by omega) (z_no (8, k, m, (zbody σ k m).length) zle zle (fun a ha _ => z_iV (z7_init hG (Nat.succ_ne_zero _) (zst_fit hok)) (by omega) ?_))
          have ha : h a = none := ha
          have k1 : kp kn h (wv_up h a ((8, k, m, (zbody σ k m).length), wo_o ciX7 [.int c, .int p, .int q])) := kp.new ha
          have C1 := C.keepn k1
          have hi8 := wl_nc_le (n := (zbody σ k m).length) (by omega)
          refine (C1.body hlt hm6).cadd hG (z_el (z_is wv_up_self ccX7) q2613) (fun x hx => ?_) (by rw [z_rgl]; omega) (by omega) zle (by rw [z_rgl]; show _ ≤ 20 - 3; have := wl_nc8 hl8; omega) (fun h2 c2 s2 l2 o2 g2 g3 => ?_)
          · obtain ⟨i, hi, rfl⟩ := List.mem_map.mp hx
            exact z_el (z_is (C1.step hlt hm6 (List.getElem?_eq_getElem (List.mem_range.mp hi))) ccX7) q2613
          · obtain ⟨md, cap, -, e9⟩ := C1.body hlt hm6
            have k2 : kp (fun _ t => t = (7, k, m, 0)) (wv_up h a ((8, k, m, (zbody σ k m).length), wo_o ciX7 [.int c, .int p, .int q])) h2 := kp.of e9 rfl o2
            obtain ⟨A', hA'⟩ : ∃ A' : zA, A' = fun r i j => if r = 8 ∧ i = k * 6 + m ∧ j = (zbody σ k m).length then a else A r i j := ⟨_, rfl⟩
            have hval : ∀ r i j, zval σ r i j → A' r i j = A r i j := by
              rintro r i j ⟨-, v2, -⟩
              rw [hA']
              refine if_neg ?_
              rintro ⟨e1, e2, e3⟩
              have := v2 e1
              rw [e2, show (k * 6 + m) / 6 = k by omega, show (k * 6 + m) % 6 = m by omega] at this
              omega
            have hAe : zAe A A' := by
              intro r i j hr
              rw [hA']
              exact if_neg (by omega)
            have a8 : A' 8 (k * 6 + m) (zbody σ k m).length = a := by rw [hA']; simp
            have a8' : ∀ i, i < (zbody σ k m).length → A' 8 (k * 6 + m) i = A 8 (k * 6 + m) i := fun i hi => hval 8 _ i (zval_s hm6 hi)
            have C2 := C1.congrA hw hval
            have C3 : zCf G A' (zset σ k m (zbody σ k m ++ [(c, p, q)])) h2 := by
              refine C2.setB hlt hm6 k2 ?_ (fun i st hi => ?_)
              · rw [hval 7 k m (zval_c (by omega) hlt), List.length_append]
                show zL h2 (A 7 k m) (7, k, m, 0) ((List.range ((zbody σ k m).length + 1)).map (fun i => A' 8 (k * 6 + m) i))
                rw [List.range_succ, List.map_append, zmapR (g := fun i => A 8 (k * 6 + m) i) a8']
                show zL h2 (A 7 k m) (7, k, m, 0) (_ ++ [A' 8 (k * 6 + m) (zbody σ k m).length])
                rw [a8]
                exact l2
              · rcases z_app hi with hi | ⟨rfl, rfl⟩
                · rw [a8' i (List.getElem?_eq_some_iff.mp hi).1]
                  exact k2 _ _ (C1.step hlt hm6 hi) (fun q => by cases q)
                · rw [a8]
                  exact k2 _ _ wv_up_self (fun q => by cases q)
            have hwf : zwf (zset σ k m (zbody σ k m ++ [(c, p, q)])) := by
              refine zset_wf hw (by rw [List.length_append]; show (zbody σ k m).length + 1 ≤ 8; omega) (fun st hst => ?_)
              rcases List.mem_append.mp hst with hst | hst
              · exact zbody_ok hw hm6 st hst
              · rw [List.mem_singleton] at hst
                rw [hst]
                exact hok
            have L2 : zPl0 A' (zn (zset σ k m (zbody σ k m ++ [(c, p, q)]))) h2 (fun _ _ => False) := by
              rw [zset_n]
              exact ((L.to0.keep k1 (fun _ _ q => q.elim)).keep k2 (fun _ t e => by rw [e]; show (7 : Nat) ≠ 58; decide)).congrA (fun k' m' hk' => hval 58 k' m' (zval_c (by omega) hk'))
            have e2 : A' 2 0 0 = A 2 0 0 := hval 2 0 0 (zval_o (by omega))
            have hfg := z1_forget hG hwf.1 C3 L2
            rw [e2] at hfg
            have hcx := C3.comp
            rw [e2] at hcx
            refine ⟨A 2 0 0, rfl, z_is hcx ccX1, z_c hfg (by omega) (Nat.zero_le _) (Nat.zero_le _) ?_⟩
            rintro r h4 ⟨rfl, m1, m2⟩
            refine Or.inl ⟨rfl, ?_⟩
            have C5 := C3.keep m2 (fun _ t e => by rw [e]; decide)
            have hbl := C5.body (k := k) (m := m) (by rw [zset_n]; exact hlt) hm6
            rw [zset_body σ hlt, if_pos ⟨rfl, rfl⟩, hval 7 k m (zval_c (by omega) hlt), List.length_append] at hbl
            refine hbl.vsizeR hG (by omega) (zRes.ok hc0 ⟨rfl, A', fun _ _ => 0, hAe, ?_, ?_, ?_⟩)
            · exact C5
            · exact zPls.of0 m1
            · exact (kn.to k1).trans ((k2.mono (fun _ t e => Or.inl (by rw [e]; show (7 : Nat) < 50; decide))).trans (m2.mono (fun _ t e => Or.inr e)))

-- ===== dropBody, finds, places =====
def zwr (σ : zS) (t m : Int32) : Nat := if zix t (zn σ) = none then 1 else if zix m 6 = none then 2 else 0
theorem zwr_0 {x y : Int32} {k m : Nat} (hk : zix x (zn σ) = some k) (hm : zix y 6 = some m) : zwr σ x y = 0 := by
  unfold zwr
  rw [if_neg (by rw [hk]; simp), if_neg (by rw [hm]; simp)]
theorem zwr_1 {x y : Int32} (hk : zix x (zn σ) = none) : zwr σ x y = 1 := if_pos hk
theorem zwr_2 {x y : Int32} {k : Nat} (hk : zix x (zn σ) = some k) (hm : zix y 6 = none) : zwr σ x y = 2 := by
  unfold zwr
  rw [if_neg (by rw [hk]; simp), if_pos hm]
theorem z1_dropBody (hG : wv_G0 G) (hw : zwf σ) (C : zCf G A σ h) (L : zPls G A σ f h) (x y : Int32) : wv_C G yX1_dropBody [.ref (A 2 0 0), .int x, .int y] h 9 1 6 (zRes h (zwr σ x y) [zIOOB, zIAE] (fun r h' => r = .inl (some (.int (nI (zbody σ (zAt x) (zAt y)).length))) ∧ zNew G A (zset σ (zAt x) (zAt y) []) h h')) := by
  have hn6 := hw.1
  refine wk_X1_dropBody (v0 := some (A 2 0 0)) hG ?_
  cases hk : zix x (zn σ) with
  | none => exact ⟨A 2 0 0, rfl, z_isC C, z_tA (z1_type0 hG C hk) (by omega) zle zle (fun q h' k => zRes.err 1 (zwr_1 hk) (by decide) rfl k)⟩
  | some k =>
    obtain ⟨hlt, -⟩ := (zix_some (by omega)).mp hk
    have exk := zix_at hk
    refine z_vA (z_isC C) (z1_type hG hw C hk) (by omega) ?_
    cases hm : zix y 6 with
    | none => exact z_tV (z1_ckM0 hG hm) (by omega) zle zle (fun q h' k => zRes.err 2 (zwr_2 hk hm) (by decide) rfl k)
    | some m =>
      obtain ⟨hm6, eym⟩ := (zix_some (by decide)).mp hm
      have ey := zix_at hm
      have hc0 := zwr_0 hk hm
      rw [exk, ey, eym]
      rw [eym] at hc0
      have cb := C.body hlt hm6
      refine z_cV (z1_ckM hG (eym ▸ hm)) (by omega) (z_gA (C.type hlt) rfl ((C.bods hlt).vgetR hG hm6 (by omega) (z_cc cb.is (cb.vsizeR hG (by omega) (z_gA (C.type hlt) rfl ((C.bods hlt).vgetR hG hm6 (by omega) (z_cc cb.is (cb.clear hG (by omega) (fun h2 l2 o2 => ?_)))))))))
      obtain ⟨md, cap, -, e9⟩ := cb
      have k2 : kp (fun _ t => t = (7, k, m, 0)) h h2 := kp.of e9 rfl o2
      have C3 : zCf G A (zset σ k m []) h2 := C.setB hlt hm6 k2 l2 (fun i st hi => by simp at hi)
      have hwf : zwf (zset σ k m []) := zset_wf hw (Nat.zero_le _) (fun st hst => by cases hst)
      have L2 : zPl0 A (zn (zset σ k m [])) h2 (fun _ _ => False) := by
        rw [zset_n]
        exact L.to0.keep k2 (fun _ t e => by rw [e]; show (7 : Nat) ≠ 58; decide)
      refine ⟨A 2 0 0, rfl, z_isC C3, z_c (z1_forget hG hwf.1 C3 L2) (by omega) (Nat.zero_le _) (Nat.zero_le _) ?_⟩
      rintro r h4 ⟨rfl, m1, m2⟩
      refine Or.inl ⟨rfl, zRes.ok hc0 ⟨rfl, A, fun _ _ => 0, zAe.refl A, C3.keep m2 (fun _ t e => by rw [e]; decide), zPls.of0 m1, ?_⟩⟩
      exact (k2.mono (fun _ t e => Or.inl (by rw [e]; show (7 : Nat) < 50; decide))).trans (m2.mono (fun _ t e => Or.inr e))
/-- the number of the class that is found -/
def zfnd (σ : zS) (k m : Nat) : Int32 := match zfind σ m k with | none => -1 | some j => nI j
theorem z1_finds (hG : wv_G0 G) (hw : zwf σ) (C : zCf G A σ h) (x y : Int32) : wv_C G yX1_finds [.ref (A 2 0 0), .int x, .int y] h 12 1 6 (zRes h (zwr σ x y) [zIOOB, zIAE] (fun r h' => r = .inl (some (.int (zfnd σ (zAt x) (zAt y)))) ∧ h' = h)) := by
  have hn6 := hw.1
  refine wk_X1_finds (v0 := some (A 2 0 0)) hG ?_
  cases hk : zix x (zn σ) with
  | none => exact ⟨A 2 0 0, rfl, z_isC C, z_tA (z1_type0 hG C hk) (by omega) zle zle (fun q h' k => zRes.err 1 (zwr_1 hk) (by decide) rfl k)⟩
  | some k =>
    obtain ⟨hlt, -⟩ := (zix_some (by omega)).mp hk
    have exk := zix_at hk
    refine z_vA (z_isC C) (z1_type hG hw C hk) (by omega) ?_
    cases hm : zix y 6 with
    | none => exact z_tV (z1_ckM0 hG hm) (by omega) zle zle (fun q h' k => zRes.err 2 (zwr_2 hk hm) (by decide) rfl k)
    | some m =>
      obtain ⟨hm6, eym⟩ := (zix_some (by decide)).mp hm
      have ey := zix_at hm
      have hc0 := zwr_0 hk hm
      rw [exk, ey, eym]
      rw [eym] at hc0
      refine z_cV (z1_ckM hG (eym ▸ hm)) (by omega) (z_vA (z_is (C.type hlt) ccX6) (z6_finder hG hw C hm6 k hlt) (by omega) ?_)
      unfold zfnd
      cases hf : zfind σ m k with
      | none => exact ⟨fun q => absurd rfl q, fun _ => zRes.ok hc0 ⟨rfl, rfl⟩⟩
      | some j =>
        have hj := zfind_lt hw hlt hf
        exact ⟨fun _ => z_gI (C.type (k := j) (by omega)) rfl (zRes.ok hc0 ⟨rfl, rfl⟩), fun q => by cases q⟩
theorem z1_places (hG : wv_G0 G) (hw : zwf σ) (C : zCf G A σ h) (x y : Int32) : wv_C G yX1_places [.ref (A 2 0 0), .int x, .int y] h 9 1 6 (zRes h (zwr σ x y) [zIOOB, zIAE] (fun r h' => r = .inl (some (.int (nI (zspots σ (zAt x) (zAt y)).length))) ∧ h' = h)) := by
  have hn6 := hw.1
  refine wk_X1_places (v0 := some (A 2 0 0)) hG ?_
  cases hk : zix x (zn σ) with
  | none => exact ⟨A 2 0 0, rfl, z_isC C, z_tA (z1_type0 hG C hk) (by omega) zle zle (fun q h' k => zRes.err 1 (zwr_1 hk) (by decide) rfl k)⟩
  | some k =>
    obtain ⟨hlt, -⟩ := (zix_some (by omega)).mp hk
    have exk := zix_at hk
    refine z_vA (z_isC C) (z1_type hG hw C hk) (by omega) ?_
    cases hm : zix y 6 with
    | none => exact z_tV (z1_ckM0 hG hm) (by omega) zle zle (fun q h' k => zRes.err 2 (zwr_2 hk hm) (by decide) rfl k)
    | some m =>
      obtain ⟨hm6, eym⟩ := (zix_some (by decide)).mp hm
      have ey := zix_at hm
      have hc0 := zwr_0 hk hm
      rw [exk, ey, eym]
      rw [eym] at hc0
      exact z_cV (z1_ckM hG (eym ▸ hm)) (by omega) (z_vI (z_isC C) (z1_placesOf hG hw C hlt hm6) (by omega) (zRes.ok hc0 ⟨rfl, rfl⟩))

end ZM
