/-! THE REFERENCE: addStep, whole -/
section ZT9
variable {G : wv_G} {A B B' : zA} {σ σ' : zS} {h h0 h1 h2 h' : wv_H} {w : wv_W} {fr fr' kc ks : Nat} {P : wv_R → wv_H → Prop} {KX : String → Nat → wv_W → Prop} {bo L : Nat} {k m r : Nat} {t : wv_T} {x y v th c a b : Int32}
theorem zstR_nar (hn6 : zn σ ≤ 6) (hr : zstR σ c a b = true) : vp_nar .char c = c := by
  rcases (zstR_ok hn6 hr).kinds with e | e | e | e | e | e | e <;> rw [e] <;> rfl
/-- the address of a body's objects written anew -/
def zBn4 (B : zA) (q a b1 b2 b3 : Nat) : zA := fun r i j => if i = q ∧ r = 120 then a else if i = q ∧ r = 121 then b1 else if i = q ∧ r = 122 then b2 else if i = q ∧ r = 123 then b3 else B r i j
theorem z4_addStep (hG : wv_G0 G) (hw : zwf σ) (M : zMf G B σ th L h) (x y c a b : Int32) : wv_C G yX4_addStep [.ref (B 100 0 0), .int x, .int y, .int c, .int a, .int b] h 3 4 28 (zTw G B σ L h (zeS σ x y c a b) (.int 0) (fun r h' => r = .inl (some (.int (nI ((zbody σ (zAt x) (zAt y)).length + 1)))) ∧ zTN G B (zsS σ x y c a b) L h h')) := by
  have hn6 := hw.1
  have bad : ∀ k : Nat, 0 < k → k ≤ 3 → zeS σ x y c a b = k → vc_X4_addStep_37 G 3 (zTw G B σ L h (zeS σ x y c a b) (.int 0) (fun r h' => r = .inl (some (.int (nI ((zbody σ (zAt x) (zAt y)).length + 1)))) ∧ zTN G B (zsS σ x y c a b) L h h')) (some (B 100 0 0)) x y c a b (nI k) (some (B 100 0 0)) (h, 4, 28) := by
    intro k h0 h3 hc
    refine z4_put M (fun h1 M1 k1 => z_gI M1.1 rfl ⟨fun q => absurd q (nI_nle h0 (by omega)), fun _ => zTw.bad k hc h0 M1 (k1.mono z100T)⟩)
  refine wk_X4_addStep (v0 := some (B 100 0 0)) hG (z_vI M.is (z4_isClass hG M x) (by omega) ⟨fun q => ?_, fun q => ?_⟩)
  · have q := zbI_n0 q
    obtain ⟨k, hk, rfl⟩ := zir_ok (by omega) q
    have hzk : zix (nI k) (zn σ) = some k := (zix_some (by omega)).mpr ⟨hk, rfl⟩
    have g1 : ¬ zix (nI k) (zn σ) = none := by rw [hzk]; simp
    refine z_cI (z4_isMethod hG y) (by omega) ⟨fun q2 => ?_, fun q2 => ?_⟩
    · have q2 := zbI_e0 q2
      rw [zir5] at q2
      have g2 : zix y 6 = none := zix_none.mpr q2
      exact bad 2 (by decide) (by decide) (by unfold zeS; rw [if_neg g1, if_pos (Or.inl g2)])
    · have q2 := zbI_n0 q2
      rw [zir5] at q2
      obtain ⟨m, hm, rfl⟩ := zir_ok (by decide) q2
      have hzm : zix (nI m) 6 = some m := (zix_some (by decide)).mpr ⟨hm, rfl⟩
      refine z_vI M.is (z4_isStep hG M c a b) (by omega) ⟨fun q3 => ?_, fun q3 => ?_⟩
      · have q3 := zbI_n0 q3
        have g2 : ¬ (zix (nI m) 6 = none ∨ zstR σ c a b = false) := by rw [hzm, q3]; simp
        have hn := zstR_nar hn6 q3
        have ex : zAt (nI k) = k := zAt_nI (by omega)
        have ey : zAt (nI m) = m := zAt_nI (by omega)
        have hcode : zeS σ (nI k) (nI m) c a b = if (zbody σ k m).length < 8 then 0 else 3 := by
          unfold zeS
          rw [if_neg g1, if_neg g2, ex, ey]
        have hst : zsS σ (nI k) (nI m) c a b = zset σ k m (zbody σ k m ++ [(c, a, b)]) := by
          unfold zsS
          rw [ex, ey]
        have h8 := zbody_le hw hk hm
        refine z4_put M (fun h1 M1 k1 => z_gI M1.1 rfl ⟨fun _ => z_vA M1.is (z4_body hG M1 (k := k) (by omega) hm) (by omega) ?_, fun q => absurd (Int32.le_refl _) q⟩)
        rw [hst, ex, ey]
        cases hb : (zbody σ k m).isEmpty with
        | true =>
          have hl : zbody σ k m = [] := List.isEmpty_iff.mp hb
          have hc0 : zeS σ (nI k) (nI m) c a b = 0 := by rw [hcode, hl]; rfl
          refine ⟨fun _ => z4_put M1 (fun h2 M2 k2 => z_gI M2.1 rfl ⟨fun _ => ⟨fun q => absurd rfl q, fun _ => ?_⟩, fun q => absurd (Int32.le_refl _) q⟩), fun q => absurd rfl q⟩
          refine z_no (120, 6 * k + m, 0, 0) zle zle (fun bo ha _ => ?_)
          have ha : h2 bo = none := ha
          refine ⟨bo, rfl, z_c (z8_init (q := 6 * k + m) hG ha) (by omega) zle zle ?_⟩
          rintro z h3 ⟨rfl, k3, b1, b2, b3, d0, d1, d2, d3⟩
          refine Or.inl ⟨rfl, ?_⟩
          obtain ⟨B', hB'⟩ : ∃ B' : zA, B' = zBn4 B (6 * k + m) bo b1 b2 b3 := ⟨_, rfl⟩
          have e0 : B' 120 (6 * k + m) 0 = bo := by rw [hB']; unfold zBn4; rw [if_pos ⟨rfl, rfl⟩]
          have e1 : B' 121 (6 * k + m) 0 = b1 := by rw [hB']; unfold zBn4; rw [if_neg (by omega), if_pos ⟨rfl, rfl⟩]
          have e2 : B' 122 (6 * k + m) 0 = b2 := by rw [hB']; unfold zBn4; rw [if_neg (by omega), if_neg (by omega), if_pos ⟨rfl, rfl⟩]
          have e3 : B' 123 (6 * k + m) 0 = b3 := by rw [hB']; unfold zBn4; rw [if_neg (by omega), if_neg (by omega), if_neg (by omega), if_pos ⟨rfl, rfl⟩]
          have e9 : ∀ r i j, ¬ (120 ≤ r ∧ r ≤ 123 ∧ i = 6 * k + m) → B' r i j = B r i j := by
            intro r i j hq
            rw [hB']
            unfold zBn4
            rw [if_neg (by omega), if_neg (by omega), if_neg (by omega), if_neg (by omega)]
          have M3 := ((M2.toK k m).keepn k3).other hm e9
          have hb3 : zMb G B' (6 * k + m) (zbody σ k m) h3 := by
            unfold zMb
            rw [hl, e0, e1, e2, e3]
            exact ⟨d0, ⟨_, d1, fun i st hi => by cases hi⟩, ⟨_, d2, fun i st hi => by cases hi⟩, ⟨_, d3, fun i st hi => by cases hi⟩⟩
          have e100 : B' 100 0 0 = B 100 0 0 := e9 100 0 0 (by omega)
          have key := z4_step104 (fr := 3) (c := c) (a := a) (b := b) (Q := zTw G B σ L h (zeS σ (nI k) (nI m) c a b) (.int 0) (fun r h' => r = .inl (some (.int (nI ((zbody σ k m).length + 1)))) ∧ zTN G B (zset σ k m (zbody σ k m ++ [(c, a, b)])) L h h')) (cc := 4 - 1 - 3) (cs := 28 - 4 - 24) hG M3 hb3 (((k1.mono z100T).trans (k2.mono z100T)).trans (kn.to k3)) hk (by omega) hm (by rw [hl]; exact zle) hn e100 (fun h' N => zTw.ok hc0 ⟨rfl, N⟩)
          rw [e100, e0] at key
          exact key
        | false =>
          have hbo := M1.2.2.1 k m (by omega) hm hb
          refine ⟨fun q => (by cases q), fun _ => z_gI hbo.1 rfl ⟨fun q => ?_, fun q => ?_⟩⟩
          · have hlt : (zbody σ k m).length < 8 := by
              rcases Nat.lt_or_ge (zbody σ k m).length 8 with h9 | h9
              · exact h9
              · exact absurd (by rw [show (zbody σ k m).length = 8 by omega]; rfl) q
            have hc0 : zeS σ (nI k) (nI m) c a b = 0 := by rw [hcode, if_pos hlt]
            refine z4_put M1 (fun h2 M2 k2 => z_gI M2.1 rfl ⟨fun _ => ⟨fun _ => ?_, fun q => by cases q⟩, fun q => absurd (Int32.le_refl _) q⟩)
            exact z4_step104 hG (M2.toK k m) (M2.2.2.1 k m (by omega) hm hb) ((k1.mono z100T).trans (k2.mono z100T)) hk (by omega) hm hlt hn rfl (fun h' N => zTw.ok hc0 ⟨rfl, N⟩)
          · have hge : (zbody σ k m).length = 8 := (nI_eq (a := (zbody σ k m).length) (b := 8) (by omega) (by decide)).mp q
            have hc3 : zeS σ (nI k) (nI m) c a b = 3 := by rw [hcode, if_neg (by omega)]
            exact z4_put M1 (fun h2 M2 k2 => z_gI M2.1 rfl ⟨fun q => absurd q (by decide), fun _ => zTw.bad 3 hc3 (by decide) M2 ((k1.mono z100T).trans (k2.mono z100T))⟩)
      · exact bad 2 (by decide) (by decide) (by unfold zeS; rw [if_neg g1, if_pos (Or.inr (zbI_e0 q3))])
  · have g1 : zix x (zn σ) = none := zix_none.mpr (zbI_e0 q)
    exact bad 1 (by decide) (by decide) (by unfold zeS; rw [if_pos g1])
end ZT9
