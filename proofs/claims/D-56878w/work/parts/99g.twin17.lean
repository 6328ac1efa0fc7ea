/-! THE REFERENCE: match -/
section ZTK
variable {G : wv_G} {A B B' : zA} {σ σ' : zS} {h h0 h1 h2 h' : wv_H} {w : wv_W} {fr fr' kc ks : Nat} {P : wv_R → wv_H → Prop} {KX : String → Nat → wv_W → Prop} {sl L b : Nat} {k m r i j : Nat} {t : wv_T} {x y v th a p : Int32} {sp : zSp}
theorem zsps_mem : ∀ (l : List zSt) (i : Nat) (sp : zSp), sp ∈ zsps i l → ∃ j st, st ∈ l ∧ sp ∈ zsp1 j st
  | [], i, sp, h => by cases h
  | st :: l, i, sp, h => by
    have h : sp ∈ zsp1 i st ++ zsps (i + 1) l := h
    rcases List.mem_append.mp h with h | h
    · exact ⟨i, st, List.mem_cons_self, h⟩
    · obtain ⟨j, st', h1, h2⟩ := zsps_mem l (i + 1) sp h
      exact ⟨j, st', List.mem_cons_of_mem _ h1, h2⟩
theorem zspots_ok (hw : zwf σ) (hk : k < zn σ) (hm : m < 6) (hs : sp ∈ zspots σ k m) : wv_fit .char sp.1 ∧ ∀ q, sp.2.2.1 = some q → q < 6 := by
  have hn6 := hw.1
  unfold zspots at hs
  split at hs
  · cases hs
  · rcases List.mem_cons.mp hs with hs | hs
    · subst hs
      exact ⟨⟨rfl, rfl⟩, fun q e => by cases e⟩
    · obtain ⟨j, st, h1, h2⟩ := zsps_mem _ _ _ hs
      obtain ⟨i, hi⟩ := List.mem_iff_getElem?.mp h1
      have hok := zsteps_ok hw hk hm hi
      by_cases e : st.1 = 109
      · rw [zsp1_2 e] at h2
        have hq : zAt st.2.1 < 6 := by
          rcases hok with (q | q | q) | ⟨q, -⟩ | ⟨-, ⟨d, hd, ed⟩, -⟩ | ⟨q | q, -⟩
          · rw [e] at q; exact absurd q (by decide)
          · rw [e] at q; exact absurd q (by decide)
          · rw [e] at q; exact absurd q (by decide)
          · rw [e] at q; exact absurd q (by decide)
          · rw [ed, zAt_nI (by omega)]; omega
          · rw [e] at q; exact absurd q (by decide)
          · rw [e] at q; exact absurd q (by decide)
        rcases List.mem_cons.mp h2 with h2 | h2
        · subst h2
          exact ⟨⟨rfl, rfl⟩, fun q e => by cases e; exact hq⟩
        · rw [List.mem_singleton] at h2
          subst h2
          exact ⟨⟨rfl, rfl⟩, fun q e => by cases e; exact hq⟩
      · by_cases e2 : st.1 = 99 ∨ st.1 = 103 ∨ st.1 = 115 ∨ st.1 = 104
        · rw [zsp1_1 e2, List.mem_singleton] at h2
          subst h2
          refine ⟨?_, fun q e => by cases e⟩
          show wv_fit .char st.1
          rcases e2 with e | e | e | e <;> rw [e] <;> exact ⟨rfl, rfl⟩
        · rw [zsp1_0 e e2] at h2
          cases h2
theorem z4_match (hG : wv_G0 G) (hw : zwf σ) (ht : zwt σ) (M : zMf G B σ th L h) (x y p a : Int32) : wv_C G yX4_match [.ref (B 100 0 0), .int x, .int y, .int p, .int a] h 28 42 236 (zTw G B σ L h (zeM σ x y p a) (.int 32) (fun r h' => r = .inl (some (.int (zat σ (zpl σ (zAt x) (zAt y) (zAt p)) (zadv σ (zAt a)).2.2.1))) ∧ zTN G B σ L h h')) := by
  have hn6 := hw.1
  have h2 := zwr_le (σ := σ) x y
  have h12 := hw.2.2.2.2.1
  have h24 := hw.2.2.1
  -- told wrong: from the thrown on
  have bad : ∀ (c : Nat) (h1 : wv_H) (cc cs : Nat), 0 < c → c ≤ 3 → zeM σ x y p a = c → zMf G B σ (nI c) L h1 → kp zST h h1 → vc_X4_match_58 G 28 (zTw G B σ L h (zeM σ x y p a) (.int 32) (fun r h' => r = .inl (some (.int (zat σ (zpl σ (zAt x) (zAt y) (zAt p)) (zadv σ (zAt a)).2.2.1))) ∧ zTN G B σ L h h')) (some (B 100 0 0)) x y p a (h1, cc, cs) := by
    intro c h1 cc cs h0 h3 hc M1 k1
    exact z_gI M1.1 rfl ⟨fun q => absurd q (nI_nle h0 (by omega)), fun _ => ⟨rfl, zTw.bad c hc h0 M1 k1⟩⟩
  refine wk_X4_match (v0 := some (B 100 0 0)) hG (z_vI M.is (z4_wrong hG M x y) (by omega) (z4_put M (fun h1 M1 k1 => z_gI M1.1 rfl ⟨fun q => ?_, fun q => ?_⟩)))
  · have hpos : 0 < zwr σ x y := by
      rcases Nat.eq_zero_or_pos (zwr σ x y) with e | e
      · rw [e] at q; exact absurd rfl q
      · exact e
    refine bad (zwr σ x y) h1 _ _ hpos (by omega) ?_ M1 (k1.mono z100T)
    unfold zeM zwr at *
    by_cases e1 : zix x (zn σ) = none
    · rw [if_pos e1, if_pos e1]
    · rw [if_neg e1] at hpos
      rw [if_neg e1, if_neg e1]
      by_cases e2 : zix y 6 = none
      · rw [if_pos e2, if_pos e2]
      · rw [if_neg e2] at hpos
        exact absurd hpos (Nat.lt_irrefl 0)
  · have hc0 : zwr σ x y = 0 := (nI_eq (a := zwr σ x y) (b := 0) (by omega) (by decide)).mp q
    obtain ⟨k, m, hk, hm, hlt, hm6, rfl, rfl⟩ := zwr_ok hn6 hc0
    have hM0 : zeM σ (nI k) (nI m) p a = (if zix p (zspots σ k m).length = none then 2 else if zix a σ.2.2.1.length = none then 3 else 0) := by
      unfold zeM
      rw [if_neg (by rw [hk]; simp), if_neg (by rw [hm]; simp), zix_at hk, zix_at hm]
    have h17 := zspots_le hw (k := k) hm6
    have hg := zg_17 h17
    refine ⟨B 100 0 0, rfl, M1.is, z_c (z4_spots hG hw M1 hlt hm6) (by omega) (by show _ ≤ 42; omega) (by show _ ≤ 236; omega) ?_⟩
    rintro z h3 ⟨sl, xs, rfl, -, S, k3⟩
    have M3 := M1.keepn k3
    have k03 := (k1.mono z100T).trans (kn.to (S := zST) k3)
    refine Or.inl ⟨_, rfl, S.1.vsize hG (by omega) (z_cI (z4_in hG _ _ _) (by omega) ?_)⟩
    rw [S.2.1]
    refine ⟨fun q2 => ?_, fun q2 => ?_⟩
    · obtain ⟨d, hd, rfl⟩ := zir_ok (by omega) (zbI_n0 q2)
      have hzd : zix (nI d) (zspots σ k m).length = some d := (zix_some (by omega)).mpr ⟨hd, rfl⟩
      have g1 : ¬ zix (nI d) (zspots σ k m).length = none := by rw [hzd]; simp
      refine z_vI M3.is (z4_isAdvice hG M3 a) (by omega) ⟨fun q3 => ?_, fun q3 => ?_⟩
      · obtain ⟨e, he, rfl⟩ := zir_ok (by omega) (zbI_n0 q3)
        have hze : zix (nI e) σ.2.2.1.length = some e := (zix_some (by omega)).mpr ⟨he, rfl⟩
        have g2 : ¬ zix (nI e) σ.2.2.1.length = none := by rw [hze]; simp
        have hcode : zeM σ (nI k) (nI m) (nI d) (nI e) = 0 := by rw [hM0, if_neg g1, if_neg g2]
        refine z4_put M3 (fun h4 M4 k4 => z_gI M4.1 rfl ⟨fun _ => ?_, fun q => absurd (Int32.le_refl _) q⟩)
        have hsum : 1 + (zspots σ k m).length + zgc (zspots σ k m).length ≤ 21 ∧ 3 + 4 * (zspots σ k m).length + zgs (zspots σ k m).length ≤ 118 := by omega
        refine ⟨B 100 0 0, rfl, M4.is, z_c (z4_spots hG hw M4 hlt hm6) (by omega) (by show _ ≤ 42 - (1 + (zspots σ k m).length + zgc (zspots σ k m).length); omega) (by show _ ≤ 236 - (3 + 4 * (zspots σ k m).length + zgs (zspots σ k m).length); omega) ?_⟩
        rintro z h5 ⟨sl5, xs5, rfl, -, S5, k5⟩
        have M5 := M4.keepn k5
        have hsp : (zspots σ k m)[d]? = some (zspots σ k m)[d] := List.getElem?_eq_getElem hd
        obtain ⟨b, b1, b2⟩ := S5.2.2 d _ hsp
        obtain ⟨o1, o2⟩ := zspots_ok hw hlt hm6 (List.getElem_mem hd)
        have hadv := zadv_get he
        have hap := (hw.2.2.2.2.2.1 _ (List.mem_of_getElem? hadv)).2.2.1
        obtain ⟨f6, m6, u6⟩ := id M5.2.2.2.2.2.2.2.1
        refine Or.inl ⟨_, rfl, S5.1.vget hG b1 (by omega) (z_cc (z_is b2 ccX20) (z_gA M5.1 rfl (z_li m6 (by omega) (by decide) ?_)))⟩
        rw [u6 e _ hadv]
        refine z_vI M5.is (z4_matches hG hw ht M5 hlt hm6 b2 o1 o2 _ hap) (by omega) ⟨zat_n _, zTw.ok hcode ⟨?_, B, rfl, M5, (k03.trans (k4.mono z100T)).trans (kn.to k5)⟩⟩
        rw [zAt_nI (by omega), zAt_nI (by omega), zAt_nI (by omega), zAt_nI (by omega)]
        have e9 : zpl σ k m d = zqS σ k m (zspots σ k m)[d] := by
          unfold zpl zspot
          rw [List.getD_eq_getElem?_getD, hsp]
          rfl
        rw [e9]
      · have g2 : zix a σ.2.2.1.length = none := zix_none.mpr (zbI_e0 q3)
        exact z4_put M3 (fun h4 M4 k4 => bad 3 h4 _ _ (by decide) (by decide) (by rw [hM0, if_neg g1, if_pos g2]) M4 (k03.trans (k4.mono z100T)))
    · have g1 : zix p (zspots σ k m).length = none := zix_none.mpr (zbI_e0 q2)
      exact z4_put M3 (fun h4 M4 k4 => bad 2 h4 _ _ (by decide) (by decide) (by rw [hM0, if_pos g1]) M4 (k03.trans (k4.mono z100T)))
end ZTK
