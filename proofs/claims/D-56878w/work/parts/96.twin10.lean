/-! THE REFERENCE: the order of the aspects -/
section ZTA
variable {G : wv_G} {A B B' : zA} {σ σ' : zS} {h h0 h1 h2 h' : wv_H} {w : wv_W} {fr fr' kc ks : Nat} {P : wv_R → wv_H → Prop} {KX : String → Nat → wv_W → Prop} {ol L : Nat} {k m r i j : Nat} {t : wv_T} {x y v th c a b : Int32} {l : List Nat}
theorem znext_s (hk : k < 4) (h0 : ∀ j, j < k → zfree σ l j = false) (h1 : zfree σ l k = true) : znext σ l = some k := by
  unfold znext
  rw [List.find?_range_eq_some]
  refine ⟨h1, List.mem_range.mpr hk, fun j hj => ?_⟩
  rw [h0 j hj]
  rfl
theorem znext_n (h0 : ∀ j, j < 4 → zfree σ l j = false) : znext σ l = none := by
  unfold znext
  rw [List.find?_range_eq_none]
  intro j hj
  rw [h0 j hj]
  rfl
theorem zmem_b (hl : ∀ k ∈ l, k ≤ 127) : (if k ∈ l then 1 else 0 : Int32) = zbI (l.contains k) := by
  by_cases e : k ∈ l
  · rw [if_pos e, List.contains_iff_mem.mpr e]
    rfl
  · rw [if_neg e]
    have : l.contains k = false := by
      rw [Bool.eq_false_iff]
      exact fun q => e (List.contains_iff_mem.mp q)
    rw [this]
    rfl
theorem z4_contains (hG : wv_G0 G) (hL : zL h ol t (l.map (wb G))) (hl : ∀ k ∈ l, k ≤ 127) (hk : k ≤ 127) : wv_C G yJ2_contains [.ref ol, .ref (wb G k)] h 4 0 0 (fun r h' => r = .inl (some (.int (zbI (l.contains k)))) ∧ h' = h) := by
  obtain ⟨md, cap, h1, h2⟩ := hL
  rw [← zmem_b hl]
  exact wl_contains hG h2 hl hk
theorem z4_isNext (hG : wv_G0 G) (M : zMf G B σ th L h) (hj : j < 4) (hL : zL h ol t (l.map (wb G))) (hl : ∀ k ∈ l, k ≤ 127) : wv_C G yX4_isNext [.ref (B 100 0 0), .int (nI j), .ref ol] h 5 0 0 (fun r h' => r = .inl (some (.int (zbI (zfree σ l j)))) ∧ h' = h) := by
  obtain ⟨m0, m1, mb, m2, m3, m4, m5, m6, m7, m8, m9, m10, m11, ⟨f12, m12, u12⟩⟩ := id M
  refine wk_X4_isNext (v0 := some (B 100 0 0)) (v2 := some ol) hG (z_cA (wl_valueOf hG (k := j) (by omega)) (by omega) (z_vI hL.is (z4_contains hG hL hl (k := j) (by omega)) (by omega) ⟨fun q => ?_, fun q => ?_⟩))
  · have q := zbI_e0 q
    refine z_loop 4 (by decide) (fun v => v.2.2.2) (fun i v w => v = (some (B 100 0 0), nI j, some ol, nI i) ∧ w = (h, 0, 0) ∧ ∀ k, k < i → (l.contains k || !σ.2.2.2 k j) = true) rfl ⟨rfl, rfl, fun k hk => absurd hk (Nat.not_lt_zero _)⟩ ?_
    rintro K i _ _ hi - ⟨rfl, rfl, hf⟩ hK
    refine ⟨fun q9 => ?_, fun q9 => ?_⟩
    · have hi4 : i = 4 := by
        have := (nI_leI (a := 4) (b := i) (by decide) (by omega)).mp q9
        omega
      have e : zfree σ l j = true := by
        unfold zfree
        rw [q, Bool.not_false, Bool.true_and, List.all_eq_true]
        intro k hk
        exact hf k (by rw [hi4]; exact List.mem_range.mp hk)
      rw [e]
      exact ⟨rfl, rfl, rfl⟩
    · have hi4 : i < 4 := by
        rcases Nat.lt_or_ge i 4 with h9 | h9
        · exact h9
        · exact absurd ((nI_leI (a := 4) (b := i) (by decide) (by omega)).mpr h9) q9
      have nx : (l.contains i || !σ.2.2.2 i j) = true → K (some (B 100 0 0), nI j, some ol, nI i + 1) (h, 0, 0) := by
        intro e
        refine hK _ _ hi4 ?_ ⟨?_, rfl, fun k hk => ?_⟩
        · show nI i + 1 = _
          rw [← nI_succ]
        · rw [← nI_succ]
        · rcases Nat.lt_or_ge k i with h9 | h9
          · exact hf k h9
          · rw [show k = i by omega]
            exact e
      refine z_gA m0 rfl ?_
      show wv_li G 2 _ _ ((4 : Int32) * nI i + nI j) _
      rw [z44]
      refine z_li m12 (by omega) (by decide) ?_
      rw [u12 i j hi4 hj]
      refine ⟨fun q2 => nx (by rw [zbI_e0 q2]; simp), fun q2 => z_cA (wl_valueOf hG (k := i) (by omega)) (by omega) (z_vI hL.is (z4_contains hG hL hl (k := i) (by omega)) (by omega) ⟨fun q3 => nx (by rw [zbI_n0 q3]; rfl), fun q3 => ?_⟩)⟩
      have e : zfree σ l j = false := by
        unfold zfree
        rw [q, Bool.not_false, Bool.true_and, Bool.eq_false_iff]
        intro h9
        have := List.all_eq_true.mp h9 i (List.mem_range.mpr hi4)
        rw [zbI_e0 q3, zbI_n0 q2] at this
        cases this
      rw [e]
      exact ⟨rfl, rfl, rfl⟩
  · have e : zfree σ l j = false := by
      unfold zfree
      rw [zbI_n0 q]
      rfl
    rw [e]
    exact ⟨rfl, rfl, rfl⟩
theorem zT_4 (hl : (zT σ 4).length = 4) : znext σ (zT σ 4) = none := by
  have hr : zring σ = false := by
    cases hz : zring σ
    · rfl
    · exact absurd hl (zring_T.mp hz)
  refine znext_n (fun j hj => ?_)
  have hc := zord_count hr hj
  have hm : j ∈ zT σ 4 := by
    have : 0 < (zord σ).count j := by omega
    exact List.count_pos_iff.mp this
  unfold zfree
  rw [List.contains_iff_mem.mpr hm]
  rfl
end ZTA
