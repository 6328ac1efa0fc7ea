/-! THE REFERENCE: the order of the aspects, made; isRing, aspectAt -/
section ZTB
variable {G : wv_G} {A B B' : zA} {σ σ' : zS} {h h0 h1 h2 h' : wv_H} {w : wv_W} {fr fr' kc ks : Nat} {P : wv_R → wv_H → Prop} {KX : String → Nat → wv_W → Prop} {ol L : Nat} {k m r i j : Nat} {t : wv_T} {x y v th c a b : Int32} {l : List Nat}
theorem zT_127 (i : Nat) : ∀ k ∈ zT σ i, k ≤ 127 := fun k hk => by have := zT_lt i k hk; omega
theorem zT_fin {i : Nat} (hi : i ≤ 4) (hz : znext σ (zT σ i) = none) : zT σ i = zord σ := by
  have := zT_stuck hz (4 - i)
  rw [show i + (4 - i) = 4 by omega] at this
  exact this.symm
/-- a list's length, of the world -/
def zln (h : wv_H) (a : Nat) : Nat := match h a with
  | some (_, .inr (.inl l)) => l.2.2.length
  | _ => 0
theorem zln_of {xs : List Nat} {a : Nat} (hl : zL h a t xs) : zln h a = xs.length := by
  obtain ⟨md, cap, -, e⟩ := hl
  unfold zln
  rw [e]
theorem z4_order (hG : wv_G0 G) (M : zMf G B σ th L h) : wv_C G yX4_order [.ref (B 100 0 0)] h 7 5 43 (fun r h' => ∃ ol, r = .inl (some (va_rf (some ol))) ∧ h ol = none ∧ zL h' ol (142, 0, 0, 0) ((zord σ).map (wb G)) ∧ kp kn h h') := by
  refine wk_X4_order (v0 := some (B 100 0 0)) hG (zlst hG (142, 0, 0, 0) (Nat.succ_ne_zero _) (by omega) (by show 1 ≤ 5; decide) (by show 3 ≤ 43; decide) (fun ol h1 f1 k1 d1 => ?_))
  have f1 : h ol = none := f1
  have k1 : kp kn h h1 := k1
  -- what the list holds after i rounds
  let I : Nat → wv_W → Prop := fun i w => i ≤ 4 ∧ (zT σ i).length = i ∧ kp kn h w.1 ∧ zL w.1 ol (142, 0, 0, 0) ((zT σ i).map (wb G)) ∧ 4 - i ≤ w.2.1 ∧ 10 * (4 - i) ≤ w.2.2
  let E : wv_W → Prop := fun w => kp kn h w.1 ∧ zL w.1 ol (142, 0, 0, 0) ((zord σ).map (wb G))
  refine ⟨fun u w => (∃ i, u = (some (B 100 0 0), some ol, 1) ∧ I i w) ∨ (u = (some (B 100 0 0), some ol, 0) ∧ E w), fun u w => if u.2.2 = 0 then 0 else 6 - zln w.1 ol, Or.inl ⟨0, rfl, Nat.zero_le _, rfl, k1, zL.nil d1, by show 4 - 0 ≤ 5 - 1; decide, by show 10 * (4 - 0) ≤ 43 - 3; decide⟩, ?_⟩
  rintro _ w (⟨i, rfl, hi, hlen, kw, Lw, hc, hs⟩ | ⟨rfl, kw, Lw⟩)
  · refine ⟨fun q => absurd q (show ¬ (1 : Int32) = 0 by decide), fun _ => ?_⟩
    show wv_L _ _ w
    refine ⟨fun u w' => (∃ k, u = (some (B 100 0 0), some ol, 0, nI k) ∧ k ≤ 4 ∧ w' = w ∧ ∀ j, j < k → zfree σ (zT σ i) j = false) ∨ (∃ k, u = (some (B 100 0 0), some ol, 1, nI k) ∧ k ≤ 4 ∧ I (i + 1) w'), fun u w' => 5 - zAt u.2.2.2, Or.inl ⟨0, rfl, Nat.zero_le _, rfl, fun j hj => absurd hj (Nat.not_lt_zero _)⟩, ?_⟩
    rintro _ w' (⟨k, rfl, hk, rfl, hf⟩ | ⟨k, rfl, hk, hI⟩)
    · refine ⟨fun q => ?_, fun q => ⟨fun q2 => absurd rfl q2, fun _ => ?_⟩⟩
      · have hk4 : k = 4 := by
          have := (nI_leI (a := 4) (b := k) (by decide) (by omega)).mp q
          omega
        have hz : znext σ (zT σ i) = none := znext_n (fun j hj => hf j (by omega))
        refine ⟨Or.inr ⟨rfl, kw, ?_⟩, ?_⟩
        · rw [← zT_fin hi hz]
          exact Lw
        · show (if (0 : Int32) = 0 then 0 else _) < (if (1 : Int32) = 0 then 0 else 6 - zln w'.1 ol)
          rw [if_pos rfl, if_neg (by decide)]
          show 0 < 6 - zln w'.1 ol
          rw [zln_of Lw, List.length_map, hlen]
          omega
      · have hk4 : k < 4 := by
          rcases Nat.lt_or_ge k 4 with h9 | h9
          · exact h9
          · exact absurd ((nI_leI (a := 4) (b := k) (by decide) (by omega)).mpr h9) q
        have M1 := M.keepn kw
        have mu : 5 - zAt (nI k + 1) < 5 - zAt (nI k) := by
          rw [← nI_succ, zAt_nI (by omega), zAt_nI (by omega)]
          omega
        refine z_vI M1.is (z4_isNext hG M1 hk4 Lw (zT_127 i)) (by omega) ⟨fun q2 => ?_, fun q2 => ?_⟩
        · have q2 := zbI_n0 q2
          have hz := znext_s hk4 hf q2
          have hi4 : i < 4 := by
            rcases Nat.lt_or_ge i 4 with h9 | h9
            · exact h9
            · have : i = 4 := by omega
              subst this
              rw [zT_4 hlen] at hz
              cases hz
          have hT : zT σ (i + 1) = zT σ i ++ [k] := by rw [zT_succ, hz]
          refine z_cA (wl_valueOf hG (k := k) (by omega)) (by omega) ?_
          have hel : ∀ {h9 : wv_H} {z : Nat}, z ≤ 127 → wl_el G h9 (wb G z) := fun hz => z_el (wb_is hz) q2624
          refine Lw.cadd hG (hel (by omega)) (fun z hz => ?_) (by rw [List.length_map, hlen]; omega) (by omega) (by omega) (by rw [List.length_map, hlen]; have := wl_nc_6 (n := i) (by omega); omega) (fun h2 c s l2 o2 hc2 hs2 => ?_)
          · obtain ⟨z', hz', rfl⟩ := List.mem_map.mp hz
            exact hel (zT_127 i z' hz')
          · rw [List.length_map, hlen] at hs2
            have hnc := wl_nc_6 (n := i) (by omega)
            obtain ⟨md, cap, l3, l4⟩ := id Lw
            have kp2 : kp (fun _ t => t = (142, 0, 0, 0)) w'.1 h2 := kp.of l4 rfl o2
            refine ⟨Or.inr ⟨k + 1, ?_, hk4, ⟨hi4, by rw [hT, List.length_append, hlen]; rfl, ?_, ?_, by show 4 - (i + 1) ≤ c; omega, by show 10 * (4 - (i + 1)) ≤ s; omega⟩⟩, mu⟩
            · rw [nI_succ]
            · intro b z hb _
              have hb' := kn.at kw hb
              have hne : b ≠ ol := z_nw f1 hb
              show h2 b = some z
              rw [o2 b hne]
              exact hb'
            · rw [hT, List.map_append]
              exact l2
        · have q2 := zbI_e0 q2
          refine ⟨Or.inl ⟨k + 1, ?_, hk4, rfl, fun j hj => ?_⟩, mu⟩
          · rw [nI_succ]
          · rcases Nat.lt_or_ge j k with h9 | h9
            · exact hf j h9
            · rw [show j = k by omega]
              exact q2
    · have out : (((∃ i, ((some (B 100 0 0), some ol, (1 : Int32)) : Option Nat × Option Nat × Int32) = (some (B 100 0 0), some ol, 1) ∧ I i w') ∨ (((some (B 100 0 0), some ol, (1 : Int32)) : Option Nat × Option Nat × Int32) = (some (B 100 0 0), some ol, 0) ∧ E w')) ∧ (if (1 : Int32) = 0 then 0 else 6 - zln w'.1 ol) < (if (1 : Int32) = 0 then 0 else 6 - zln w.1 ol)) := by
        refine ⟨Or.inl ⟨i + 1, rfl, hI⟩, ?_⟩
        rw [if_neg (by decide), if_neg (by decide), zln_of hI.2.2.2.1, zln_of Lw, List.length_map, List.length_map, hlen, hI.2.1]
        have := hI.1
        omega
      exact ⟨fun _ => out, fun _ => ⟨fun _ => out, fun q2 => absurd q2 (show ¬ (1 : Int32) = 0 by decide)⟩⟩
  · exact ⟨fun _ => ⟨ol, rfl, f1, Lw, kw⟩, fun q => absurd rfl q⟩
theorem zord_len : (zord σ).length = 4 ↔ zring σ = false := by
  rw [← Bool.not_eq_true, zring_T]
  exact ⟨fun h q => q h, fun h => Classical.byContradiction h⟩
theorem zord_le : (zord σ).length ≤ 4 := zT_len 4
/-- isRing -/
theorem z4_isRing (hG : wv_G0 G) (M : zMf G B σ th L h) : wv_C G yX4_isRing [.ref (B 100 0 0)] h 8 5 43 (fun r h' => r = .inl (some (.int (zbI (zring σ)))) ∧ zMf G B σ 0 L h' ∧ kp zST h h') := by
  refine wk_X4_isRing (v0 := some (B 100 0 0)) hG (z4_put M (fun h1 M1 k1 => ⟨B 100 0 0, rfl, M1.is, z_c (z4_order hG M1) (by omega) (Nat.le_refl _) (Nat.le_refl _) ?_⟩))
  rintro z h2 ⟨ol, rfl, -, L2, k2⟩
  refine Or.inl ⟨_, rfl, L2.vsize hG (by omega) ?_⟩
  have hle := zord_le (σ := σ)
  have M2 := M1.keepn k2
  have kk := (k1.mono z100T).trans (kn.to k2)
  rw [List.length_map]
  cases hr : zring σ with
  | false =>
    rw [zord_len.mpr hr]
    exact ⟨fun _ => ⟨rfl, rfl, M2, kk⟩, fun q => absurd (Int32.le_refl _) q⟩
  | true =>
    have hlt : (zord σ).length < 4 := by
      rcases Nat.lt_or_ge (zord σ).length 4 with h9 | h9
      · exact h9
      · rw [zord_len.mp (by omega)] at hr
        cases hr
    refine ⟨fun q => ?_, fun _ => ⟨rfl, rfl, M2, kk⟩⟩
    have := (nI_leI (a := 4) (b := (zord σ).length) (by decide) (by omega)).mp q
    omega
end ZTB
