/-! THE REFERENCE: classes matched -/
section ZTI
variable {G : wv_G} {A B B' : zA} {σ σ' : zS} {h h0 h1 h2 h' : wv_H} {w : wv_W} {fr fr' kc ks : Nat} {P : wv_R → wv_H → Prop} {KX : String → Nat → wv_W → Prop} {sl L b : Nat} {k m r i j : Nat} {t : wv_T} {x y v th a : Int32} {xs : List Nat} {sps : List zSp} {sp : zSp}
theorem zbI_or (a b : Bool) : zbI a ||| zbI b = zbI (a || b) := by cases a <;> cases b <;> decide
def zcA (σ : zS) (k m : Nat) (sp : zSp) (a : Int32) (i : Nat) : Bool := (List.range i).all (fun j => !(zposs σ k m sp j && !zbelow σ j a))
def zcN (σ : zS) (k m : Nat) (sp : zSp) (a : Int32) (i : Nat) : Bool := (List.range i).all (fun j => !(zposs σ k m sp j && zbelow σ j a))
theorem zcA_s : zcA σ k m sp a (i + 1) = (zcA σ k m sp a i && !(zposs σ k m sp i && !zbelow σ i a)) := by
  unfold zcA
  rw [List.range_succ, List.all_append]
  simp
theorem zcN_s : zcN σ k m sp a (i + 1) = (zcN σ k m sp a i && !(zposs σ k m sp i && zbelow σ i a)) := by
  unfold zcN
  rw [List.range_succ, List.all_append]
  simp
theorem z4_classMatch (hG : wv_G0 G) (hw : zwf σ) (M : zMf G B σ th L h) (hk : k < zn σ) (hm : m < 6) (ha : ¬ a = -1) (hb : h b = some (t, zspO sp)) (hsp : ∀ q, sp.2.2.1 = some q → q < 6) : wv_C G yX4_classMatch [.ref (B 100 0 0), .ref b, .int (nI k), .int (nI m), .int a] h 2 0 0 (fun r h' => r = .inl (some (.int (if zcN σ k m sp a (zn σ) = true then 110 else if zcA σ k m sp a (zn σ) = true then 121 else 109))) ∧ h' = h) := by
  have hn6 := hw.1
  refine wk_X4_classMatch (v0 := some (B 100 0 0)) (v1 := some b) hG ?_
  refine z_loopV (zn σ) (by omega) (fun v => v.2.2.2.2.2.2.2) (fun i => (some (B 100 0 0), some b, nI k, nI m, a, zbI (zcA σ k m sp a i), zbI (!zcN σ k m sp a i), nI i)) (fun i => rfl) rfl ?_
  intro K i hi hK
  refine z_gI M.1 rfl (pk_le (zn σ) i (fun hle => ?_) (fun hlt => ?_))
  · have e : i = zn σ := by omega
    subst e
    refine ⟨fun q => ?_, fun q => ?_⟩
    · have q : zcN σ k m sp a (zn σ) = false := by
        have := zbI_n0 q
        cases hz : zcN σ k m sp a (zn σ) with
        | false => rfl
        | true => rw [hz] at this; cases this
      rw [q, if_neg (by decide)]
      refine ⟨fun q2 => ?_, fun q2 => ?_⟩
      · rw [zbI_e0 q2, if_neg (by decide)]
        exact ⟨rfl, rfl, rfl⟩
      · rw [zbI_n0 q2, if_pos rfl]
        exact ⟨rfl, rfl, rfl⟩
    · have q : zcN σ k m sp a (zn σ) = true := by
        have := zbI_e0 q
        cases hz : zcN σ k m sp a (zn σ) with
        | true => rfl
        | false => rw [hz] at this; cases this
      rw [q, if_pos rfl]
      exact ⟨rfl, rfl, rfl⟩
  · -- one class looked at
    have one : ∀ c : Bool, c = zposs σ k m sp i → vc_X4_classMatch_59 G 2 (fun r h' => r = .inl (some (.int (if zcN σ k m sp a (zn σ) = true then 110 else if zcA σ k m sp a (zn σ) = true then 121 else 109))) ∧ h' = h) K (some (B 100 0 0)) (some b) (nI k) (nI m) a (zbI (zcA σ k m sp a i)) (zbI (!zcN σ k m sp a i)) (nI i) (zbI c) (h, 0, 0) := by
      intro c hc
      have k9 := hK hlt
      cases c with
      | true =>
        refine ⟨fun _ => z_vI M.is (z4_isBelow hG hw M hlt ha) (by omega) (z_vI M.is (z4_isBelow hG hw M hlt ha) (by omega) ?_), fun q => absurd q (by decide)⟩
        show K (_, _, _, _, _, zbI (zcA σ k m sp a i) &&& zbI (zbelow σ i a), zbI (!zcN σ k m sp a i) ||| zbI (zbelow σ i a), nI i + 1) _
        rw [zbI_and, zbI_or, ← nI_succ]
        rw [zcA_s, zcN_s, ← hc] at k9
        have e1 : (zcA σ k m sp a i && !(true && !zbelow σ i a)) = (zcA σ k m sp a i && zbelow σ i a) := by simp
        have e2 : (!(zcN σ k m sp a i && !(true && zbelow σ i a))) = (!zcN σ k m sp a i || zbelow σ i a) := by cases zcN σ k m sp a i <;> cases zbelow σ i a <;> rfl
        rw [e1, e2] at k9
        exact k9
      | false =>
        refine ⟨fun q => absurd rfl q, fun _ => ?_⟩
        show K (_, _, _, _, _, _, _, nI i + 1) _
        rw [← nI_succ]
        rw [zcA_s, zcN_s, ← hc] at k9
        simp only [Bool.false_and, Bool.not_false, Bool.and_true] at k9
        exact k9
    refine z_vI (z_is hb ccX20) (z20_made hG hb) (by omega) ⟨fun q => ?_, fun q => ?_⟩
    · cases hsm : sp.2.2.1 with
      | none => rw [hsm] at q; exact absurd rfl q
      | some d =>
        have hd := hsp d hsm
        have hz : zposs σ k m sp i = decide (i = d) := by
          unfold zposs
          rw [hsm]
        refine z_vI (z_is hb ccX20) (z20_made hG hb) (by omega) ?_
        rw [hsm]
        refine ⟨fun q2 => one false ?_, fun q2 => one true ?_⟩
        · rw [hz]
          exact (decide_eq_false (fun e => q2 (by rw [e]; rfl))).symm
        · rw [hz]
          exact (decide_eq_true ((nI_eq (a := i) (b := d) (by omega) (by omega)).mp q2)).symm
    · have hsm : sp.2.2.1 = none := by
        cases hsm : sp.2.2.1 with
        | none => rfl
        | some d => rw [hsm] at q; exact absurd q (zoN_n (by have := hsp d hsm; omega))
      have hz : zposs σ k m sp i = decide (zfind σ m i = some k) := by
        unfold zposs
        rw [hsm]
      refine z_vI M.is (z4_found hG hw M hm hlt) (by omega) ⟨fun q2 => one false ?_, fun q2 => one true ?_⟩
      · rw [hz]
        exact (decide_eq_false (fun e => q2 (by rw [e]; rfl))).symm
      · rw [hz]
        refine (decide_eq_true ?_).symm
        cases hf : zfind σ m i with
        | none => rw [hf] at q2; exact absurd q2.symm (nI_m1 (by omega))
        | some d =>
          rw [hf] at q2
          have hd := zfind_lt hw hlt hf
          rw [(nI_eq (a := d) (b := k) (by omega) (by omega)).mp q2]
end ZTI
