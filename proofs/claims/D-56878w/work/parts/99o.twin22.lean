/-! THE REFERENCE: holdsNow -/
section ZTS
variable {G : wv_G} {A B B' : zA} {σ σ' : zS} {h h0 h1 h2 h' : wv_H} {w : wv_W} {fr fr' kc ks : Nat} {P : wv_R → wv_H → Prop} {KX : String → Nat → wv_W → Prop} {a b ro ol L : Nat} {t tr : wv_T} {n : Nat} {ps : List Nat} {l : List zIn} {x0 x2 : Option Nat} {x3 th : Int32}
theorem z26_holdsNow (hG : wv_G0 G) (hw : zwf σ) (ht : zwt σ) (M : zMf G B σ th L h) {p : zPt} (hp : σ.2.1[n]? = some p) (hro : h ro = some (tr, wo_o ciX26 [va_rf x0, va_rf (some ol), va_rf x2, .int x3, va_rf (some (B 100 0 0))])) (hL : zLy h ol (141, 0, 0, 0) ps.reverse) (hlen : ps.length ≤ 20) (hO : zOpn σ h ps l) {i : zIn} (hty : i.2.2.1 < zn σ) {hd : Int32} (hh : ∀ j, j < n → zb hd j = zhold σ j (i :: l)) :
    wv_C G yX26_holdsNow [.ref ro, .int (nI n), .int hd, .int i.1, .int i.2.1, .int (nI i.2.2.1), .int i.2.2.2.1, .int i.2.2.2.2] h 4 1 4 (fun r h' => r = .inl (some (.int (zbI (zholdB σ (zhold σ) p i l)))) ∧ kp kn h h') := by
  have h24 := hw.2.2.1
  have hn := (List.getElem?_eq_some_iff.mp hp).1
  have hok := hw.2.2.2.1 n p hp
  obtain ⟨f3, m3, u3⟩ := id M.2.2.2.2.1
  obtain ⟨f4, m4, u4⟩ := id M.2.2.2.2.2.1
  obtain ⟨f9, m9, u9⟩ := id M.2.2.2.2.2.2.2.2.2.2.1
  have bit := fun (j : Nat) (hj : j < 32) => z26_isBit (h := h) (a := ro) hG hj hd
  have is26 : wv_is G h ro RX26 := z_is hro ccX26
  have sub : ∀ {a : Int32}, (∃ d, d < n ∧ a = nI d) → ∃ d, d < n ∧ a = nI d ∧ zAt a = d := fun ⟨d, hd, e⟩ => ⟨d, hd, e, by rw [e]; exact zAt_nI (by omega)⟩
  have one : p.1 = 33 ∨ p.1 = 102 → ∃ d, d < n ∧ p.2.1 = nI d ∧ zAt p.2.1 = d := by
    intro e
    rcases hok with q | ⟨-, q⟩ | ⟨q, -⟩
    · rcases e with e | e <;> rw [e] at q <;> exact absurd q (by decide)
    · exact sub q
    · rcases e with e | e <;> rw [e] at q <;> exact absurd q (by decide)
  have two : p.1 = 38 ∨ p.1 = 124 → (∃ d, d < n ∧ p.2.1 = nI d ∧ zAt p.2.1 = d) ∧ ∃ d, d < n ∧ p.2.2 = nI d ∧ zAt p.2.2 = d := by
    intro e
    rcases hok with q | ⟨q, -⟩ | ⟨-, q1, q2⟩
    · rcases e with e | e <;> rw [e] at q <;> exact absurd q (by decide)
    · rcases e with e | e <;> rw [e] at q <;> exact absurd q (by decide)
    · exact ⟨sub q1, sub q2⟩
  refine wk_X26_holdsNow (v0 := some ro) hG (z_gA hro rfl (z_gA M.1 rfl (z_li m3 (by omega) (by decide) (z_gA hro rfl (z_gA M.1 rfl (z_li m9 (by omega) (by decide) ?_))))))
  rw [u9 n p hp, u3 n p hp]
  have tt : ∀ {b : Bool} {r : wv_R}, zholdB σ (zhold σ) p i l = b → r = .inl (some (.int (zbI b))) → r = .inl (some (.int (zbI (zholdB σ (zhold σ) p i l)))) ∧ kp kn h h := fun e1 e2 => ⟨by rw [e1]; exact e2, kp.refl h⟩
  refine ⟨fun e => ?_, fun n33 => ⟨fun e => ?_, fun n38 => ⟨fun e => ?_, fun n102 => ⟨fun e => ⟨fun q => ⟨rfl, tt (b := false) (by simp [zholdB, e, q]) rfl⟩, fun q => ⟨rfl, tt (b := true) (by simp [zholdB, e, q]) rfl⟩⟩, fun n110 => ⟨fun e => ?_, fun n116 => ⟨fun e => ⟨fun q => ⟨rfl, tt (b := false) (by simp [zholdB, e, Int32.not_lt.mpr q]) rfl⟩, fun q => ⟨rfl, tt (b := true) (by simp [zholdB, e, Int32.not_le.mp q]) rfl⟩⟩, fun n118 => ⟨fun e => ⟨fun q => ⟨rfl, tt (b := false) (by simp [zholdB, e, q]) rfl⟩, fun q => ⟨rfl, tt (b := true) (by simp [zholdB, e, q]) rfl⟩⟩, fun n119 => ⟨fun e => ?_, fun n124 => ?_⟩⟩⟩⟩⟩⟩⟩⟩
  · obtain ⟨d, hd1, ed, ad⟩ := one (Or.inl e)
    rw [ed]
    refine z_vI is26 (bit d (by omega)) (by omega) ⟨fun q => ⟨rfl, tt (b := false) (by simp [zholdB, e, ad, ← hh d hd1, zbI_n0 q]) rfl⟩, fun q => ⟨rfl, tt (b := true) (by simp [zholdB, e, ad, ← hh d hd1, zbI_e0 q]) rfl⟩⟩
  · obtain ⟨⟨d, hd1, ed, ad⟩, d2, hd2, ed2, ad2⟩ := two (Or.inl e)
    rw [ed]
    refine z_vI is26 (bit d (by omega)) (by omega) ⟨fun q => ⟨rfl, tt (b := false) (by simp [zholdB, e, ad, ← hh d hd1, zbI_e0 q]) rfl⟩, fun q => z_gA hro rfl (z_gA M.1 rfl (z_li m4 (by omega) (by decide) ?_))⟩
    rw [u4 n p hp, ed2]
    exact z_vI is26 (bit d2 (by omega)) (by omega) ⟨fun q2 => ⟨rfl, tt (b := false) (by simp [zholdB, e, ad2, ← hh d2 hd2, zbI_e0 q2]) rfl⟩, fun q2 => ⟨rfl, tt (b := true) (by simp [zholdB, e, ad, ad2, ← hh d hd1, ← hh d2 hd2, zbI_n0 q, zbI_n0 q2]) rfl⟩⟩
  · obtain ⟨d, hd1, ed, ad⟩ := one (Or.inr e)
    have hB : zholdB σ (zhold σ) p i l = (zhold σ d (i :: l) || zany (zhold σ d) l) := by simp [zholdB, e, ad, zany]
    rw [ed]
    refine z_vI is26 (bit d (by omega)) (by omega) ⟨fun q => ⟨rfl, tt (b := true) (by rw [hB, ← hh d hd1, zbI_n0 q]; rfl) rfl⟩, fun q => ⟨ro, rfl, is26, z_c (z26_isHeldByOpen hG (by omega) (by omega) hro hL hlen hO) (by omega) (Nat.le_refl _) (Nat.le_refl _) ?_⟩⟩
    rintro r h2 ⟨rfl, k2⟩
    rw [hB, ← hh d hd1, zbI_e0 q, Bool.false_or]
    refine Or.inl ⟨_, rfl, ?_⟩
    cases zany (zhold σ d) l with
    | false => exact ⟨fun _ => ⟨rfl, rfl, k2⟩, fun q => absurd rfl q⟩
    | true => exact ⟨fun q => absurd q (by decide), fun _ => ⟨rfl, rfl, k2⟩⟩
  · have hB : zholdB σ (zhold σ) p i l = zbelow σ i.2.2.1 p.2.1 := by simp [zholdB, e]
    rw [hB]
    exact z_gA hro rfl (z_vI M.is (z4_isBelow hG hw M hty (ht n p hp e)) (by omega) ⟨zbI_n _, rfl, kp.refl h⟩)
  · obtain ⟨⟨d, hd1, ed, ad⟩, d2, hd2, ed2, ad2⟩ := two (Or.inr e)
    rw [ed]
    refine z_vI is26 (bit d (by omega)) (by omega) ⟨fun q => ⟨rfl, tt (b := true) (by simp [zholdB, e, ad, ← hh d hd1, zbI_n0 q]) rfl⟩, fun q => z_gA hro rfl (z_gA M.1 rfl (z_li m4 (by omega) (by decide) ?_))⟩
    rw [u4 n p hp, ed2]
    exact z_vI is26 (bit d2 (by omega)) (by omega) ⟨fun q2 => ⟨rfl, tt (b := false) (by simp [zholdB, e, ad, ad2, ← hh d hd1, ← hh d2 hd2, zbI_e0 q, zbI_e0 q2]) rfl⟩, fun q2 => ⟨rfl, tt (b := true) (by simp [zholdB, e, ad2, ← hh d2 hd2, zbI_n0 q2]) rfl⟩⟩
  · refine z_gA hro rfl (z_gA M.1 rfl (z_li m9 (by omega) (by decide) ?_))
    rw [u9 n p hp]
    have hB : zholdB σ (zhold σ) p i l = decide (i.1 = p.1) := by simp [zholdB, n33, n38, n102, n110, n116, n118, n119, n124]
    exact ⟨fun q => ⟨rfl, tt (b := false) (by rw [hB]; exact decide_eq_false (fun e => q e.symm)) rfl⟩, fun q => ⟨rfl, tt (b := true) (by rw [hB]; exact decide_eq_true q.symm) rfl⟩⟩
end ZTS
