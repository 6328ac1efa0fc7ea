/-! THE REFERENCE: a pattern matched with a place -/
section ZTJ
variable {G : wv_G} {A B B' : zA} {σ σ' : zS} {h h0 h1 h2 h' : wv_H} {w : wv_W} {fr fr' kc ks : Nat} {P : wv_R → wv_H → Prop} {KX : String → Nat → wv_W → Prop} {sl L b : Nat} {k m r i j : Nat} {t : wv_T} {x y v th a s c : Int32} {sp : zSp}
abbrev zv3 (x : Int32) : Prop := x = 121 ∨ x = 110 ∨ x = 109
theorem zv3_n (h : zv3 x) : narrow .char (.int x) = .int x := by rcases h with e | e | e <;> rw [e] <;> rfl
theorem zv3_j (hs : s = 110 ∨ s = 121) (hx : zv3 x) : zv3 (if x = s ∨ y = s then s else if x = y then x else 109) := by
  split
  · rcases hs with e | e
    · exact Or.inr (Or.inl e)
    · exact Or.inl e
  · split
    · exact hx
    · exact Or.inr (Or.inr rfl)
theorem z4_joined13 (hG : wv_G0 G) (hs : s = 110 ∨ s = 121) (hx : zv3 x) (hy : zv3 y) : vc_X4_joined_13 G 1 (fun r h' => r = .inl (some (.int (if x = s ∨ y = s then s else if x = y then x else 109))) ∧ h' = h) x y s (h, 0, 0) := by
  have hsn : narrow .char (.int s) = .int s := by rcases hs with e | e <;> rw [e] <;> rfl
  refine ⟨fun e => ?_, fun e => ⟨fun e2 => ⟨fun e3 => ?_, fun e3 => ⟨fun e4 => ?_, fun e4 => ?_⟩⟩, fun e2 => ?_⟩⟩
  · rw [if_pos (Or.inl e)]
    exact ⟨hsn, rfl, rfl⟩
  · rw [if_neg (fun q => q.elim e e2)]
    refine ⟨rfl, ?_, rfl⟩
    by_cases q : x = y
    · rw [if_pos q, e3]
    · rw [if_neg q]
  · rw [if_neg (fun q => q.elim e e2)]
    have hxy : x = y ∧ (if s = 121 then 110 else if s = 110 then 121 else 109) = x := by
      rcases hs with e5 | e5 <;> subst e5 <;> rcases hx with q | q | q <;> rcases hy with q2 | q2 | q2 <;> first | exact absurd q e | exact absurd q e3 | exact absurd q2 e2 | exact absurd q2 e4 | (subst q; subst q2; exact ⟨rfl, rfl⟩)
    have hC := z4_turned (h := h) hG s
    rw [hxy.2] at hC
    rw [if_pos hxy.1]
    exact z_cI hC (by omega) ⟨zv3_n hx, rfl, rfl⟩
  · rw [if_neg (fun q => q.elim e e2), if_neg (fun q => e3 (q.trans e4))]
    exact ⟨rfl, rfl, rfl⟩
  · rw [if_pos (Or.inr e2)]
    exact ⟨hsn, rfl, rfl⟩
theorem z4_joined (hG : wv_G0 G) (hx : zv3 x) (hy : zv3 y) (hs : s = if c = 38 then 110 else 121) : wv_C G yX4_joined [.int c, .int x, .int y] h 1 0 0 (fun r h' => r = .inl (some (.int (if x = s ∨ y = s then s else if x = y then x else 109))) ∧ h' = h) := by
  refine wk_X4_joined hG ⟨fun e => ?_, fun e => ?_⟩
  · rw [if_neg e] at hs
    subst hs
    exact z4_joined13 hG (Or.inr rfl) hx hy
  · rw [if_pos e] at hs
    subst hs
    exact z4_joined13 hG (Or.inl rfl) hx hy
/-- the place of a Spot -/
abbrev zqS (σ : zS) (k m : Nat) (sp : zSp) : zPl := (sp.1, sp.2.1, nI k, zposs σ k m sp)
/-- patterns of classes name classes -/
def zwt (σ : zS) : Prop := ∀ (n : Nat) (p : zPt), σ.2.1[n]? = some p → p.1 = 116 → ¬ p.2.1 = -1
theorem z4_matches (hG : wv_G0 G) (hw : zwf σ) (ht : zwt σ) (M : zMf G B σ th L h) (hk : k < zn σ) (hm : m < 6) (hb : h b = some (t, zspO sp)) (hf : wv_fit .char sp.1) (hsp : ∀ q, sp.2.2.1 = some q → q < 6) : ∀ n, n < σ.2.1.length → wv_C G yX4_matches [.ref (B 100 0 0), .ref b, .int (nI k), .int (nI m), .int (nI n)] h (n + 3) 0 0 (fun r h' => r = .inl (some (.int (zat σ (zqS σ k m sp) n))) ∧ h' = h) := by
  intro n
  induction n using Nat.strongRecOn with
  | ind n ih =>
    intro hn
    have h24 := hw.2.2.1
    have hp : σ.2.1[n]? = some σ.2.1[n] := List.getElem?_eq_getElem hn
    generalize σ.2.1[n] = p at hp
    have hok := hw.2.2.2.1 n p hp
    obtain ⟨f3, m3, u3⟩ := id M.2.2.2.2.1
    obtain ⟨f4, m4, u4⟩ := id M.2.2.2.2.2.1
    obtain ⟨f9, m9, u9⟩ := id M.2.2.2.2.2.2.2.2.2.2.1
    have hz := zat_n (σ := σ) (q := zqS σ k m sp)
    rw [zat_eq hw hp]
    refine wk_X4_matches (v0 := some (B 100 0 0)) (v1 := some b) hG (z_gA M.1 rfl (z_li m9 (by omega) (by decide) (z_gA M.1 rfl (z_li m3 (by omega) (by decide) ?_))))
    rw [u9 n p hp, u3 n p hp]
    have sub : ∀ {a : Int32}, (∃ d, d < n ∧ a = nI d) → ∃ d, d < n ∧ a = nI d ∧ zAt a = d := fun ⟨d, hd, e⟩ => ⟨d, hd, e, by rw [e]; exact zAt_nI (by omega)⟩
    -- two of them
    have two : p.1 = 38 ∨ p.1 = 124 → vc_X4_matches_179 G (n + 3) (fun r h' => r = .inl (some (.int (zatB σ (zqS σ k m sp) (zat σ (zqS σ k m sp)) p))) ∧ h' = h) (some (B 100 0 0)) (some b) (nI k) (nI m) (nI n) p.1 p.2.1 (h, 0, 0) := by
      intro hc
      obtain ⟨⟨d, hd, ed⟩, e, he, ee⟩ : (∃ a, a < n ∧ p.2.1 = nI a) ∧ ∃ b, b < n ∧ p.2.2 = nI b := by
        rcases hok with q | ⟨q, -⟩ | ⟨-, q2, q3⟩
        · rcases hc with hc | hc <;> rw [hc] at q <;> exact absurd q (by decide)
        · rcases hc with hc | hc <;> rw [hc] at q <;> exact absurd q (by decide)
        · exact ⟨q2, q3⟩
      have ad : zAt p.2.1 = d := by rw [ed]; exact zAt_nI (by omega)
      have ae : zAt p.2.2 = e := by rw [ee]; exact zAt_nI (by omega)
      have hB : zatB σ (zqS σ k m sp) (zat σ (zqS σ k m sp)) p = (if zat σ (zqS σ k m sp) d = (if p.1 = 38 then 110 else 121) ∨ zat σ (zqS σ k m sp) e = (if p.1 = 38 then 110 else 121) then (if p.1 = 38 then 110 else 121) else if zat σ (zqS σ k m sp) d = zat σ (zqS σ k m sp) e then zat σ (zqS σ k m sp) d else 109) := by
        rcases hc with hc | hc <;> simp [zatB, hc, ad, ae]
      rw [hB, ed]
      refine z_vI M.is (ih d hd (by omega)) (by omega) (z_gA M.1 rfl (z_li m4 (by omega) (by decide) ?_))
      rw [u4 n p hp, ee]
      refine z_vI M.is (ih e he (by omega)) (by omega) (z_cI (z4_joined hG (zat_3 d) (zat_3 e) rfl) (by omega) ⟨zv3_n (zv3_j ?_ (zat_3 d)), rfl, rfl⟩)
      by_cases q : p.1 = 38
      · rw [if_pos q]
        exact Or.inl rfl
      · rw [if_neg q]
        exact Or.inr rfl
    have kind : zatB σ (zqS σ k m sp) (zat σ (zqS σ k m sp)) p = zatB σ (zqS σ k m sp) (zat σ (zqS σ k m sp)) p := rfl
    refine ⟨fun e => ?_, fun n33 => ⟨fun e => two (Or.inl e), fun n38 => ⟨fun e => ?_, fun n102 => ⟨fun e => ?_, fun n110 => ⟨fun e => ?_, fun n116 => ⟨fun e => ?_, fun n118 => ⟨fun e => ?_, fun n119 => ⟨fun e => two (Or.inr e), fun n124 => ?_⟩⟩⟩⟩⟩⟩⟩⟩
    · obtain ⟨d, hd, ed, ad⟩ : ∃ d, d < n ∧ p.2.1 = nI d ∧ zAt p.2.1 = d := by
        rcases hok with q | ⟨-, q⟩ | ⟨q, -⟩
        · rw [e] at q; exact absurd q (by decide)
        · exact sub q
        · rw [e] at q; exact absurd q (by decide)
      have hB : zatB σ (zqS σ k m sp) (zat σ (zqS σ k m sp)) p = (if zat σ (zqS σ k m sp) d = 121 then 110 else if zat σ (zqS σ k m sp) d = 110 then 121 else 109) := by
        have e0 : zatB σ (zqS σ k m sp) (zat σ (zqS σ k m sp)) p = (if zat σ (zqS σ k m sp) d = 109 then 109 else zsure (decide (zat σ (zqS σ k m sp) d = 110))) := by simp [zatB, e, ad]
        rw [e0]
        rcases zat_3 (σ := σ) (q := zqS σ k m sp) d with q | q | q <;> rw [q] <;> decide
      rw [hB, ed]
      refine z_vI M.is (ih d hd (by omega)) (by omega) (z_cI (z4_turned hG _) (by omega) ⟨?_, rfl, rfl⟩)
      split
      · rfl
      · split <;> rfl
    · obtain ⟨d, hd, ed, ad⟩ : ∃ d, d < n ∧ p.2.1 = nI d ∧ zAt p.2.1 = d := by
        rcases hok with q | ⟨-, q⟩ | ⟨q, -⟩
        · rw [e] at q; exact absurd q (by decide)
        · exact sub q
        · rw [e] at q; exact absurd q (by decide)
      have hB : zatB σ (zqS σ k m sp) (zat σ (zqS σ k m sp)) p = (if zat σ (zqS σ k m sp) d = 121 then 121 else 109) := by simp [zatB, e, ad]
      rw [hB, ed]
      refine z_vI M.is (ih d hd (by omega)) (by omega) ⟨fun q => ?_, fun q => ?_⟩
      · rw [if_neg q]
        exact ⟨rfl, rfl, rfl⟩
      · rw [if_pos q]
        exact ⟨rfl, rfl, rfl⟩
    · have hB : zatB σ (zqS σ k m sp) (zat σ (zqS σ k m sp)) p = (if sp.1 = 104 then (if sp.2.1 < p.2.1 then 110 else 109) else zsure (decide (sp.2.1 = p.2.1))) := by simp [zatB, e]
      rw [hB]
      refine z_vI M.is (z4_nameMatch hG hb hf p.2.1) (by omega) ⟨?_, rfl, rfl⟩
      split
      · split <;> rfl
      · exact zsure_n _
    · have hB : zatB σ (zqS σ k m sp) (zat σ (zqS σ k m sp)) p = (if zcN σ k m sp p.2.1 (zn σ) = true then 110 else if zcA σ k m sp p.2.1 (zn σ) = true then 121 else 109) := by
        simp only [zatB, e]
        rfl
      rw [hB]
      refine z_vI M.is (z4_classMatch hG hw M hk hm (ht n p hp e) hb hsp) (by omega) ⟨?_, rfl, rfl⟩
      split
      · rfl
      · split <;> rfl
    · have hB : zatB σ (zqS σ k m sp) (zat σ (zqS σ k m sp)) p = 109 := by simp [zatB, e]
      rw [hB]
      exact ⟨rfl, rfl, rfl⟩
    · have hB : zatB σ (zqS σ k m sp) (zat σ (zqS σ k m sp)) p = zsure (decide (nI k = p.2.1)) := by simp [zatB, e]
      rw [hB]
      refine ⟨fun q => ?_, fun q => ?_⟩
      · rw [decide_eq_false q]
        exact z_cI (z4_sure hG false) (by omega) ⟨zsure_n _, rfl, rfl⟩
      · rw [decide_eq_true q]
        exact z_cI (z4_sure hG true) (by omega) ⟨zsure_n _, rfl, rfl⟩
    · have hB : zatB σ (zqS σ k m sp) (zat σ (zqS σ k m sp)) p = zsure (decide (sp.1 = p.1)) := by simp [zatB, n33, n38, n102, n110, n116, n118, n119, n124]
      rw [hB]
      refine z_vI (z_is hb ccX20) (z20_kind hG hb hf) (by omega) ⟨fun q => ?_, fun q => ?_⟩
      · rw [decide_eq_false q]
        exact z_cI (z4_sure hG false) (by omega) ⟨zsure_n _, rfl, rfl⟩
      · rw [decide_eq_true q]
        exact z_cI (z4_sure hG true) (by omega) ⟨zsure_n _, rfl, rfl⟩
end ZTJ
