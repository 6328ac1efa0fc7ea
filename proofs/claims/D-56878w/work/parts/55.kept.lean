/-! THE COMPONENT: places kept, forgotten, counted -/
section ZF
variable {G : wv_G} {A : zA} {σ : zS} {h h1 h2 h' : wv_H} {w : wv_W} {fr fr' kc ks : Nat} {P : wv_R → wv_H → Prop} {KX : String → Nat → wv_W → Prop} {a : Nat} {t : wv_T} {f g : Nat → Nat → Nat}
-- ===== sums =====
def zsm (f : Nat → Nat) : Nat → Nat
  | 0 => 0
  | n + 1 => zsm f n + f n
theorem zsm_congr {f g : Nat → Nat} : ∀ {n : Nat}, (∀ j, j < n → f j = g j) → zsm f n = zsm g n
  | 0, _ => rfl
  | n + 1, e => by rw [zsm, zsm, zsm_congr (fun j hj => e j (by omega)), e n (by omega)]
theorem zsm_le {f g : Nat → Nat} : ∀ {n : Nat}, (∀ j, j < n → f j ≤ g j) → zsm f n ≤ zsm g n
  | 0, _ => Nat.le_refl _
  | n + 1, e => by
    rw [zsm, zsm]
    have := zsm_le (f := f) (g := g) (n := n) (fun j hj => e j (by omega))
    have := e n (by omega)
    omega
theorem zsm_up {f g : Nat → Nat} {q : Nat} : ∀ {n : Nat}, q < n → (∀ j, j < n → j ≠ q → f j = g j) → zsm f n + g q = zsm g n + f q
  | 0, h, _ => absurd h (Nat.not_lt_zero _)
  | n + 1, h, e => by
    rw [zsm, zsm]
    by_cases hq : q = n
    · subst hq
      rw [zsm_congr (f := f) (g := g) (n := q) (fun j hj => e j (by omega) (by omega))]
      omega
    · have := zsm_up (f := f) (g := g) (q := q) (n := n) (by omega) (fun j hj hn => e j (by omega) hn)
      rw [e n (by omega) (fun x => hq x.symm)]
      omega
/-- the places not yet kept -/
def zrem (σ : zS) (f : Nat → Nat → Nat) : Nat := zsm (fun q => (zspots σ (q / 6) (q % 6)).length - f (q / 6) (q % 6)) 36
theorem zrem_keep {k m n : Nat} (hk : k < 6) (hm : m < 6) (hn : n ≤ (zspots σ k m).length) : zrem σ (zkeep f k m n) + (n - f k m) = zrem σ f := by
  unfold zrem
  have hq : (k * 6 + m) / 6 = k ∧ (k * 6 + m) % 6 = m := by omega
  have := zsm_up (f := fun q => (zspots σ (q / 6) (q % 6)).length - zkeep f k m n (q / 6) (q % 6)) (g := fun q => (zspots σ (q / 6) (q % 6)).length - f (q / 6) (q % 6)) (q := k * 6 + m) (n := 36) (by omega) (fun j hj hne => by
    have e : zkeep f k m n (j / 6) (j % 6) = f (j / 6) (j % 6) := by
      unfold zkeep
      rw [if_neg]
      omega
    show _ - zkeep f k m n (j / 6) (j % 6) = _
    rw [e])
  simp only [hq.1, hq.2] at this
  have e : zkeep f k m n k m = max (f k m) n := by unfold zkeep; rw [if_pos ⟨rfl, rfl⟩]
  rw [e] at this
  rcases Nat.le_total (f k m) n with h1 | h1
  · rw [Nat.max_eq_right h1] at this
    omega
  · rw [Nat.max_eq_left h1] at this
    omega
theorem zrem_le (hfg : ∀ k m, f k m ≤ g k m) : zrem σ g ≤ zrem σ f := by
  unfold zrem
  refine zsm_le (fun j _ => ?_)
  have := hfg (j / 6) (j % 6)
  omega
theorem zkeep_ge (k m n a b : Nat) : f a b ≤ zkeep f k m n a b := by
  unfold zkeep
  split
  · exact Nat.le_max_left _ _
  · exact Nat.le_refl _
-- ===== lists grow =====
theorem z_el {x : Nat} {C : String} (hi : wv_is G h x C) (hc : Cond.castable C "java/lang/Object" ∈ lw_tbl) : wl_el G h x := ⟨C, hi, hc⟩
theorem zL.cadd (hG : wv_G0 G) {xs : List Nat} {v : Nat} {K : Int32 → wv_W → Prop} (hl : zL w.1 a t xs) (hv : wl_el G w.1 v) (hel : ∀ x ∈ xs, wl_el G w.1 x) (hlen : xs.length ≤ 39) (hf : 6 < fr) (hc : 1 ≤ w.2.1) (hs : wl_nc xs.length ≤ w.2.2) (hK : ∀ h' c s, zL h' a t (xs ++ [v]) → (∀ b, b ≠ a → h' b = w.1 b) → w.2.1 - 1 ≤ c → w.2.2 - wl_nc xs.length ≤ s → K 1 (h', c, s)) : wv_cV G fr yJ2_add (some a) [va_rf (some v)] w (wv_rI K KX) := by
  obtain ⟨md, cap, h1, h2⟩ := hl
  refine ⟨a, rfl, z_isL h2, z_c (wl_add hG h2 (by omega) hv hel) hf ?_ ?_ ?_⟩
  · split <;> omega
  · split
    · rename_i e
      rw [← e]
      exact hs
    · exact Nat.zero_le _
  · rintro r h' ⟨rfl, rfl⟩
    refine Or.inl ⟨1, rfl, hK _ _ _ ⟨md + 1, _, ?_, wv_up_self⟩ (fun b hb => wv_up_ne hb) ?_ ?_⟩
    · unfold wl_cc
      split
      · rename_i e
        unfold wl_nc
        split
        · omega
        · have := Nat.max_le.mpr ⟨(show 1 ≤ 20 by omega), (show cap / 2 ≤ 20 by omega)⟩
          omega
      · exact h1
    · split <;> omega
    · split
      · rename_i e
        rw [← e]
        exact Nat.le_refl _
      · show _ ≤ w.2.2 - 0
        omega
theorem zL.clear (hG : wv_G0 G) {xs : List Nat} {K : wv_W → Prop} (hl : zL w.1 a t xs) (hf : 0 < fr) (hK : ∀ h', zL h' a t [] → (∀ b, b ≠ a → h' b = w.1 b) → K (h', w.2)) : wv_cV G fr yJ2_clear (some a) [] w (wv_rV K KX) := by
  obtain ⟨md, cap, h1, h2⟩ := hl
  exact z_vV (z_isL h2) (wl_clear hG h2) hf (hK _ ⟨md + 1, cap, h1, wv_up_self⟩ (fun b hb => wv_up_ne hb))
theorem wl_nc_le {n : Nat} (hn : n ≤ 16) : wl_nc n ≤ 24 := by
  unfold wl_nc
  split
  · omega
  · have := Nat.max_le.mpr ⟨(show 1 ≤ 8 by omega), (show n / 2 ≤ 8 by omega)⟩
    omega
/-- all but the cell a stands -/
theorem kp.of {S : Nat → wv_T → Prop} {x : wv_T × wv_O} (ha : h a = some x) (hs : S a x.1) (hb : ∀ b, b ≠ a → h1 b = h b) : kp S h h1 := by
  intro b y hy hn
  by_cases e : b = a
  · subst e
    rw [ha] at hy
    cases hy
    exact absurd hs hn
  · rw [hb b e]
    exact hy
-- ===== placeOf =====
theorem zPlA.keep {S : Nat → wv_T → Prop} {q : zPl} (hp : zPlA σ h a q) (k : kp S h h1) (hS : ∀ b t, S b t → t.1 ≠ 59) : zPlA σ h1 a q := by
  obtain ⟨x1, x2, x3, e1, e2⟩ := hp
  exact ⟨x1, x2, x3, k a _ e1 (fun q => hS _ _ q rfl), e2⟩
theorem zPlA.is {q : zPl} (hp : zPlA σ h a q) : wv_is G h a RX21 := by
  obtain ⟨x1, x2, x3, e1, e2⟩ := hp
  exact z_is e1 ccX21
/-- the list of a body's places -/
abbrev zS58 (k m : Nat) : Nat → wv_T → Prop := fun _ t => t = (58, k, m, 0)
theorem z1_placeOf (hG : wv_G0 G) (hw : zwf σ) {k m p : Nat} (hk : k < zn σ) (hm : m < 6) (hp : p < (zspots σ k m).length) (C : zCf G A σ h) (L : zPls G A σ f h) :
    wv_C G yX1_placeOf [.ref (A 2 0 0), .ref (A 4 k 0), .int (nI m), .int (nI p)] h 13 (2 * ((p + 1) - f k m)) (31 * ((p + 1) - f k m)) (fun r h' => ∃ a, r = .inl (some (va_rf (some a))) ∧ zPls G A σ (zkeep f k m (p + 1)) h' ∧ zPlA σ h' a (zpl σ k m p) ∧ kp (zS58 k m) h h') := by
  refine wk_X1_placeOf (v0 := some (A 2 0 0)) (v1 := some (A 4 k 0)) hG ?_
  have h17 := zspots_le hw (k := k) hm
  obtain ⟨xs0, l1, l2, l3, l4⟩ := L k m hk hm
  refine z_gA (C.type hk) rfl ((C.plcs hk).vgetR hG hm (by omega) (z_cc l1.is ?_))
  refine ⟨fun v w => v = (some (A 2 0 0), some (A 4 k 0), nI m, nI p, some (A 58 k m)) ∧ ∃ xs, zL w.1 (A 58 k m) (58, k, m, 0) xs ∧ f k m ≤ xs.length ∧ xs.length ≤ max (f k m) (p + 1) ∧ (∀ i a, xs[i]? = some a → zPlA σ w.1 a (zpl σ k m i)) ∧ kp (zS58 k m) h w.1 ∧ 2 * ((p + 1) - xs.length) ≤ w.2.1 ∧ 31 * ((p + 1) - xs.length) ≤ w.2.2, fun _ w => (p + 1) - (match w.1 (A 58 k m) with | some (_, .inr (.inl l)) => l.2.2.length | _ => 0), ⟨rfl, xs0, l1, by omega, by omega, l4, kp.refl h, by rw [l2]; exact Nat.le_refl _, by rw [l2]; exact Nat.le_refl _⟩, ?_⟩
  rintro _ ⟨h1, c, s⟩ ⟨rfl, xs, m1, m2, m3, m4, m5, m6, m7⟩
  have m1 : zL h1 (A 58 k m) (58, k, m, 0) xs := m1
  have m5 : kp (zS58 k m) h h1 := m5
  have m6 : 2 * ((p + 1) - xs.length) ≤ c := m6
  have m7 : 31 * ((p + 1) - xs.length) ≤ s := m7
  have hS : ∀ (a : Nat) (t : wv_T), zS58 k m a t → 50 ≤ t.1 := fun _ t e => by rw [e]; show (50 : Nat) ≤ 58; decide
  have C1 := C.keep m5 hS
  have hpm : max (f k m) (p + 1) ≤ 17 := Nat.max_le.mpr ⟨by omega, by omega⟩
  refine m1.vsize hG (by omega) (pk_lt p xs.length (fun hlt => ?_) (fun hge => ?_))
  · have hx : xs[p]? = some xs[p] := List.getElem?_eq_getElem hlt
    have hpa := m4 p _ hx
    refine m1.vget hG hx (by omega) (z_cc hpa.is ⟨_, rfl, ?_, hpa, m5⟩)
    have hlen : xs.length = max (f k m) (p + 1) := Nat.le_antisymm m3 (Nat.max_le.mpr ⟨m2, hlt⟩)
    intro k' m' hk' hm'
    unfold zkeep
    by_cases e : k' = k ∧ m' = m
    · obtain ⟨rfl, rfl⟩ := e
      rw [if_pos ⟨rfl, rfl⟩]
      exact ⟨xs, m1, hlen, Nat.max_le.mpr ⟨l3, hp⟩, m4⟩
    · rw [if_neg e]
      obtain ⟨ys, n1, n2, n3, n4⟩ := L k' m' hk' hm'
      have hne : ¬ zS58 k m (A 58 k' m') (58, k', m', 0) := by
        intro q
        injection q with _ q
        injection q with q1 q
        injection q with q2 _
        exact e ⟨q1, q2⟩
      exact ⟨ys, n1.keep m5 hne, n2, n3, fun i a hi => (n4 i a hi).keep m5 (fun _ t e => by rw [e]; show (58 : Nat) ≠ 59; decide)⟩
  · refine m1.vsize hG (by omega) ?_
    refine ⟨A 2 0 0, rfl, z_isC C1, z_c (z1_madePlace hG hw C1 hk hm (p := xs.length) (by omega)) (by omega) (by show 1 ≤ c; omega) (by show 7 ≤ s; omega) ?_⟩
    rintro r h2 ⟨a, rfl, ha, rfl⟩
    have ha : h1 a = none := ha
    refine Or.inl ⟨_, rfl, ?_⟩
    have hp9 : ∀ (b : Nat) (q : zPl), zPlA σ h1 b q → zPlA σ (wv_up h1 a ((59, 0, 0, 0), zPlo σ (zpl σ k m xs.length) 0 0 0)) b q := fun b q hb => hb.keep (S := kn) (kp.new ha) (fun _ _ q => q.elim)
    have hnew : zPlA σ (wv_up h1 a ((59, 0, 0, 0), zPlo σ (zpl σ k m xs.length) 0 0 0)) a (zpl σ k m xs.length) := ⟨0, 0, 0, wv_up_self, zPv_0 _⟩
    have m8 : zL (wv_up h1 a ((59, 0, 0, 0), zPlo σ (zpl σ k m xs.length) 0 0 0)) (A 58 k m) (58, k, m, 0) xs := m1.keep (S := kn) (kp.new ha) (fun q => q)
    have hnc := wl_nc_le (n := xs.length) (by omega)
    refine m8.cadd hG (z_el hnew.is q2629) (fun x hx => ?_) (by omega) (by omega) (by show 1 ≤ c - 1; omega) (by show _ ≤ s - 7; omega) ?_
    · obtain ⟨i, hi⟩ := List.mem_iff_getElem?.mp hx
      exact z_el (hp9 _ _ (m4 i x hi)).is q2629
    · rintro h3 c3 s3 n1 n2 n3 n4
      have n3 : c - 1 - 1 ≤ c3 := n3
      have n4 : s - 7 - wl_nc xs.length ≤ s3 := n4
      obtain ⟨md, cap, -, n5⟩ := m8
      have k3 : kp (zS58 k m) (wv_up h1 a ((59, 0, 0, 0), zPlo σ (zpl σ k m xs.length) 0 0 0)) h3 := kp.of n5 rfl n2
      refine ⟨⟨rfl, xs ++ [a], n1, by simp; omega, by rw [List.length_append]; show xs.length + 1 ≤ _; have := Nat.le_max_right (f k m) (p + 1); omega, ?_, (m5.trans (kp.new ha)).trans k3, ?_, ?_⟩, ?_⟩
      · intro i b hi
        refine zPlA.keep ?_ k3 (fun _ t e => by rw [e]; show (58 : Nat) ≠ 59; decide)
        by_cases hil : i < xs.length
        · rw [List.getElem?_append_left hil] at hi
          exact hp9 _ _ (m4 i b hi)
        · have hi2 := (List.getElem?_eq_some_iff.mp hi).1
          rw [List.length_append] at hi2
          have hi3 : i = xs.length := by
            have : i < xs.length + 1 := hi2
            omega
          subst hi3
          rw [List.getElem?_append_right (Nat.le_refl _), Nat.sub_self] at hi
          cases hi
          exact hnew
      · rw [List.length_append]
        show 2 * ((p + 1) - (xs.length + 1)) ≤ c3
        omega
      · rw [List.length_append]
        show 31 * ((p + 1) - (xs.length + 1)) ≤ s3
        omega
      · obtain ⟨md1, cap1, -, n6⟩ := n1
        obtain ⟨md2, cap2, -, n7⟩ := m1
        show (p + 1) - (match h3 (A 58 k m) with | some (_, .inr (.inl l)) => l.2.2.length | _ => 0) < (p + 1) - (match h1 (A 58 k m) with | some (_, .inr (.inl l)) => l.2.2.length | _ => 0)
        rw [n6, n7]
        show (p + 1) - (xs ++ [a]).length < (p + 1) - xs.length
        rw [List.length_append]
        show (p + 1) - (xs.length + 1) < _
        omega
end ZF
