/-! LISTS: new, clear, the last one away, Integers, Strings -/
section WL3
variable {G : wv_G} {h : wv_H} {fr kc ks : Nat} {P : wv_R → wv_H → Prop} {a : Nat} {t : wv_T} {md : Int32} {cap : Nat} {xs : List Nat}
theorem wl_init0 (hG : wv_G0 G) : wv_C G yJ0_init [va_rf (some a)] h 1 0 0 (fun r h' => r = .inl none ∧ h' = h) := wk_J0_init hG ⟨⟨a, rfl⟩, Nat.le_refl _, rfl, rfl⟩
theorem wl_init1 (hG : wv_G0 G) {x y : Value} (ha : h a = some (t, wo_o ciJ2 [.int 0, x, y])) (ht : t.1 ≠ 0) : wv_C G yJ1_init [va_rf (some a)] h 2 0 0 (fun r h' => r = .inl none ∧ h' = wv_up h a (t, wo_o ciJ2 [.int 0, x, y])) := by
  refine wk_J1_init hG ?_
  refine ⟨a, rfl, 1, 0, 0, _, wl_init0 hG, by omega, Nat.zero_le _, Nat.zero_le _, ?_⟩
  rintro r h' ⟨rfl, rfl⟩
  exact Or.inl ⟨rfl, a, t, _, rfl, ha, ht, by simp, rfl, rfl⟩
/-- a new list -/
theorem wl_init (hG : wv_G0 G) (ha : h a = some (t, wo_o ciJ2 [.int 0, va_rf none, .int 0])) (ht : t.1 ≠ 0) : wv_C G yJ2_init [va_rf (some a)] h 3 0 0 (fun r h' => r = .inl none ∧ h' = wv_up h a (t, wo_L 0 0 [])) := by
  refine wv_C.via (by decide) (Or.inl rfl) q131 (P1 := fun _ r h2 => r = .inl none ∧ h2 = wv_up (wv_up h a (t, wo_o ciJ2 [.int 0, va_rf none, .int 0])) a (t, wo_o ciJ2 [.int 0, va_rf (some (G.2.2.2.2 0)), .int 0])) (fun h1 => h1 = h) (fun H hR => ⟨h, rfl, hR⟩) ?_ ?_
  · rintro h1 rfl
    refine wk_J2_init hG ?_
    refine ⟨a, rfl, 2, 0, 0, _, wl_init1 hG ha ht, by omega, Nat.zero_le _, Nat.zero_le _, ?_⟩
    rintro r h' ⟨rfl, rfl⟩
    exact Or.inl ⟨rfl, a, t, [.int 0, va_rf none, .int 0], rfl, wv_up_self, ht, by simp, rfl, rfl⟩
  · rintro h1 r h2 H rfl ⟨rfl, rfl⟩ hR
    refine ⟨_, ⟨rfl, rfl⟩, wv_Rep.close (a := a) hG hR ?_⟩
    refine wl_close (t' := t) (md' := 0) (arr' := G.2.2.2.2 0) (n' := 0) (cap' := 0) (f' := fun _ => none) (xs' := []) ⟨wv_up_self, ht, Nat.le_refl _, by decide, Or.inl ⟨rfl, rfl⟩⟩ rfl (fun i x hx => by simp at hx) wv_up_self (fun b x hb hx => ⟨?_, fun hz => absurd rfl hz⟩)
    rw [wv_up_ne hb, wv_up_ne hb]
    rw [wv_up_ne hb] at hx
    exact hx
theorem wl_clear (hG : wv_G0 G) (ha : h a = some (t, wo_L md cap xs)) : wv_C G yJ2_clear [va_rf (some a)] h 0 0 0 (fun r h' => r = .inl none ∧ h' = wv_up h a (t, wo_L (md + 1) cap [])) := by
  refine wv_C.list hG (by decide) (Or.inl rfl) q1314 ha fun arr f ht hw => ?_
  refine wk_J2_clear hG ?_
  have hr := wl_opn (md := md) ht hw
  have hb : xs.length ≤ 100000 := Nat.le_trans hw.1 hw.2.1
  have hq := hr.1
  refine ⟨a, t, [.int md, va_rf (some arr), .int (nI xs.length)], md, rfl, hq, rfl, a, t, [.int md, va_rf (some arr), .int (nI xs.length)], rfl, hq, ht, by simp, ?_⟩
  refine ⟨a, t, [.int (md + 1), va_rf (some arr), .int (nI xs.length)], some arr, rfl, wv_up_self, rfl, a, t, [.int (md + 1), va_rf (some arr), .int (nI xs.length)], nI xs.length, rfl, wv_up_self, rfl, a, t, [.int (md + 1), va_rf (some arr), .int (nI xs.length)], rfl, wv_up_self, ht, by simp, ?_⟩
  refine ⟨fun v w => v.1 = some arr ∧ v.2.1 = nI xs.length ∧ (∃ i, i ≤ xs.length ∧ v.2.2 = nI i) ∧ (∃ g, wl_raw G w.1 a t (md + 1) arr 0 cap g) ∧ ∀ c, c ≠ a → (cap ≠ 0 → c ≠ arr) → w.1 c = wv_opn G h a t md cap xs.length arr f c, fun v w => xs.length - v.2.2.toNatClampNeg, ⟨rfl, rfl, ⟨0, Nat.zero_le _, rfl⟩, ⟨f, wv_up_self, ht, Nat.zero_le _, hr.2.2.2.1, ?_⟩, fun c hc1 hc2 => ?_⟩, ?_⟩
  · rcases hr.2.2.2.2 with h5 | ⟨h5, h6, t', h7, h8⟩
    · exact Or.inl h5
    · exact Or.inr ⟨h5, h6, t', h7, ((wv_up_ne h6).trans (wv_up_ne h6)).trans h8⟩
  · exact (wv_up_ne hc1).trans (wv_up_ne hc1)
  · rintro ⟨v1, v2, v3⟩ w ⟨h1, h2, ⟨i, hi, h3⟩, ⟨g, hg⟩, h4⟩
    dsimp only at h1 h2 h3
    subst h1 h2 h3
    refine ⟨fun hle => ?_, fun hlt => ?_⟩
    · refine ⟨_, ⟨rfl, rfl⟩, wl_close hg rfl (fun i x hx => by simp at hx) wv_up_self (fun c x hc hx => ?_)⟩
      have hx : h c = some x := (wv_up_ne hc).symm.trans hx
      obtain ⟨o1, o2⟩ := wl_old (t := t) (md := md) hw hc hx
      exact ⟨(h4 c hc o2).trans o1, o2⟩
    · have hil : i < xs.length := by
        rcases Nat.lt_or_ge i xs.length with h9 | h9
        · exact h9
        · exact absurd (nI_le h9 (by omega)) hlt
      obtain ⟨k1, k2, k3, k4, ⟨k5, -⟩ | ⟨k5, k6, t', k7, k8⟩⟩ := hg
      · have := hw.1
        omega
      refine ⟨arr, t', cap, g, rfl, k8, k7, vp_in_nI (Nat.lt_of_lt_of_le hil hw.1) (by omega), fun b hb => (by cases hb), ?_⟩
      rw [nI_clamp (by omega)]
      refine ⟨⟨rfl, rfl, ⟨i + 1, hil, nI_1 i⟩, ⟨va_up g i none, (wv_up_ne (Ne.symm k6)).trans k1, k2, k3, k4, Or.inr ⟨k5, k6, t', k7, wv_up_self⟩⟩, fun c hc1 hc2 => (wv_up_ne (hc2 k5)).trans (h4 c hc1 hc2)⟩, ?_⟩
      show xs.length - (nI i + 1).toNatClampNeg < xs.length - (nI i).toNatClampNeg
      rw [nI_1, nI_clamp (by omega), nI_clamp (by omega)]
      omega
/-- Integers of the cache -/
def wb (G : wv_G) (k : Nat) : Nat := G.2.2.2.2 (100 + (128 + k))
theorem wb_c {k : Nat} (hk : k ≤ 127) : vb_c (128 + k) = nI k := by
  unfold vb_c
  have : Int32.ofNat (128 + k) = nI k + 128 := by
    rw [Nat.add_comm]
    exact (nI_add k 128).symm
  rw [this]
  exact Int32.add_sub_cancel _ _
theorem wl_valueOf (hG : wv_G0 G) {k : Nat} (hk : k ≤ 127) : wv_C G yJ20_valueOf [.int (nI k)] h 0 0 0 (fun r h' => r = .inl (some (va_rf (some (wb G k)))) ∧ h' = h) := by
  refine wk_J20_valueOf hG ?_
  have h1 : ¬ nI k < (-128 : Int32) := fun q => by
    have q := Int32.lt_iff_toInt_lt.mp q
    rw [nI_toInt (by omega)] at q
    have e : (-128 : Int32).toInt = -128 := by decide
    rw [e] at q
    omega
  have h2 : ¬ (127 : Int32) < nI k := nI_nlt (a := k) (b := 127) |> fun _ => fun q => by
    have q := Int32.lt_iff_toInt_lt.mp q
    rw [nI_toInt (by omega)] at q
    have e : (127 : Int32).toInt = 127 := by decide
    rw [e] at q
    omega
  refine ⟨fun q => absurd q h1, fun _ => ⟨fun q => absurd q h2, fun _ => ⟨128 + k, by omega, rfl, ?_, rfl, rfl⟩⟩⟩
  rw [Nat.add_comm 128 k]
  exact nI_add k 128
theorem wl_intValue (hG : wv_G0 G) {k : Nat} (hk : k ≤ 127) : wv_C G yJ20_intValue [va_rf (some (wb G k))] h 0 0 0 (fun r h' => r = .inl (some (.int (nI k))) ∧ h' = h) := by
  refine wk_J20_intValue hG ?_
  exact ⟨128 + k, by omega, rfl, by rw [wb_c hk], rfl⟩
theorem wb_is {k : Nat} (hk : k ≤ 127) : wv_is G h (wb G k) "java/lang/Integer" := Or.inr (Or.inr (Or.inl ⟨128 + k, by omega, rfl, rfl⟩))
theorem wl_eqI (hG : wv_G0 G) {k j : Nat} (hk : k ≤ 127) (hj : j ≤ 127) : wv_C G yJ20_equals [va_rf (some (wb G k)), va_rf (some (wb G j))] h 1 0 0 (fun r h' => r = .inl (some (.int (if k = j then 1 else 0))) ∧ h' = h) := by
  refine wk_J20_equals hG ?_
  refine ⟨⟨_, _, rfl, wb_is hj, Or.inl rfl⟩, fun q => absurd q (by decide), fun _ => ⟨128 + k, by omega, rfl, fun b hb => (by cases hb; exact ⟨_, wb_is hj, Or.inl rfl⟩), wb G j, rfl, wb_is hj, 0, 0, 0, _, wl_intValue hG hj, by omega, Nat.zero_le _, Nat.zero_le _, ?_⟩⟩
  rintro r h' ⟨rfl, rfl⟩
  rw [wb_c hk]
  refine Or.inl ⟨_, rfl, fun q => ⟨rfl, ?_, rfl⟩, fun q => ⟨rfl, ?_, rfl⟩⟩
  · rw [if_neg (fun e => q (by rw [e]))]
  · rw [if_pos ((nI_eq (by omega) (by omega)).mp q)]
end WL3
