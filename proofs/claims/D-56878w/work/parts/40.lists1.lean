/-! LISTS: contracts of java.util.ArrayList over worlds in which a list is one object -/
section WL1
variable {G : wv_G} {h : wv_H} {fr kc ks : Nat} {P : wv_R → wv_H → Prop} {a : Nat} {t : wv_T} {md : Int32} {cap : Nat} {xs : List Nat}
theorem wv_C.list (hG : wv_G0 G) {y : MethodName} {av : List Value} {cw : Cond} {b : ByteArray} {mL : Nat} {ret : Option FieldType} (hmL : mL ≤ 40) (hcw : cw = .code y b mL ret ∨ ∃ hh, cw = .codeWith y b mL ret hh) (hin : cw ∈ lw_all) (ha : h a = some (t, wo_L md cap xs))
    (hC : ∀ (arr : Nat) (f : Nat → Option Nat), t.1 ≠ 0 → wv_arr G h a cap arr xs f → wv_C G y av (wv_opn G h a t md cap xs.length arr f) fr kc ks (fun r h2 => ∃ h', P r h' ∧ wv_clo G h2 h' a)) : wv_C G y av h fr kc ks P := by
  refine wv_C.via hmL hcw hin (P1 := fun _ r h2 => ∃ h', P r h' ∧ wv_clo G h2 h' a) (fun h1 => ∃ (arr : Nat) (f : Nat → Option Nat), t.1 ≠ 0 ∧ wv_arr G h a cap arr xs f ∧ h1 = wv_opn G h a t md cap xs.length arr f) ?_ ?_ ?_
  · intro H hR
    have ht : t.1 ≠ 0 := by
      obtain ⟨-, -, own, -, h4, -⟩ := hR
      exact (h4 a t _ ha).1
    obtain ⟨arr, f, h1, h2⟩ := hR.opn ha
    exact ⟨_, ⟨arr, f, ht, h1, rfl⟩, h2⟩
  · rintro h1 ⟨arr, f, ht, hw, rfl⟩
    exact hC arr f ht hw
  · rintro h1 r h2 H - ⟨h', k1, k2⟩ hR
    exact ⟨h', k1, wv_Rep.close hG hR k2⟩
/-- a list taken apart: its cell, its array -/
def wl_raw (G : wv_G) (h : wv_H) (a : Nat) (t : wv_T) (md : Int32) (arr n cap : Nat) (f : Nat → Option Nat) : Prop :=
  h a = some (t, wo_o ciJ2 [.int md, va_rf (some arr), .int (nI n)]) ∧ t.1 ≠ 0 ∧ n ≤ cap ∧ cap ≤ 100000 ∧ ((cap = 0 ∧ arr = G.2.2.2.2 0) ∨ (cap ≠ 0 ∧ arr ≠ a ∧ ∃ t' : wv_T, t'.1 ≠ 0 ∧ h arr = some (t', wo_q (wv_A G 5) cap f)))
theorem wl_opn {arr : Nat} {f : Nat → Option Nat} (ht : t.1 ≠ 0) (hw : wv_arr G h a cap arr xs f) : wl_raw G (wv_opn G h a t md cap xs.length arr f) a t md arr xs.length cap f := by
  obtain ⟨h1, h2, h3, h4, h5⟩ := hw
  by_cases hz : cap = 0
  · refine ⟨?_, ht, h1, h2, Or.inl ⟨hz, h3 hz⟩⟩
    rw [wv_opn, if_pos hz, wv_up_self]
  · obtain ⟨k1, k2, k3⟩ := h4 hz
    refine ⟨?_, ht, h1, h2, Or.inr ⟨hz, k2, t, ht, ?_⟩⟩
    · rw [wv_opn, if_neg hz, wv_up_ne (Ne.symm k2), wv_up_self]
    · rw [wv_opn, if_neg hz, wv_up_self]
theorem wl_old {arr : Nat} {f : Nat → Option Nat} (hw : wv_arr G h a cap arr xs f) {b : Nat} {x : wv_T × wv_O} (hb : b ≠ a) (hx : h b = some x) : wv_opn G h a t md cap xs.length arr f b = some x ∧ (cap ≠ 0 → b ≠ arr) := by
  obtain ⟨h1, h2, h3, h4, h5⟩ := hw
  by_cases hz : cap = 0
  · exact ⟨by rw [wv_opn, if_pos hz, wv_up_ne hb]; exact hx, fun h => absurd hz h⟩
  · obtain ⟨k1, k2, k3⟩ := h4 hz
    have hne : b ≠ arr := fun q => by rw [q, k1] at hx; cases hx
    exact ⟨by rw [wv_opn, if_neg hz, wv_up_ne hne, wv_up_ne hb]; exact hx, fun _ => hne⟩
/-- put together again -/
theorem wl_close {h2 h' : wv_H} {t' : wv_T} {md' : Int32} {arr' n' cap' : Nat} {f' : Nat → Option Nat} {xs' : List Nat} (hr : wl_raw G h2 a t' md' arr' n' cap' f') (hn : n' = xs'.length) (hf : ∀ (i x : Nat), xs'[i]? = some x → f' i = some x) (hh : h' a = some (t', wo_L md' cap' xs')) (ho : ∀ b x, b ≠ a → h' b = some x → h2 b = some x ∧ (cap' ≠ 0 → b ≠ arr')) : wv_clo G h2 h' a := by
  obtain ⟨h1, k2, k3, k4, k5⟩ := hr
  subst hn
  refine ⟨t', md', cap', arr', xs', h1, k2, k3, k4, hh, fun hz => ?_, fun hz => ?_, ho⟩
  · rcases k5 with ⟨-, k5⟩ | ⟨k5, -⟩
    · exact k5
    · exact absurd hz k5
  · rcases k5 with ⟨k5, -⟩ | ⟨-, k6, t9, k7, k8⟩
    · exact absurd k5 hz
    · exact ⟨k6, t9, f', k8, k7, hf⟩
theorem wl_same {arr : Nat} {f : Nat → Option Nat} (ha : h a = some (t, wo_L md cap xs)) (ht : t.1 ≠ 0) (hw : wv_arr G h a cap arr xs f) : wv_clo G (wv_opn G h a t md cap xs.length arr f) h a :=
  wl_close (wl_opn ht hw) rfl hw.2.2.2.2 ha (fun _ _ hb hx => wl_old hw hb hx)
theorem wl_isL {arr n cap : Nat} {f : Nat → Option Nat} (hr : wl_raw G h a t md arr n cap f) : wv_is G h a "java/util/ArrayList" := Or.inl ⟨t, _, _, _, hr.1, ccJ2, rfl⟩
theorem wl_isC (ha : h a = some (t, wo_L md cap xs)) : wv_is G h a "java/util/ArrayList" := Or.inr (Or.inl ⟨t, _, ha, rfl⟩)
/-- a contract that leaves all as it is -/
theorem wl_ck0 (hG : wv_G0 G) {i n : Nat} {x : Option Nat} (hi : i < n) (hn : n < 2 ^ 31) : wv_C G yJ10_checkIndex [.int (nI i), .int (nI n), va_rf x] h 0 0 0 (fun r h' => r = .inl (some (.int (nI i))) ∧ h' = h) := by
  refine wk_J10_checkIndex hG ?_
  refine ⟨fun h1 => absurd h1 (nI_pos (by omega)), fun _ => ⟨fun _ => ⟨rfl, rfl⟩, fun h1 => absurd (nI_lt hi hn) h1⟩⟩
theorem wl_ck (hG : wv_G0 G) {i n : Nat} (hi : i < n) (hn : n < 2 ^ 31) : wv_C G yJ9_checkIndex [.int (nI i), .int (nI n)] h 1 0 0 (fun r h' => r = .inl (some (.int (nI i))) ∧ h' = h) := by
  refine wk_J9_checkIndex hG ?_
  refine ⟨0, 0, 0, _, wl_ck0 hG hi hn, by omega, Nat.zero_le _, Nat.zero_le _, ?_⟩
  rintro r h' ⟨rfl, rfl⟩
  exact Or.inl ⟨_, rfl, rfl, rfl⟩
theorem wl_size (hG : wv_G0 G) (ha : h a = some (t, wo_L md cap xs)) : wv_C G yJ2_size [va_rf (some a)] h 0 0 0 (fun r h' => r = .inl (some (.int (nI xs.length))) ∧ h' = h) := by
  refine wv_C.list hG (by decide) (Or.inl rfl) q272 ha fun arr f ht hw => ?_
  refine wk_J2_size hG ?_
  exact ⟨a, t, _, _, rfl, (wl_opn ht hw).1, rfl, h, ⟨rfl, rfl⟩, wl_same ha ht hw⟩
theorem wl_isEmpty (hG : wv_G0 G) (ha : h a = some (t, wo_L md cap xs)) : wv_C G yJ2_isEmpty [va_rf (some a)] h 0 0 0 (fun r h' => r = .inl (some (.int (if xs.length = 0 then 1 else 0))) ∧ h' = h) := by
  refine wv_C.list hG (by decide) (Or.inl rfl) q301 ha fun arr f ht hw => ?_
  refine wk_J2_isEmpty hG ?_
  have hb : xs.length < 2 ^ 31 := by have := hw.1; have := hw.2.1; omega
  refine ⟨a, t, _, _, rfl, (wl_opn ht hw).1, rfl, fun hz => ⟨rfl, h, ⟨?_, rfl⟩, wl_same ha ht hw⟩, fun hz => ⟨rfl, h, ⟨?_, rfl⟩, wl_same ha ht hw⟩⟩
  · rw [if_neg]
    intro h0
    rw [h0] at hz
    exact hz rfl
  · rw [if_pos]
    by_cases h0 : xs.length = 0
    · exact h0
    · exact absurd hz (nI_ne0 (by omega) hb)
theorem wl_elem (hG : wv_G0 G) {arr n : Nat} {f : Nat → Option Nat} {i : Nat} (hr : wl_raw G h a t md arr n cap f) (hi : i < cap) : wv_C G yJ2_elementData [va_rf (some a), .int (nI i)] h 0 0 0 (fun r h' => r = .inl (some (va_rf (f i))) ∧ h' = h) := by
  refine wk_J2_elementData hG ?_
  obtain ⟨h1, h2, h3, h4, ⟨h5, -⟩ | ⟨-, h6, t', h7, h8⟩⟩ := hr
  · omega
  · refine ⟨a, t, _, _, rfl, h1, rfl, arr, t', cap, f, rfl, h8, vp_in_nI hi (by omega), ?_⟩
    rw [nI_clamp (by omega)]
    exact ⟨rfl, rfl⟩
theorem wl_get (hG : wv_G0 G) (ha : h a = some (t, wo_L md cap xs)) {i x : Nat} (hx : xs[i]? = some x) : wv_C G yJ2_get [va_rf (some a), .int (nI i)] h 2 0 0 (fun r h' => r = .inl (some (va_rf (some x))) ∧ h' = h) := by
  refine wv_C.list hG (by decide) (Or.inl rfl) q276 ha fun arr f ht hw => ?_
  refine wk_J2_get hG ?_
  have hi : i < xs.length := (List.getElem?_eq_some_iff.mp hx).1
  have hb : xs.length ≤ 100000 := Nat.le_trans hw.1 hw.2.1
  have hr := wl_opn (md := md) ht hw
  refine ⟨a, t, _, _, rfl, hr.1, rfl, 1, 0, 0, _, wl_ck hG hi (by omega), by omega, Nat.zero_le _, Nat.zero_le _, ?_⟩
  rintro r h' ⟨rfl, rfl⟩
  refine Or.inl ⟨_, rfl, a, rfl, wl_isL hr, 0, 0, 0, _, wl_elem hG hr (Nat.lt_of_lt_of_le hi hw.1), by omega, Nat.zero_le _, Nat.zero_le _, ?_⟩
  rintro r h' ⟨rfl, rfl⟩
  refine Or.inl ⟨_, rfl, h, ⟨by rw [hw.2.2.2.2 i x hx], rfl⟩, wl_same ha ht hw⟩
end WL1
