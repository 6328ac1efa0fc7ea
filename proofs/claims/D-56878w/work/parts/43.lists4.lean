/-! LISTS: contains (Integers), the last one away, iterators -/
section WL4
variable {G : wv_G} {h : wv_H} {fr kc ks : Nat} {P : wv_R → wv_H → Prop} {a : Nat} {t : wv_T} {md : Int32} {cap : Nat} {xs : List Nat}
theorem wl_neOf {h : wv_H} {b c : Nat} {x : wv_T × wv_O} (h0 : h b = none) (h1 : h c = some x) : c ≠ b := by
  intro q
  rw [q, h0] at h1
  cases h1
theorem wl_up9I : wv_up9 "java/lang/Integer" (⟨"java/lang/Object", "equals", "(Ljava/lang/Object;)Z"⟩ : MethodName) yJ20_equals := ⟨q2074, q2075, by decide +kernel, ⟨_, _, _, q2076⟩, ⟨by decide +kernel, by decide +kernel⟩, q2029, q2032⟩
/-- the first place of a number -/
def wl_ix (j : Nat) : List Nat → Nat → Int32
  | [], _ => -1
  | k :: ks, i => if j = k then nI i else wl_ix j ks (i + 1)
theorem wl_range (hG : wv_G0 G) {arr cap j : Nat} {f : Nat → Option Nat} {ks : List Nat} (hr : wl_raw G h a t md arr ks.length cap f) (hf : ∀ i k, ks[i]? = some k → f i = some (wb G k)) (hks : ∀ k ∈ ks, k ≤ 127) (hj : j ≤ 127) : wv_C G yJ2_indexOfRange [va_rf (some a), va_rf (some (wb G j)), .int 0, .int (nI ks.length)] h 2 0 0 (fun r h' => r = .inl (some (.int (wl_ix j ks 0))) ∧ h' = h) := by
  refine wk_J2_indexOfRange hG ?_
  refine ⟨a, t, [.int md, va_rf (some arr), .int (nI ks.length)], some arr, rfl, hr.1, rfl, fun _ => ?_, fun q => by cases q⟩
  have hb := hr.2.2.1
  have hb2 := hr.2.2.2.1
  refine ⟨fun v w => v.1 = some (wb G j) ∧ v.2.1 = nI ks.length ∧ v.2.2.1 = some arr ∧ w = (h, 0, 0) ∧ ∃ i, i ≤ ks.length ∧ v.2.2.2 = nI i ∧ wl_ix j ks 0 = wl_ix j (ks.drop i) i, fun v w => ks.length - v.2.2.2.toNatClampNeg, ⟨rfl, rfl, rfl, rfl, 0, Nat.zero_le _, rfl, rfl⟩, ?_⟩
  rintro ⟨v1, v2, v3, v4⟩ w ⟨h1, h2, h3, rfl, i, hi, h4, h5⟩
  dsimp only at h1 h2 h3 h4
  subst h1 h2 h3 h4
  refine ⟨fun hle => ⟨?_, rfl⟩, fun hlt => ?_⟩
  · have : ks.length ≤ i := by
      rcases Nat.lt_or_ge i ks.length with h9 | h9
      · exact absurd hle (nI_ge h9 (by omega))
      · exact h9
    rw [h5, List.drop_eq_nil_of_le this]
    rfl
  · have hil : i < ks.length := by
      rcases Nat.lt_or_ge i ks.length with h9 | h9
      · exact h9
      · exact absurd (nI_le h9 (by omega)) hlt
    have hk : ks[i]? = some ks[i] := List.getElem?_eq_getElem hil
    have hk9 : ks[i] ≤ 127 := hks _ (List.getElem_mem hil)
    have h6 : wl_ix j (ks.drop i) i = if j = ks[i] then nI i else wl_ix j (ks.drop (i + 1)) (i + 1) := by
      rw [List.drop_eq_getElem_cons hil]
      rfl
    rcases hr.2.2.2.2 with ⟨k5, -⟩ | ⟨k5, k6, t', k7, k8⟩
    · omega
    refine ⟨arr, t', cap, f, rfl, k8, vp_in_nI (Nat.lt_of_lt_of_le hil hb) (by omega), ?_⟩
    rw [nI_clamp (by omega), hf i _ hk]
    refine ⟨wb G j, _, yJ20_equals, rfl, wb_is hj, wl_up9I, 1, 0, 0, _, wl_eqI hG hj hk9, by omega, Nat.zero_le _, Nat.zero_le _, ?_⟩
    rintro r h' ⟨rfl, rfl⟩
    refine Or.inl ⟨_, rfl, fun q => ⟨⟨rfl, rfl, rfl, rfl, i + 1, hil, nI_1 i, ?_⟩, ?_⟩, fun q => ⟨?_, rfl⟩⟩
    · rw [h5, h6, if_neg]
      intro e
      rw [if_pos e] at q
      exact absurd q (by decide)
    · show ks.length - (nI i + 1).toNatClampNeg < ks.length - (nI i).toNatClampNeg
      rw [nI_1, nI_clamp (by omega), nI_clamp (by omega)]
      omega
    · rw [h5, h6]
      by_cases e : j = ks[i]
      · rw [if_pos e]
      · rw [if_neg e] at q
        exact absurd rfl q
theorem wl_ix_in {j : Nat} : ∀ (ks : List Nat) (i : Nat), i + ks.length < 2 ^ 31 → (wl_ix j ks i < 0 ↔ ¬ j ∈ ks)
  | [], i, h => by simp [wl_ix]
  | k :: ks, i, h => by
    unfold wl_ix
    simp only [List.length_cons] at h
    by_cases e : j = k
    · rw [if_pos e]
      constructor
      · intro q
        exact absurd q (nI_pos (by omega))
      · intro q
        exact absurd (by rw [e]; exact List.mem_cons_self) q
    · rw [if_neg e, wl_ix_in ks (i + 1) (by omega)]
      simp [e]
theorem wl_contains (hG : wv_G0 G) {j : Nat} {ks : List Nat} (ha : h a = some (t, wo_L md cap (ks.map (wb G)))) (hks : ∀ k ∈ ks, k ≤ 127) (hj : j ≤ 127) : wv_C G yJ2_contains [va_rf (some a), va_rf (some (wb G j))] h 4 0 0 (fun r h' => r = .inl (some (.int (if j ∈ ks then 1 else 0))) ∧ h' = h) := by
  refine wv_C.list hG (by decide) (Or.inl rfl) q2020 ha fun arr f ht hw => ?_
  have hr := wl_opn (md := md) ht hw
  rw [List.length_map] at hr
  have hb : ks.length ≤ 100000 := by have h1 := hw.1; have h2 := hw.2.1; rw [List.length_map] at h1; omega
  have hf : ∀ i k, ks[i]? = some k → f i = some (wb G k) := fun i k hk => hw.2.2.2.2 i _ (by rw [List.getElem?_map, hk]; rfl)
  refine wk_J2_contains hG ?_
  have hix : wv_C G yJ2_indexOf [va_rf (some a), va_rf (some (wb G j))] (wv_opn G h a t md cap (List.map (wb G) ks).length arr f) 3 0 0 (fun r h' => r = .inl (some (.int (wl_ix j ks 0))) ∧ h' = wv_opn G h a t md cap (List.map (wb G) ks).length arr f) := by
    refine wk_J2_indexOf hG ?_
    rw [List.length_map]
    refine ⟨a, t, [.int md, va_rf (some arr), .int (nI ks.length)], nI ks.length, rfl, hr.1, rfl, a, rfl, wl_isL hr, 2, 0, 0, _, wl_range hG hr hf hks hj, by omega, Nat.zero_le _, Nat.zero_le _, ?_⟩
    rintro r h' ⟨rfl, rfl⟩
    exact Or.inl ⟨_, rfl, rfl, rfl⟩
  refine ⟨a, rfl, ?_, 3, 0, 0, _, hix, by omega, Nat.zero_le _, Nat.zero_le _, ?_⟩
  · have := wl_isL hr
    rw [List.length_map]
    exact this
  rintro r h' ⟨rfl, rfl⟩
  have h9 := wl_ix_in (j := j) ks 0 (by omega)
  refine Or.inl ⟨_, rfl, fun q => ⟨rfl, h, ⟨?_, rfl⟩, wl_same ha ht hw⟩, fun q => ⟨rfl, h, ⟨?_, rfl⟩, wl_same ha ht hw⟩⟩
  · rw [if_neg (h9.mp q)]
  · rw [if_pos]
    by_cases e : j ∈ ks
    · exact e
    · exact absurd (h9.mpr e) q
/-- the last one away -/
theorem wl_fast (hG : wv_G0 G) {arr n cap : Nat} {f : Nat → Option Nat} (hr : wl_raw G h a t md arr (n + 1) cap f) : wv_C G yJ2_fastRemove [va_rf (some a), va_rf (some arr), .int (nI n)] h 0 0 0 (fun r h' => r = .inl none ∧ ∃ g, wl_raw G h' a t (md + 1) arr n cap g ∧ (∀ i, i < n → g i = f i) ∧ ∀ c, c ≠ a → c ≠ arr → h' c = h c) := by
  refine wk_J2_fastRemove hG ?_
  obtain ⟨h1, h2, h3, h4, ⟨h5, -⟩ | ⟨h5, h6, t', h7, h8⟩⟩ := hr
  · omega
  refine ⟨a, t, [.int md, va_rf (some arr), .int (nI (n + 1))], md, rfl, h1, rfl, a, t, [.int md, va_rf (some arr), .int (nI (n + 1))], rfl, h1, h2, by simp, ?_⟩
  refine ⟨a, t, [.int (md + 1), va_rf (some arr), .int (nI (n + 1))], nI (n + 1), rfl, wv_up_self, rfl, fun _ => ?_, fun q => absurd (by rw [nI_pred]; exact nI_le (Nat.le_refl _) (by omega)) q⟩
  rw [nI_pred]
  refine ⟨a, t, [.int (md + 1), va_rf (some arr), .int (nI (n + 1))], rfl, wv_up_self, h2, by simp, ?_⟩
  refine ⟨arr, t', cap, f, rfl, ((wv_up_ne h6).trans (wv_up_ne h6)).trans h8, h7, vp_in_nI (by omega) (by omega), fun b hb => (by cases hb), ?_⟩
  rw [nI_clamp (by omega)]
  refine ⟨rfl, va_up f n none, ⟨(wv_up_ne (Ne.symm h6)).trans wv_up_self, h2, by omega, h4, Or.inr ⟨h5, h6, t', h7, wv_up_self⟩⟩, fun i hi => by simp [va_up, Nat.ne_of_lt hi], fun c hc1 hc2 => (wv_up_ne hc2).trans ((wv_up_ne hc1).trans (wv_up_ne hc1))⟩
theorem wl_removeLast (hG : wv_G0 G) {x : Nat} (ha : h a = some (t, wo_L md cap (xs ++ [x]))) : wv_C G yJ2_remove [va_rf (some a), .int (nI xs.length)] h 2 0 0 (fun r h' => r = .inl (some (va_rf (some x))) ∧ h' = wv_up h a (t, wo_L (md + 1) cap xs)) := by
  refine wv_C.list hG (by decide) (Or.inl rfl) q2470 ha fun arr f ht hw => ?_
  have hr := wl_opn (md := md) ht hw
  have hl : (xs ++ [x]).length = xs.length + 1 := by simp
  rw [hl] at hr ⊢
  have hc := hw.1
  have hc2 := hw.2.1
  rw [hl] at hc
  refine wk_J2_remove hG ?_
  refine ⟨a, t, [.int md, va_rf (some arr), .int (nI (xs.length + 1))], nI (xs.length + 1), rfl, hr.1, rfl, 1, 0, 0, _, wl_ck hG (Nat.lt_succ_self _) (by omega), by omega, Nat.zero_le _, Nat.zero_le _, ?_⟩
  rintro r h' ⟨rfl, rfl⟩
  rcases hr.2.2.2.2 with ⟨k5, -⟩ | ⟨k5, k6, t', k7, k8⟩
  · omega
  refine Or.inl ⟨_, rfl, a, t, [.int md, va_rf (some arr), .int (nI (xs.length + 1))], some arr, rfl, hr.1, rfl, arr, t', cap, f, rfl, k8, vp_in_nI (by omega) (by omega), ?_⟩
  rw [nI_clamp (by omega)]
  refine ⟨a, rfl, wl_isL hr, 0, 0, 0, _, wl_fast hG hr, by omega, Nat.zero_le _, Nat.zero_le _, ?_⟩
  rintro r h' ⟨rfl, g, p1, p2, p3⟩
  have hx : f xs.length = some x := hw.2.2.2.2 xs.length x (by simp)
  refine Or.inl ⟨rfl, _, ⟨by rw [hx], rfl⟩, wl_close p1 rfl (fun i y hy => ?_) wv_up_self (fun c y hc hy => ?_)⟩
  · have hi : i < xs.length := (List.getElem?_eq_some_iff.mp hy).1
    rw [p2 i hi]
    exact hw.2.2.2.2 i y (by rw [List.getElem?_append_left hi]; exact hy)
  · have hy := (wv_up_ne hc).symm.trans hy
    obtain ⟨o1, o2⟩ := wl_old (t := t) (md := md) hw hc hy
    rw [hl] at o1
    exact ⟨(p3 c hc (o2 k5)).trans o1, o2⟩
/-- iterators: b walks over a, at the place i -/
def wl_it (md : Int32) (a : Nat) (i : Nat) (l : Int32) : wv_O := wo_o ciJ24 [.int (nI i), .int l, .int md, va_rf (some a)]
theorem wl_itInit (hG : wv_G0 G) {arr n b : Nat} {tb : wv_T} {f : Nat → Option Nat} (hr : wl_raw G h a t md arr n cap f) (hb : h b = some (tb, wo_o ciJ24 [.int 0, .int 0, .int 0, va_rf none])) (htb : tb.1 ≠ 0) : wv_C G yJ24_init [va_rf (some b), va_rf (some a)] h 1 0 0 (fun r h' => r = .inl none ∧ h' b = some (tb, wl_it md a 0 (-1)) ∧ ∀ c, c ≠ b → h' c = h c) := by
  have hab : a ≠ b := fun q => by have h1 := hr.1; rw [q, hb] at h1; cases h1
  refine wk_J24_init hG ?_
  refine ⟨b, tb, [.int 0, .int 0, .int 0, va_rf none], rfl, hb, htb, by simp, ⟨b, rfl⟩, Nat.le_refl _, b, tb, [.int 0, .int 0, .int 0, va_rf (some a)], rfl, wv_up_self, htb, by simp, b, tb, [.int 0, .int (-1), .int 0, va_rf (some a)], some a, rfl, wv_up_self, rfl, a, t, [.int md, va_rf (some arr), .int (nI n)], md, rfl, ((wv_up_ne hab).trans (wv_up_ne hab)).trans hr.1, rfl, b, tb, [.int 0, .int (-1), .int 0, va_rf (some a)], rfl, wv_up_self, htb, by simp, rfl, wv_up_self, fun c hc => (wv_up_ne hc).trans ((wv_up_ne hc).trans (wv_up_ne hc))⟩
theorem wl_iterator (hG : wv_G0 G) (ha : h a = some (t, wo_L md cap xs)) : wv_C G yJ2_iterator [va_rf (some a)] h 2 1 4 (fun r h' => ∃ b, r = .inl (some (va_rf (some b))) ∧ h b = none ∧ h' = wv_up h b ((1, 0, 0, 0), wl_it md a 0 (-1))) := by
  refine wv_C.list hG (by decide) (Or.inl rfl) q2177 ha fun arr f ht hw => ?_
  have hr := wl_opn (md := md) ht hw
  refine wk_J2_iterator hG ?_
  refine ⟨Nat.le_refl _, Nat.le_refl _, fun b hb0 hb1 => ⟨(1, 0, 0, 0), ?_⟩⟩
  have hb0 : wv_opn G h a t md cap xs.length arr f b = none := hb0
  have hab : a ≠ b := wl_neOf hb0 hr.1
  have hr2 : wl_raw G (wv_up (wv_opn G h a t md cap xs.length arr f) b ((1, 0, 0, 0), wo_o ciJ24 [.int 0, .int 0, .int 0, va_rf none])) a t md arr xs.length cap f := by
    refine ⟨(wv_up_ne hab).trans hr.1, hr.2.1, hr.2.2.1, hr.2.2.2.1, ?_⟩
    rcases hr.2.2.2.2 with k | ⟨k5, k6, t', k7, k8⟩
    · exact Or.inl k
    · exact Or.inr ⟨k5, k6, t', k7, (wv_up_ne (wl_neOf hb0 k8)).trans k8⟩
  refine ⟨b, rfl, 1, 0, 0, _, wl_itInit hG hr2 wv_up_self (by decide), by omega, Nat.zero_le _, Nat.zero_le _, ?_⟩
  rintro r h' ⟨rfl, p1, p2⟩
  refine Or.inl ⟨rfl, wv_up h b ((1, 0, 0, 0), wl_it md a 0 (-1)), ⟨b, rfl, ?_, rfl⟩, ?_⟩
  · cases hq : h b with
    | none => rfl
    | some x =>
      have := (wl_old (t := t) (md := md) hw (Ne.symm hab) hq).1
      rw [hb0] at this
      cases this
  · have hr3 : wl_raw G h' a t md arr xs.length cap f := by
      refine ⟨(p2 a hab).trans hr2.1, hr2.2.1, hr2.2.2.1, hr2.2.2.2.1, ?_⟩
      rcases hr2.2.2.2.2 with k | ⟨k5, k6, t', k7, k8⟩
      · exact Or.inl k
      · refine Or.inr ⟨k5, k6, t', k7, (p2 arr (fun q => ?_)).trans k8⟩
        rw [q, wv_up_self] at k8
        cases k8
    refine wl_close hr3 rfl hw.2.2.2.2 ((wv_up_ne hab).trans ha) (fun c x hc hx => ?_)
    by_cases hcb : c = b
    · subst hcb
      rw [wv_up_self] at hx
      refine ⟨p1.trans hx, fun hz q => ?_⟩
      rcases hr.2.2.2.2 with ⟨k, -⟩ | ⟨k5, k6, t', k7, k8⟩
      · exact hz k
      · exact wl_neOf hb0 k8 q.symm
    · have hx := (wv_up_ne hcb).symm.trans hx
      obtain ⟨o1, o2⟩ := wl_old (t := t) (md := md) hw hc hx
      exact ⟨((p2 c hcb).trans (wv_up_ne hcb)).trans o1, o2⟩
theorem wl_hasNext (hG : wv_G0 G) {b i : Nat} {tb : wv_T} {l : Int32} (ha : h a = some (t, wo_L md cap xs)) (hb : h b = some (tb, wl_it md a i l)) (hi : i ≤ xs.length) : wv_C G yJ24_hasNext [va_rf (some b)] h 0 0 0 (fun r h' => r = .inl (some (.int (if i = xs.length then 0 else 1))) ∧ h' = h) := by
  refine wv_C.list hG (by decide) (Or.inl rfl) q2206 ha fun arr f ht hw => ?_
  have hr := wl_opn (md := md) ht hw
  have hl : xs.length ≤ 100000 := Nat.le_trans hw.1 hw.2.1
  have hba : b ≠ a := fun q => by rw [q, ha] at hb; cases hb
  have hb2 := (wl_old (t := t) (md := md) hw hba hb).1
  refine wk_J24_hasNext hG ?_
  refine ⟨b, tb, [.int (nI i), .int l, .int md, va_rf (some a)], nI i, rfl, hb2, rfl, b, tb, [.int (nI i), .int l, .int md, va_rf (some a)], some a, rfl, hb2, rfl, a, t, [.int md, va_rf (some arr), .int (nI xs.length)], nI xs.length, rfl, hr.1, rfl, fun q => ⟨rfl, h, ⟨?_, rfl⟩, wl_same ha ht hw⟩, fun q => ⟨rfl, h, ⟨?_, rfl⟩, wl_same ha ht hw⟩⟩
  · rw [if_pos ((nI_eq (by omega) (by omega)).mp q)]
  · rw [if_neg (fun e => q (by rw [e]))]
theorem wl_itCk (hG : wv_G0 G) {arr n b i : Nat} {tb : wv_T} {l : Int32} {f : Nat → Option Nat} (hr : wl_raw G h a t md arr n cap f) (hb : h b = some (tb, wl_it md a i l)) : wv_C G yJ24_checkForComodification [va_rf (some b)] h 0 0 0 (fun r h' => r = .inl none ∧ h' = h) := by
  refine wk_J24_checkForComodification hG ?_
  exact ⟨b, tb, [.int (nI i), .int l, .int md, va_rf (some a)], some a, rfl, hb, rfl, a, t, [.int md, va_rf (some arr), .int (nI n)], md, rfl, hr.1, rfl, b, tb, [.int (nI i), .int l, .int md, va_rf (some a)], md, rfl, hb, rfl, fun _ => ⟨rfl, rfl⟩, fun q => absurd rfl q⟩
theorem wl_next (hG : wv_G0 G) {b i x : Nat} {tb : wv_T} {l : Int32} (ha : h a = some (t, wo_L md cap xs)) (hb : h b = some (tb, wl_it md a i l)) (htb : tb.1 ≠ 0) (hx : xs[i]? = some x) : wv_C G yJ24_next [va_rf (some b)] h 1 0 0 (fun r h' => r = .inl (some (va_rf (some x))) ∧ h' = wv_up h b (tb, wl_it md a (i + 1) (nI i))) := by
  refine wv_C.list hG (by decide) (Or.inl rfl) q2215 ha fun arr f ht hw => ?_
  have hr := wl_opn (md := md) ht hw
  have hi : i < xs.length := (List.getElem?_eq_some_iff.mp hx).1
  have hl : xs.length ≤ 100000 := Nat.le_trans hw.1 hw.2.1
  have hl1 := hw.1
  have hl2 := hw.2.1
  have hba : b ≠ a := fun q => by rw [q, ha] at hb; cases hb
  have hb2 := wl_old (t := t) (md := md) hw hba hb
  rcases hr.2.2.2.2 with ⟨k5, -⟩ | ⟨k5, k6, t', k7, k8⟩
  · omega
  have hbr : b ≠ arr := hb2.2 k5
  refine wk_J24_next hG ?_
  refine ⟨b, rfl, Or.inl ⟨tb, _, _, _, hb2.1, ccJ24, rfl⟩, 0, 0, 0, _, wl_itCk hG hr hb2.1, by omega, Nat.zero_le _, Nat.zero_le _, ?_⟩
  rintro r h' ⟨rfl, rfl⟩
  refine Or.inl ⟨rfl, b, tb, [.int (nI i), .int l, .int md, va_rf (some a)], nI i, rfl, hb2.1, rfl, b, tb, [.int (nI i), .int l, .int md, va_rf (some a)], some a, rfl, hb2.1, rfl, a, t, [.int md, va_rf (some arr), .int (nI xs.length)], nI xs.length, rfl, hr.1, rfl, fun _ => ?_, fun q => absurd (nI_lt hi (by omega)) q⟩
  refine ⟨b, tb, [.int (nI i), .int l, .int md, va_rf (some a)], some a, rfl, hb2.1, rfl, a, t, [.int md, va_rf (some arr), .int (nI xs.length)], some arr, rfl, hr.1, rfl, Or.inl ⟨arr, t', cap, f, rfl, k8, fun _ => ?_, fun q => absurd (nI_lt (by omega) (by omega)) q⟩⟩
  refine ⟨b, tb, [.int (nI i), .int l, .int md, va_rf (some a)], rfl, hb2.1, htb, by simp, b, tb, [.int (nI i + 1), .int l, .int md, va_rf (some a)], rfl, wv_up_self, htb, by simp, arr, t', cap, f, rfl, ((wv_up_ne (Ne.symm hbr)).trans (wv_up_ne (Ne.symm hbr))).trans k8, vp_in_nI (by omega) (by omega), ?_⟩
  rw [nI_clamp (by omega), hw.2.2.2.2 i x hx, nI_1]
  refine ⟨_, ⟨rfl, rfl⟩, ?_⟩
  have hab : a ≠ b := Ne.symm hba
  refine wl_close (t' := t) (md' := md) (arr' := arr) (n' := xs.length) (cap' := cap) (f' := f) (xs' := xs) ⟨((wv_up_ne hab).trans (wv_up_ne hab)).trans hr.1, ht, hw.1, hw.2.1, Or.inr ⟨k5, k6, t', k7, ((wv_up_ne (Ne.symm hbr)).trans (wv_up_ne (Ne.symm hbr))).trans k8⟩⟩ rfl hw.2.2.2.2 ((wv_up_ne hab).trans ha) (fun c y hc hy => ?_)
  by_cases hcb : c = b
  · subst hcb
    rw [wv_up_self] at hy
    exact ⟨wv_up_self.trans hy, fun _ => hbr⟩
  · have hy := (wv_up_ne hcb).symm.trans hy
    obtain ⟨o1, o2⟩ := wl_old (t := t) (md := md) hw hc hy
    exact ⟨((wv_up_ne hcb).trans (wv_up_ne hcb)).trans o1, o2⟩
end WL4
