/-! LISTS: growing -/
section WL2
variable {G : wv_G} {h : wv_H} {fr kc ks : Nat} {P : wv_R → wv_H → Prop} {a : Nat} {t : wv_T} {md : Int32} {cap : Nat} {xs : List Nat}
def wl_nc (cap : Nat) : Nat := if cap = 0 then 10 else cap + max 1 (cap / 2)
/-- may lie in an array of Objects -/
def wl_el (G : wv_G) (h : wv_H) (x : Nat) : Prop := ∃ C, wv_is G h x C ∧ Cond.castable C "java/lang/Object" ∈ lw_tbl
theorem wv_is.up {h : wv_H} {x b : Nat} {C : String} {o : wv_T × wv_O} (hx : wv_is G h x C) (hb : b ≠ x) : wv_is G (wv_up h b o) x C := by
  rcases hx with ⟨t, ci, fs, r, h1, h2, h3⟩ | ⟨t, l, h1, h2⟩ | h1
  · exact Or.inl ⟨t, ci, fs, r, by rw [wv_up_ne (Ne.symm hb)]; exact h1, h2, h3⟩
  · exact Or.inr (Or.inl ⟨t, l, by rw [wv_up_ne (Ne.symm hb)]; exact h1, h2⟩)
  · exact Or.inr (Or.inr h1)
theorem wv_is.upo {h : wv_H} {x b ci : Nat} {C : String} {t t' : wv_T} {fs fs' : List Value} (hx : wv_is G h x C) (hb : h b = some (t, wo_o ci fs)) : wv_is G (wv_up h b (t', wo_o ci fs')) x C := by
  by_cases hbx : b = x
  · subst hbx
    rcases hx with ⟨t9, ci9, fs9, r, h1, h2, h3⟩ | ⟨t9, l, h1, h2⟩ | h1
    · rw [hb] at h1
      cases h1
      exact Or.inl ⟨t', _, fs', r, wv_up_self, h2, h3⟩
    · rw [hb] at h1
      cases h1
    · exact Or.inr (Or.inr h1)
  · exact hx.up hbx
theorem wl_isO {arr : Nat} {f : Nat → Option Nat} (hw : wv_arr G h a cap arr xs f) (ha : h a = some (t, wo_L md cap xs)) {x : Nat} {C : String} (hx : wv_is G h x C) : wv_is G (wv_opn G h a t md cap xs.length arr f) x C := by
  rcases hx with ⟨t9, ci9, fs9, r, h1, h2, h3⟩ | ⟨t9, l, h1, h2⟩ | h1
  · refine Or.inl ⟨t9, ci9, fs9, r, (wl_old hw (fun q => ?_) h1).1, h2, h3⟩
    rw [q, ha] at h1
    cases h1
  · by_cases hq : x = a
    · subst hq
      subst h2
      by_cases hz : cap = 0
      · refine Or.inl ⟨t, ciJ2, [.int md, va_rf (some arr), .int (nI xs.length)], _, ?_, ccJ2, rfl⟩
        rw [wv_opn, if_pos hz, wv_up_self]
      · refine Or.inl ⟨t, ciJ2, [.int md, va_rf (some arr), .int (nI xs.length)], _, ?_, ccJ2, rfl⟩
        rw [wv_opn, if_neg hz, wv_up_ne (Ne.symm (hw.2.2.2.1 hz).2.1), wv_up_self]
    · exact Or.inr (Or.inl ⟨t9, l, (wl_old hw hq h1).1, h2⟩)
  · exact Or.inr (Or.inr h1)
theorem wl_shr1 {n : Nat} (h : n < 2 ^ 31) : nI n >>> ((1 : Int32) &&& 31) = nI (n / 2) := pk_shrN h ((1 : Int32) &&& 31) 1 (by decide)
theorem wl_newLen (hG : wv_G0 G) {o d q : Nat} (ho : o ≤ 100000) (hd : d ≤ 100000) (hd1 : 1 ≤ d) (hq : q ≤ 100000) : wv_C G yJ12_newLength [.int (nI o), .int (nI d), .int (nI q)] h 1 0 0 (fun r h' => r = .inl (some (.int (nI (o + max d q)))) ∧ h' = h) := by
  refine wk_J12_newLength hG ?_
  have e1 : (if nI d < nI q then nI q else nI d) = nI (max d q) := by
    by_cases hlt : d < q
    · rw [if_pos (nI_lt hlt (by omega)), Nat.max_eq_right (by omega)]
    · rw [if_neg (nI_nlt (by omega) (by omega)), Nat.max_eq_left (by omega)]
  have hm : max d q ≤ 100000 := Nat.max_le.mpr ⟨hd, hq⟩
  have hm1 : 1 ≤ max d q := Nat.le_trans hd1 (Nat.le_max_left _ _)
  unfold vc_J12_newLength_0
  rw [e1, nI_add]
  refine ⟨Nat.le_refl _, fun h1 => absurd h1 (nI_nle (by omega) (by omega)), fun _ => ⟨fun h1 => absurd h1 ?_, fun _ => ⟨rfl, rfl⟩⟩⟩
  exact nI_nlt (a := 2147483639) (b := o + max d q) (by omega) (by omega)
/-- Arrays.copyOf: a longer array -/
theorem wl_copy3 (hG : wv_G0 G) {arr n N : Nat} {f : Nat → Option Nat} {t : wv_T} (ha : h arr = some (t, wo_q (wv_A G 5) n f)) (hn : n ≤ N) (hN : N ≤ 100000) (hel : ∀ i y, i < n → f i = some y → wl_el G h y) : wv_C G yJ14_copyOf_3 [va_rf (some arr), .int (nI N), va_rf (some (wv_mir G "[Ljava/lang/Object;"))] h 1 1 N (fun r h' => ∃ (b : Nat) (t' : wv_T) (g : Nat → Option Nat), r = .inl (some (va_rf (some b))) ∧ h b = none ∧ wv_b G ≤ b ∧ h' = wv_up h b (t', wo_q (wv_A G 5) N g) ∧ t'.1 ≠ 0 ∧ ∀ i, i < n → g i = f i) := by
  refine wk_J14_copyOf_3 hG ?_
  refine ⟨fun hq => absurd rfl hq, fun _ => ⟨N, rfl, hN, Nat.le_refl _, Nat.le_refl _, fun b hb0 hb1 => ⟨(1, 0, 0, 0), ?_⟩⟩⟩
  have hb0 : h b = none := hb0
  have hne : arr ≠ b := fun q => by rw [q, hb0] at ha; cases ha
  have ha' : wv_up h b ((1, 0, 0, 0), wo_q (wv_A G 5) N (fun _ => none)) arr = some (t, wo_q (wv_A G 5) n f) := by rw [wv_up_ne hne]; exact ha
  refine Or.inl ⟨arr, t, n, f, rfl, ha', Nat.le_refl _, ?_⟩
  have e1 : (if nI N < nI n then nI N else nI n) = nI n := if_neg (nI_nlt hn (by omega))
  rw [e1]
  have e2 : (nI n).toNatClampNeg = n := nI_clamp (by omega)
  have e3 : (0 : Int32).toNatClampNeg = 0 := rfl
  refine ⟨arr, b, t, (1, 0, 0, 0), n, N, f, fun _ => none, rfl, rfl, ha', wv_up_self, by decide, by decide, by decide, nI_pos (by omega), by rw [e2, e3]; omega, by rw [e2, e3]; omega, ?_, Nat.le_refl _, ?_⟩
  · intro i hi y hy
    rw [e2] at hi
    rw [e3, Nat.zero_add] at hy
    obtain ⟨C, h1, h2⟩ := hel i y hi hy
    refine ⟨C, h1.up (fun q => ?_), h2⟩
    subst q
    rcases h1 with ⟨t9, ci9, fs9, r, h3, -⟩ | ⟨t9, l, h3, -⟩ | h3
    · rw [hb0] at h3; cases h3
    · rw [hb0] at h3; cases h3
    · exact Nat.not_le.mpr (wv_cst.lt hG h3) hb1
  · rw [e2, e3]
    refine ⟨b, (1, 0, 0, 0), va_cpy f (fun _ => none) 0 0 n, rfl, hb0, hb1, ?_, by decide, fun i hi => ?_⟩
    · show wv_up (wv_up h b _) b _ = wv_up h b _
      funext c
      by_cases hc : c = b
      · subst hc
        rw [wv_up_self, wv_up_self]
      · rw [wv_up_ne hc, wv_up_ne hc, wv_up_ne hc]
    · simp [va_cpy, hi]
theorem wl_copy2 (hG : wv_G0 G) {arr n N : Nat} {f : Nat → Option Nat} {t : wv_T} (ha : h arr = some (t, wo_q (wv_A G 5) n f)) (hn : n ≤ N) (hN : N ≤ 100000) (hel : ∀ i y, i < n → f i = some y → wl_el G h y) : wv_C G yJ14_copyOf_2 [va_rf (some arr), .int (nI N)] h 2 1 N (fun r h' => ∃ (b : Nat) (t' : wv_T) (g : Nat → Option Nat), r = .inl (some (va_rf (some b))) ∧ h b = none ∧ wv_b G ≤ b ∧ h' = wv_up h b (t', wo_q (wv_A G 5) N g) ∧ t'.1 ≠ 0 ∧ ∀ i, i < n → g i = f i) := by
  refine wk_J14_copyOf_2 hG ?_
  refine ⟨arr, rfl, Or.inr ⟨rfl, t, n, f, ha⟩, by omega, 1, 1, N, _, wl_copy3 hG ha hn hN hel, by omega, Nat.le_refl _, Nat.le_refl _, ?_⟩
  rintro r h' ⟨b, t', g, rfl, h1⟩
  exact Or.inl ⟨_, rfl, b, t', g, rfl, h1⟩
/-- the list's array grown: what stands after it -/
def wl_grown (G : wv_G) (h h' : wv_H) (a : Nat) (t : wv_T) (md : Int32) (arr n cap : Nat) (f : Nat → Option Nat) (b : Nat) : Prop :=
  ∃ (g : Nat → Option Nat), wl_raw G h' a t md b n cap g ∧ (∀ i, i < n → g i = f i) ∧ h b = none ∧ wv_b G ≤ b ∧ ∀ c, c ≠ a → c ≠ b → h' c = h c
theorem wl_grow2 (hG : wv_G0 G) {arr cap : Nat} {f : Nat → Option Nat} (hr : wl_raw G h a t md arr cap cap f) (hcap : cap ≤ 60000) (hel : ∀ i y, i < cap → f i = some y → wl_el G h y) : wv_C G yJ2_grow_2 [va_rf (some a), .int (nI (cap + 1))] h 3 1 (wl_nc cap) (fun r h' => ∃ b, r = .inl (some (va_rf (some b))) ∧ wl_grown G h h' a t md arr cap (wl_nc cap) f b) := by
  refine wk_J2_grow_2 hG ?_
  obtain ⟨h1, h2, -, h4, h5⟩ := hr
  by_cases hz : cap = 0
  · have harr : arr = G.2.2.2.2 0 := by
      rcases h5 with ⟨-, h5⟩ | ⟨h5, -⟩
      · exact h5
      · exact absurd hz h5
    subst hz
    refine ⟨a, t, _, some arr, rfl, h1, rfl, Or.inr ⟨by rw [harr], fun h6 => absurd h6 (by decide), fun _ => ⟨a, t, _, some arr, rfl, h1, rfl, fun _ => ⟨by omega, ?_⟩, fun h6 => absurd (by rw [harr]) h6⟩⟩⟩
    have e1 : (if (10 : Int32) < nI (0 + 1) then nI (0 + 1) else (10 : Int32)) = nI 10 := by decide
    rw [e1]
    refine ⟨10, rfl, by decide, Nat.le_refl _, (by show 10 ≤ wl_nc 0; decide), fun b hb0 hb1 => ⟨(1, 0, 0, 0), ?_⟩⟩
    have hb0 : h b = none := hb0
    have hne : a ≠ b := fun q => by rw [q, hb0] at h1; cases h1
    refine ⟨a, t, [.int md, va_rf (some arr), .int (nI 0)], rfl, (wv_up_ne hne).trans h1, h2, by simp, ?_⟩
    refine ⟨b, rfl, fun _ => none, ⟨wv_up_self, h2, by decide, by decide, Or.inr ⟨by decide, Ne.symm hne, (1, 0, 0, 0), by decide, ?_⟩⟩, fun i hi => absurd hi (Nat.not_lt_zero _), hb0, hb1, fun c hc1 hc2 => ?_⟩
    · exact (wv_up_ne (Ne.symm hne)).trans wv_up_self
    · exact (wv_up_ne hc1).trans (wv_up_ne hc2)
  · rcases h5 with ⟨h5, -⟩ | ⟨-, h6, t', h7, h8⟩
    · exact absurd h5 hz
    have e0 : wl_nc cap = cap + max 1 (cap / 2) := if_neg hz
    have hm : max 1 (cap / 2) ≤ 30000 := Nat.max_le.mpr ⟨by omega, by omega⟩
    refine ⟨a, t, _, some arr, rfl, h1, rfl, Or.inl ⟨arr, t', cap, f, rfl, h8, fun _ => ?_, fun h9 => absurd (nI_lt (a := 0) (b := cap) (by omega) (by omega)) h9⟩⟩
    have e1 : nI (cap + 1) - nI cap = nI 1 := by
      rw [nI_succ]
      show nI cap + 1 - nI cap = nI 1
      apply Int32.toInt_inj.mp
      have : nI cap + 1 - nI cap = 1 := by
        rw [Int32.add_comm]
        exact Int32.add_sub_cancel 1 (nI cap)
      rw [this]
      rfl
    have e2 : nI cap >>> ((1 : Int32) &&& 31) = nI (cap / 2) := by
      exact wl_shr1 (by omega)
    unfold vc_J2_grow_2_20
    rw [e1, e2]
    refine ⟨1, 0, 0, _, wl_newLen hG (by omega) (by omega) (by omega) (by omega), by omega, Nat.zero_le _, Nat.zero_le _, ?_⟩
    rintro r h' ⟨rfl, rfl⟩
    refine Or.inl ⟨_, rfl, a, t, _, some arr, rfl, h1, rfl, ?_⟩
    rw [← e0]
    refine ⟨2, 1, wl_nc cap, _, wl_copy2 hG h8 (by omega) (by omega) hel, by omega, Nat.le_refl _, Nat.le_refl _, ?_⟩
    rintro r h' ⟨b, t'', g, rfl, k1, k2, rfl, k3, k4⟩
    have k1 : h' b = none := k1
    have hne : a ≠ b := fun q => by rw [q, k1] at h1; cases h1
    refine Or.inl ⟨_, rfl, a, t, [.int md, va_rf (some arr), .int (nI cap)], rfl, (wv_up_ne hne).trans h1, h2, by simp, ?_⟩
    refine ⟨b, rfl, g, ⟨wv_up_self, h2, by omega, by omega, Or.inr ⟨by omega, Ne.symm hne, t'', k3, ?_⟩⟩, k4, k1, k2, fun c hc1 hc2 => ?_⟩
    · exact (wv_up_ne (Ne.symm hne)).trans wv_up_self
    · exact (wv_up_ne hc1).trans (wv_up_ne hc2)
theorem wl_grow1 (hG : wv_G0 G) {arr cap : Nat} {f : Nat → Option Nat} (hr : wl_raw G h a t md arr cap cap f) (hcap : cap ≤ 60000) (hel : ∀ i y, i < cap → f i = some y → wl_el G h y) : wv_C G yJ2_grow [va_rf (some a)] h 4 1 (wl_nc cap) (fun r h' => ∃ b, r = .inl (some (va_rf (some b))) ∧ wl_grown G h h' a t md arr cap (wl_nc cap) f b) := by
  refine wk_J2_grow hG ?_
  refine ⟨a, t, _, _, rfl, hr.1, rfl, a, rfl, wl_isL hr, 3, 1, wl_nc cap, _, (by rw [nI_1]; exact wl_grow2 hG hr hcap hel), by omega, Nat.le_refl _, Nat.le_refl _, ?_⟩
  rintro r h' ⟨b, rfl, h1⟩
  exact Or.inl ⟨_, rfl, b, rfl, h1⟩
def wl_cc (n cap : Nat) : Nat := if n = cap then wl_nc cap else cap
/-- the element v put behind -/
def wl_put (G : wv_G) (h h' : wv_H) (a : Nat) (t : wv_T) (md : Int32) (arr n cap : Nat) (f : Nat → Option Nat) (v : Nat) (b : Nat) : Prop :=
  ∃ (g : Nat → Option Nat), wl_raw G h' a t md b (n + 1) cap g ∧ (∀ i, i < n → g i = f i) ∧ g n = some v ∧ ∀ c, c ≠ a → c ≠ b → h' c = h c
theorem wl_add2b (hG : wv_G0 G) {arr n cap : Nat} {f : Nat → Option Nat} {v : Nat} {w : wv_W} (hr : wl_raw G w.1 a t md arr n cap f) (hn : n < cap) (hv : wl_el G w.1 v) (K : wv_R → wv_H → Prop) (hK : ∀ h', wl_put G w.1 h' a t md arr n cap f v arr → K (.inl none) h') : vc_J2_add_2_11 G fr K (some a) (some v) (some arr) (nI n) w := by
  obtain ⟨h1, h2, h3, h4, ⟨h5, -⟩ | ⟨h5, h6, t', h7, h8⟩⟩ := hr
  · omega
  refine ⟨arr, t', cap, f, rfl, h8, h7, vp_in_nI hn (by omega), fun b hb => ?_, ?_⟩
  · cases hb
    obtain ⟨C, k1, k2⟩ := hv
    exact ⟨C, k1, Or.inr k2⟩
  · rw [nI_clamp (by omega)]
    refine ⟨a, t, [.int md, va_rf (some arr), .int (nI n)], rfl, (wv_up_ne (Ne.symm h6)).trans h1, h2, by simp, ?_⟩
    rw [nI_1]
    apply hK
    refine ⟨va_up f n (some v), ⟨wv_up_self, h2, by omega, h4, Or.inr ⟨h5, h6, t', h7, (wv_up_ne h6).trans wv_up_self⟩⟩, fun i hi => by simp [va_up, Nat.ne_of_lt hi], by simp [va_up], fun c hc1 hc2 => (wv_up_ne hc1).trans (wv_up_ne hc2)⟩
theorem wl_add2 (hG : wv_G0 G) {arr n cap : Nat} {f : Nat → Option Nat} {v : Nat} (hr : wl_raw G h a t md arr n cap f) (hcap : cap ≤ 60000) (hv : wl_el G h v) (hel : ∀ i y, i < n → f i = some y → wl_el G h y) : wv_C G yJ2_add_2 [va_rf (some a), va_rf (some v), va_rf (some arr), .int (nI n)] h 5 (if n = cap then 1 else 0) (if n = cap then wl_nc cap else 0) (fun r h' => r = .inl none ∧ ∃ b, wl_put G h h' a t md arr n (wl_cc n cap) f v b ∧ ((b = arr ∧ n ≠ cap) ∨ h b = none)) := by
  refine wk_J2_add_2 hG ?_
  have key : ∀ K : Int32 → Prop, K (nI cap) → wv_lenA G (h, (if n = cap then 1 else 0), (if n = cap then wl_nc cap else 0)) (some arr) K := by
    intro K hK
    obtain ⟨h1, h2, h3, h4, ⟨h5, h6⟩ | ⟨h5, h6, t', h7, h8⟩⟩ := hr
    · subst h5
      exact Or.inr ⟨by rw [h6], hK⟩
    · exact Or.inl ⟨arr, t', cap, f, rfl, h8, hK⟩
  refine key _ ?_
  have h3 := hr.2.2.1
  refine ⟨fun hne => ?_, fun heq => ?_⟩
  · have hlt : n ≠ cap := fun q => hne (by rw [q])
    rw [wl_cc, if_neg hlt]
    exact wl_add2b hG (w := (h, _, _)) hr (by omega) hv _ (fun h' hp => ⟨rfl, _, hp, Or.inl ⟨rfl, hlt⟩⟩)
  · have hq : n = cap := (nI_eq (by omega) (by omega)).mp heq
    subst hq
    rw [if_pos rfl, if_pos rfl, wl_cc, if_pos rfl]
    refine ⟨a, rfl, wl_isL hr, 4, 1, wl_nc n, _, wl_grow1 hG hr hcap hel, by omega, Nat.le_refl _, Nat.le_refl _, ?_⟩
    rintro r h' ⟨b, rfl, g, k1, k2, k3, k4, k5⟩
    have k3 : h b = none := k3
    have k5 : ∀ c, c ≠ a → c ≠ b → h' c = h c := k5
    have hab : a ≠ b := fun q => by have hr1 := hr.1; rw [q, k3] at hr1; cases hr1
    have hv' : wl_el G h' v := by
      obtain ⟨C, j1, j2⟩ := hv
      refine ⟨C, ?_, j2⟩
      rcases j1 with ⟨t9, ci9, fs9, r, i1, i2, i3⟩ | ⟨t9, l, i1, i2⟩ | i1
      · by_cases hva : v = a
        · subst hva
          rw [hr.1] at i1
          cases i1
          exact Or.inl ⟨_, _, _, _, k1.1, i2, i3⟩
        · refine Or.inl ⟨t9, ci9, fs9, r, ?_, i2, i3⟩
          rw [k5 v hva (fun q => by rw [q, k3] at i1; cases i1)]
          exact i1
      · refine Or.inr (Or.inl ⟨t9, l, ?_, i2⟩)
        rw [k5 v (fun q => by rw [q, hr.1] at i1; cases i1) (fun q => by rw [q, k3] at i1; cases i1)]
        exact i1
      · exact Or.inr (Or.inr i1)
    have hlt : n < wl_nc n := by
      unfold wl_nc
      split
      · omega
      · have := Nat.le_max_left 1 (n / 2)
        omega
    refine Or.inl ⟨_, rfl, ?_⟩
    refine wl_add2b hG (w := (h', _, _)) (f := g) k1 hlt hv' _ (fun h2 hp => ⟨rfl, b, ?_⟩)
    obtain ⟨g2, p1, p2, p3, p5⟩ := hp
    exact ⟨⟨g2, p1, fun i hi => (p2 i hi).trans (k2 i hi), p3, fun c hc1 hc2 => (p5 c hc1 hc2).trans (k5 c hc1 hc2)⟩, Or.inr k3⟩
theorem wl_add (hG : wv_G0 G) (ha : h a = some (t, wo_L md cap xs)) {v : Nat} (hcap : cap ≤ 60000) (hv : wl_el G h v) (hel : ∀ x ∈ xs, wl_el G h x) : wv_C G yJ2_add [va_rf (some a), va_rf (some v)] h 6 (if xs.length = cap then 1 else 0) (if xs.length = cap then wl_nc cap else 0) (fun r h' => r = .inl (some (.int 1)) ∧ h' = wv_up h a (t, wo_L (md + 1) (wl_cc xs.length cap) (xs ++ [v]))) := by
  refine wv_C.list hG (by decide) (Or.inl rfl) q754 ha fun arr f ht hw => ?_
  refine wk_J2_add hG ?_
  have hr := wl_opn (md := md) ht hw
  have hr2 : wl_raw G (wv_up (wv_opn G h a t md cap xs.length arr f) a (t, wo_o ciJ2 [.int (md + 1), va_rf (some arr), .int (nI xs.length)])) a t (md + 1) arr xs.length cap f := by
    obtain ⟨h1, h2, h3, h4, h5⟩ := hr
    refine ⟨wv_up_self, h2, h3, h4, ?_⟩
    rcases h5 with h5 | ⟨h5, h6, t', h7, h8⟩
    · exact Or.inl h5
    · exact Or.inr ⟨h5, h6, t', h7, by rw [wv_up_ne h6]; exact h8⟩
  have hup : ∀ x, wl_el G h x → wl_el G (wv_up (wv_opn G h a t md cap xs.length arr f) a (t, wo_o ciJ2 [.int (md + 1), va_rf (some arr), .int (nI xs.length)])) x := by
    rintro x ⟨C, h1, h2⟩
    exact ⟨C, (wl_isO hw ha h1).upo hr.1, h2⟩
  refine ⟨a, t, [.int md, va_rf (some arr), .int (nI xs.length)], md, rfl, hr.1, rfl, a, t, [.int md, va_rf (some arr), .int (nI xs.length)], rfl, hr.1, ht, by simp, ?_⟩
  refine ⟨a, t, [.int (md + 1), va_rf (some arr), .int (nI xs.length)], some arr, rfl, wv_up_self, rfl, a, t, [.int (md + 1), va_rf (some arr), .int (nI xs.length)], nI xs.length, rfl, wv_up_self, rfl, a, rfl, wl_isL hr2, 5, _, _, _, wl_add2 hG hr2 hcap (hup v hv) (fun i y hi hy => ?_), by omega, Nat.le_refl _, Nat.le_refl _, ?_⟩
  · have hx : xs[i]? = some xs[i] := List.getElem?_eq_getElem hi
    rw [hw.2.2.2.2 i _ hx] at hy
    cases hy
    exact hup _ (hel _ (List.getElem_mem hi))
  · rintro r h' ⟨rfl, b, ⟨g, p1, p2, p3, p5⟩, p4⟩
    refine Or.inl ⟨rfl, rfl, _, ⟨rfl, rfl⟩, ?_⟩
    refine wl_close p1 (by simp) (fun i x hx => ?_) wv_up_self (fun c x hc hx => ?_)
    · by_cases hi : i < xs.length
      · rw [List.getElem?_append_left hi] at hx
        rw [p2 i hi]
        exact hw.2.2.2.2 i x hx
      · rw [List.getElem?_append_right (by omega)] at hx
        have hi0 : i = xs.length := by
          cases hk : i - xs.length with
          | zero => omega
          | succ k => rw [hk] at hx; simp at hx
        subst hi0
        simp at hx
        rw [p3, hx]
    · rw [wv_up_ne hc] at hx
      obtain ⟨o1, o2⟩ := wl_old (t := t) (md := md) hw hc hx
      have hb : c ≠ b := by
        rcases p4 with ⟨rfl, p4⟩ | p4
        · rcases hr.2.2.2.2 with ⟨hz, hz2⟩ | ⟨hz, -⟩
          · exact absurd (by have := hw.1; omega) p4
          · exact o2 hz
        · intro q
          have p4 : wv_up _ _ _ b = none := p4
          rw [← q] at p4
          have p6 := (wv_up_ne hc).symm.trans p4
          have o1 : wv_opn G h a t md cap xs.length arr f c = some x := o1
          rw [show wv_opn G h a t md cap xs.length arr f c = none from p6] at o1
          cases o1
      exact ⟨((p5 c hc hb).trans (wv_up_ne hc)).trans o1, fun _ => hb⟩
end WL2
