/-! TOOLS of the pure layer: worlds, calls that leave all as it is, bits -/
section ZT
variable {G : wv_G} {h h1 h2 h' : wv_H} {w : wv_W} {fr fr' kc ks : Nat} {P : wv_R → wv_H → Prop} {y : MethodName} {av As : List Value} {K9 : wv_R → wv_W → Prop} {KX : String → Nat → wv_W → Prop}
-- ===== worlds =====
theorem z_uu {a : Nat} {x x' : wv_T × wv_O} : wv_up (wv_up h a x) a x' = wv_up h a x' := by
  funext b
  by_cases e : b = a
  · rw [e, wv_up_self, wv_up_self]
  · rw [wv_up_ne e, wv_up_ne e, wv_up_ne e]
theorem z_same {a : Nat} {x : wv_T × wv_O} (ha : h a = some x) : wv_up h a x = h := by
  funext b
  by_cases e : b = a
  · rw [e, wv_up_self, ha]
  · rw [wv_up_ne e]
/-- two cells with other marks are two cells -/
theorem z_ne {a b : Nat} {x y : wv_T × wv_O} (ha : h a = some x) (hb : h b = some y) (hn : x.1 ≠ y.1) : a ≠ b := by
  intro e
  rw [e, hb] at ha
  cases ha
  exact hn rfl
theorem z_nw {a b : Nat} {x : wv_T × wv_O} (ha : h a = none) (hb : h b = some x) : b ≠ a := by
  intro e
  rw [e, ha] at hb
  cases hb
theorem z_upo {a b : Nat} {x z : wv_T × wv_O} (hn : b ≠ a) (hb : h b = some x) : wv_up h a z b = some x := by rw [wv_up_ne hn]; exact hb
/-- a new cell leaves the old ones -/
theorem z_upn {a b : Nat} {x z : wv_T × wv_O} (ha : h a = none) (hb : h b = some x) : wv_up h a z b = some x := z_upo (z_nw ha hb) hb
/-- what is written is of S -/
def kp (S : Nat → wv_T → Prop) (h h' : wv_H) : Prop := ∀ (a : Nat) (x : wv_T × wv_O), h a = some x → ¬ S a x.1 → h' a = some x
theorem kp.refl {S : Nat → wv_T → Prop} (h : wv_H) : kp S h h := fun _ _ ha _ => ha
theorem kp.trans {S : Nat → wv_T → Prop} (k1 : kp S h h1) (k2 : kp S h1 h2) : kp S h h2 := fun a x ha hs => k2 a x (k1 a x ha hs) hs
theorem kp.mono {S S' : Nat → wv_T → Prop} (hs : ∀ a t, S a t → S' a t) (k : kp S h h1) : kp S' h h1 := fun a x ha hn => k a x ha (fun q => hn (hs _ _ q))
theorem kp.new {S : Nat → wv_T → Prop} {a : Nat} {x : wv_T × wv_O} (ha : h a = none) : kp S h (wv_up h a x) := fun _ _ hb _ => z_upn ha hb
theorem kp.put {S : Nat → wv_T → Prop} {a : Nat} {x z : wv_T × wv_O} (ha : h a = some x) (hs : S a x.1) : kp S h (wv_up h a z) := by
  intro b x' hb hn
  by_cases e : b = a
  · subst e
    rw [ha] at hb
    cases hb
    exact absurd hs hn
  · exact z_upo e hb
/-- nothing old is written -/
abbrev kn : Nat → wv_T → Prop := fun _ _ => False
theorem kn.to {S : Nat → wv_T → Prop} (k : kp kn h h1) : kp S h h1 := kp.mono (fun _ _ q => q.elim) k
theorem kn.at (k : kp kn h h1) {a : Nat} {x : wv_T × wv_O} (ha : h a = some x) : h1 a = some x := k a x ha (fun q => q)
-- ===== classes =====
theorem z_is {a ci : Nat} {t : wv_T} {fs : List Value} {r : vw_C} (h1 : h a = some (t, wo_o ci fs)) (h2 : wv_cl[ci]? = some r) : wv_is G h a r.1 := Or.inl ⟨t, ci, fs, r, h1, h2, rfl⟩
theorem z_isL {a cap : Nat} {t : wv_T} {md : Int32} {xs : List Nat} (h1 : h a = some (t, wo_L md cap xs)) : wv_is G h a "java/util/ArrayList" := Or.inr (Or.inl ⟨t, _, h1, rfl⟩)
theorem z_cc {a : Nat} {C : String} {K : Prop} (hi : wv_is G w.1 a C) (hK : K) : wv_cc G w (some a) C K := ⟨fun b hb => by cases hb; exact ⟨C, hi, Or.inl rfl⟩, hK⟩
-- ===== calls that leave all as it is =====
theorem z_cI {x : Int32} {K : Int32 → wv_W → Prop} (hC : wv_C G y av w.1 fr' 0 0 (fun r h' => r = .inl (some (.int x)) ∧ h' = w.1)) (hf : fr' < fr) (hK : K x w) : wv_c0 G fr y av w (wv_rI K KX) :=
  ⟨fr', 0, 0, _, hC, hf, Nat.zero_le _, Nat.zero_le _, by rintro r h' ⟨rfl, rfl⟩; exact Or.inl ⟨x, rfl, hK⟩⟩
theorem z_cA {x : Option Nat} {K : Option Nat → wv_W → Prop} (hC : wv_C G y av w.1 fr' 0 0 (fun r h' => r = .inl (some (va_rf x)) ∧ h' = w.1)) (hf : fr' < fr) (hK : K x w) : wv_c0 G fr y av w (wv_rA K KX) :=
  ⟨fr', 0, 0, _, hC, hf, Nat.zero_le _, Nat.zero_le _, by rintro r h' ⟨rfl, rfl⟩; exact Or.inl ⟨x, rfl, hK⟩⟩
theorem z_cV {K : wv_W → Prop} (hC : wv_C G y av w.1 fr' 0 0 (fun r h' => r = .inl none ∧ h' = h1)) (hf : fr' < fr) (hK : K (h1, w.2)) : wv_c0 G fr y av w (wv_rV K KX) :=
  ⟨fr', 0, 0, _, hC, hf, Nat.zero_le _, Nat.zero_le _, by rintro r h' ⟨rfl, rfl⟩; exact Or.inl ⟨rfl, hK⟩⟩
theorem z_cW {x : Int32} {K : Int32 → wv_W → Prop} (hC : wv_C G y av w.1 fr' 0 0 (fun r h' => r = .inl (some (.int x)) ∧ h' = h1)) (hf : fr' < fr) (hK : K x (h1, w.2)) : wv_c0 G fr y av w (wv_rI K KX) :=
  ⟨fr', 0, 0, _, hC, hf, Nat.zero_le _, Nat.zero_le _, by rintro r h' ⟨rfl, rfl⟩; exact Or.inl ⟨x, rfl, hK⟩⟩
theorem z_vI {b : Nat} {x : Int32} {K : Int32 → wv_W → Prop} (hi : wv_is G w.1 b y.cls) (hC : wv_C G y (.ref b :: As) w.1 fr' 0 0 (fun r h' => r = .inl (some (.int x)) ∧ h' = w.1)) (hf : fr' < fr) (hK : K x w) : wv_cV G fr y (some b) As w (wv_rI K KX) := ⟨b, rfl, hi, z_cI hC hf hK⟩
theorem z_vA {b : Nat} {x : Option Nat} {K : Option Nat → wv_W → Prop} (hi : wv_is G w.1 b y.cls) (hC : wv_C G y (.ref b :: As) w.1 fr' 0 0 (fun r h' => r = .inl (some (va_rf x)) ∧ h' = w.1)) (hf : fr' < fr) (hK : K x w) : wv_cV G fr y (some b) As w (wv_rA K KX) := ⟨b, rfl, hi, z_cA hC hf hK⟩
theorem z_vV {b : Nat} {K : wv_W → Prop} (hi : wv_is G w.1 b y.cls) (hC : wv_C G y (.ref b :: As) w.1 fr' 0 0 (fun r h' => r = .inl none ∧ h' = h1)) (hf : fr' < fr) (hK : K (h1, w.2)) : wv_cV G fr y (some b) As w (wv_rV K KX) := ⟨b, rfl, hi, z_cV hC hf hK⟩
theorem z_iV {b : Nat} {K : wv_W → Prop} (hC : wv_C G y (.ref b :: As) w.1 fr' 0 0 (fun r h' => r = .inl none ∧ h' = h1)) (hf : fr' < fr) (hK : K (h1, w.2)) : wv_cI G fr y (some b) As w (wv_rV K KX) := ⟨b, rfl, z_cV hC hf hK⟩
theorem z_fI {x : MethodName} {C : String} {b : Nat} {v : Int32} {K : Int32 → wv_W → Prop} (hi : wv_is G w.1 b C) (hF : wv_face C x y) (hC : wv_C G y (.ref b :: As) w.1 fr' 0 0 (fun r h' => r = .inl (some (.int v)) ∧ h' = w.1)) (hf : fr' < fr) (hK : K v w) : wv_cF G fr x (some b) As w (wv_rI K KX) := ⟨b, C, y, rfl, hi, hF, z_cI hC hf hK⟩
/-- any call -/
theorem z_c (hC : wv_C G y av w.1 fr' kc ks P) (hf : fr' < fr) (hc : kc ≤ w.2.1) (hs : ks ≤ w.2.2) (hK : ∀ r h', P r h' → K9 r (h', w.2.1 - kc, w.2.2 - ks)) : wv_c0 G fr y av w K9 := ⟨fr', kc, ks, P, hC, hf, hc, hs, hK⟩
-- ===== words of the conditions, their things given =====
theorem z_gI {a ci k : Nat} {t : wv_T} {fs : List Value} {x : Int32} {K : Int32 → Prop} (ha : w.1 a = some (t, wo_o ci fs)) (hv : fs[k]? = some (.int x)) (hK : K x) : wv_gI w (some a) ci k K := ⟨a, t, fs, x, rfl, ha, hv, hK⟩
theorem z_gA {a ci k : Nat} {t : wv_T} {fs : List Value} {x : Option Nat} {K : Option Nat → Prop} (ha : w.1 a = some (t, wo_o ci fs)) (hv : fs[k]? = some (va_rf x)) (hK : K x) : wv_gA w (some a) ci k K := ⟨a, t, fs, x, rfl, ha, hv, hK⟩
theorem z_pt {a ci k : Nat} {t : wv_T} {fs : List Value} {v : Value} {K : wv_W → Prop} (ha : w.1 a = some (t, wo_o ci fs)) (ht : t.1 ≠ 0) (hk : k < fs.length) (hK : K (wv_up w.1 a (t, wo_o ci (fs.set k v)), w.2)) : wv_pt w (some a) ci k v K := ⟨a, t, fs, rfl, ha, ht, hk, hK⟩
theorem z_li {a kk i n : Nat} {t : wv_T} {f : Nat → Int32} {K : Int32 → Prop} (ha : w.1 a = some (t, wo_i (wv_A G kk) n f)) (hi : i < n) (hn : n < 2 ^ 31) (hK : K (f i)) : wv_li G kk w (some a) (nI i) K := ⟨a, t, n, f, rfl, ha, vp_in_nI hi hn, by rw [nI_clamp (by omega)]; exact hK⟩
theorem z_lq {a kk i n : Nat} {t : wv_T} {f : Nat → Option Nat} {K : Option Nat → Prop} (ha : w.1 a = some (t, wo_q (wv_A G kk) n f)) (hi : i < n) (hn : n < 2 ^ 31) (hK : K (f i)) : wv_lq G kk w (some a) (nI i) K := ⟨a, t, n, f, rfl, ha, vp_in_nI hi hn, by rw [nI_clamp (by omega)]; exact hK⟩
theorem z_si {a kk i n : Nat} {t : wv_T} {f : Nat → Int32} {x : Int32} {K : wv_W → Prop} (ha : w.1 a = some (t, wo_i (wv_A G kk) n f)) (ht : t.1 ≠ 0) (hi : i < n) (hn : n < 2 ^ 31) (hK : K (wv_up w.1 a (t, wo_i (wv_A G kk) n (upd f i x)), w.2)) : wv_si G kk w (some a) (nI i) x K := ⟨a, t, n, f, rfl, ha, ht, vp_in_nI hi hn, by rw [nI_clamp (by omega)]; exact hK⟩
theorem z_no {o : wv_O} {n : Nat} {K : Nat → wv_W → Prop} (t : wv_T) (h1 : 1 ≤ w.2.1) (h2 : n ≤ w.2.2) (hK : ∀ a : Nat, w.1 a = none → wv_b G ≤ a → K a (wv_up w.1 a (t, o), w.2.1 - 1, w.2.2 - n)) : wv_no G w o n K := ⟨h1, h2, fun a ha hb => ⟨t, hK a ha hb⟩⟩
theorem z_at {a ci : Nat} {t : wv_T} {fs : List Value} {q : vw_C} (ha : w.1 a = some (t, wo_o ci fs)) (hc : wv_cl[ci]? = some q) (hK : KX q.1 a w) : wv_at w (some a) KX := ⟨a, t, ci, fs, q, rfl, ha, hc, hK⟩
theorem z_rg {f : Nat → Nat} {n i : Nat} (hi : i < n) : ((List.range n).map f)[i]? = some (f i) := by rw [List.getElem?_map, List.getElem?_range hi]; rfl
theorem z_rgl {f : Nat → Nat} {n : Nat} : ((List.range n).map f).length = n := by simp
-- ===== exceptions =====
/-- the call throws a new E, and writes nothing old -/
def zTh (E : String) (h : wv_H) : wv_R → wv_H → Prop := fun r h' => (∃ q, r = .inr (E, q)) ∧ kp kn h h'
theorem z_J4 (hG : wv_G0 G) {a ci : Nat} {t : wv_T} {fs : List Value} (ha : h a = some (t, wo_o ci fs)) (ht : t.1 ≠ 0) (he : wv_exc ci fs.length) (h4 : fs[4]? = some (va_rf none)) : wv_C G yJ4_init_2 [.ref a] h 4 0 0 (fun r h' => r = .inl none ∧ ∃ fs' : List Value, fs'.length = fs.length ∧ h' = wv_up h a (t, wo_o ci fs')) :=
  wk_J4_init_2 (v0 := some a) hG ⟨a, t, ci, fs, rfl, ha, ht, he, h4, Nat.le_refl _, fun fs' h1 _ => ⟨rfl, fs', h1, rfl⟩⟩
theorem z_J5 (hG : wv_G0 G) {a ci : Nat} {t : wv_T} {fs : List Value} (ha : h a = some (t, wo_o ci fs)) (ht : t.1 ≠ 0) (he : wv_exc ci fs.length) (h4 : fs[4]? = some (va_rf none)) : wv_C G yJ5_init_2 [.ref a] h 5 0 0 (fun r h' => r = .inl none ∧ ∃ fs' : List Value, fs'.length = fs.length ∧ h' = wv_up h a (t, wo_o ci fs')) :=
  wk_J5_init_2 (v0 := some a) hG ⟨a, rfl, 4, 0, 0, _, z_J4 hG ha ht he h4, by omega, Nat.zero_le _, Nat.zero_le _, by rintro r h' ⟨rfl, h1⟩; exact Or.inl ⟨rfl, rfl, h1⟩⟩
theorem z_exc1 {a ci : Nat} {t : wv_T} {fs : List Value} (K : wv_R → wv_H → Prop) (hK : ∀ fs' : List Value, fs'.length = fs.length → K (.inl none) (wv_up h a (t, wo_o ci fs'))) (r : wv_R) (h' : wv_H) (hp : r = .inl none ∧ ∃ fs' : List Value, fs'.length = fs.length ∧ h' = wv_up h a (t, wo_o ci fs')) : K r h' := by
  obtain ⟨rfl, fs', h1, rfl⟩ := hp
  exact hK fs' h1
theorem z_J6 (hG : wv_G0 G) {a ci : Nat} {t : wv_T} {fs : List Value} (ha : h a = some (t, wo_o ci fs)) (ht : t.1 ≠ 0) (he : wv_exc ci fs.length) (h4 : fs[4]? = some (va_rf none)) : wv_C G yJ6_init_2 [.ref a] h 6 0 0 (fun r h' => r = .inl none ∧ ∃ fs' : List Value, fs'.length = fs.length ∧ h' = wv_up h a (t, wo_o ci fs')) :=
  wk_J6_init_2 (v0 := some a) hG ⟨a, rfl, 5, 0, 0, _, z_J5 hG ha ht he h4, by omega, Nat.zero_le _, Nat.zero_le _, by rintro r h' ⟨rfl, h1⟩; exact Or.inl ⟨rfl, rfl, h1⟩⟩
theorem z_J11 (hG : wv_G0 G) {a ci : Nat} {t : wv_T} {fs : List Value} (ha : h a = some (t, wo_o ci fs)) (ht : t.1 ≠ 0) (he : wv_exc ci fs.length) (h4 : fs[4]? = some (va_rf none)) : wv_C G yJ11_init [.ref a] h 6 0 0 (fun r h' => r = .inl none ∧ ∃ fs' : List Value, fs'.length = fs.length ∧ h' = wv_up h a (t, wo_o ci fs')) :=
  wk_J11_init (v0 := some a) hG ⟨a, rfl, 5, 0, 0, _, z_J5 hG ha ht he h4, by omega, Nat.zero_le _, Nat.zero_le _, by rintro r h' ⟨rfl, h1⟩; exact Or.inl ⟨rfl, rfl, h1⟩⟩
theorem z_J15 (hG : wv_G0 G) {a ci : Nat} {t : wv_T} {fs : List Value} (ha : h a = some (t, wo_o ci fs)) (ht : t.1 ≠ 0) (he : wv_exc ci fs.length) (h4 : fs[4]? = some (va_rf none)) : wv_C G yJ15_init_2 [.ref a] h 6 0 0 (fun r h' => r = .inl none ∧ ∃ fs' : List Value, fs'.length = fs.length ∧ h' = wv_up h a (t, wo_o ci fs')) :=
  wk_J15_init_2 (v0 := some a) hG ⟨a, rfl, 5, 0, 0, _, z_J5 hG ha ht he h4, by omega, Nat.zero_le _, Nat.zero_le _, by rintro r h' ⟨rfl, h1⟩; exact Or.inl ⟨rfl, rfl, h1⟩⟩
theorem z_J16 (hG : wv_G0 G) {a ci : Nat} {t : wv_T} {fs : List Value} (ha : h a = some (t, wo_o ci fs)) (ht : t.1 ≠ 0) (he : wv_exc ci fs.length) (h4 : fs[4]? = some (va_rf none)) : wv_C G yJ16_init [.ref a] h 6 0 0 (fun r h' => r = .inl none ∧ ∃ fs' : List Value, fs'.length = fs.length ∧ h' = wv_up h a (t, wo_o ci fs')) :=
  wk_J16_init (v0 := some a) hG ⟨a, rfl, 5, 0, 0, _, z_J5 hG ha ht he h4, by omega, Nat.zero_le _, Nat.zero_le _, by rintro r h' ⟨rfl, h1⟩; exact Or.inl ⟨rfl, rfl, h1⟩⟩
theorem z_J25 (hG : wv_G0 G) {a ci : Nat} {t : wv_T} {fs : List Value} (ha : h a = some (t, wo_o ci fs)) (ht : t.1 ≠ 0) (he : wv_exc ci fs.length) (h4 : fs[4]? = some (va_rf none)) : wv_C G yJ25_init_2 [.ref a] h 6 0 0 (fun r h' => r = .inl none ∧ ∃ fs' : List Value, fs'.length = fs.length ∧ h' = wv_up h a (t, wo_o ci fs')) :=
  wk_J25_init_2 (v0 := some a) hG ⟨a, rfl, 5, 0, 0, _, z_J5 hG ha ht he h4, by omega, Nat.zero_le _, Nat.zero_le _, by rintro r h' ⟨rfl, h1⟩; exact Or.inl ⟨rfl, rfl, h1⟩⟩
/-- a new exception of a class with no fields of its own, thrown -/
theorem z_throw {ci : Nat} {y : MethodName} {q : vw_C} (hq : wv_cl[ci]? = some q) (hfr : 6 < fr) (hc : 1 ≤ w.2.1) (hs : 6 ≤ w.2.2) (he : wv_exc ci 6)
    (hC : ∀ (h : wv_H) (a : Nat) (t : wv_T) (fs : List Value), h a = some (t, wo_o ci fs) → t.1 ≠ 0 → wv_exc ci fs.length → fs[4]? = some (va_rf none) → wv_C G y [.ref a] h 6 0 0 (fun r h' => r = .inl none ∧ ∃ fs' : List Value, fs'.length = fs.length ∧ h' = wv_up h a (t, wo_o ci fs')))
    (hK : ∀ a h', kp kn w.1 h' → KX q.1 a (h', w.2.1 - 1, w.2.2 - 6)) :
    wv_no G w (wo_o ci [va_rf none, va_rf none, va_rf none, va_rf none, va_rf none, .int 0]) 6 (fun a4 w4 => wv_cI G fr y (some a4) [] w4 (wv_rV (fun w8 => wv_at w8 (some a4) KX) KX)) := by
  refine z_no (64, 0, 0, 0) hc hs (fun a ha hb => ?_)
  refine ⟨a, rfl, 6, 0, 0, _, hC _ a (64, 0, 0, 0) _ wv_up_self (by decide) he rfl, hfr, Nat.zero_le _, Nat.zero_le _, ?_⟩
  rintro r h' ⟨rfl, fs', h1, rfl⟩
  refine Or.inl ⟨rfl, z_at wv_up_self hq ?_⟩
  refine hK a _ ?_
  rw [z_uu]
  exact kp.new ha
-- ===== a list, its length and capacity of no account =====
def zL (h : wv_H) (a : Nat) (t : wv_T) (xs : List Nat) : Prop := ∃ (md : Int32) (cap : Nat), cap ≤ 60 ∧ h a = some (t, wo_L md cap xs)
theorem zL.keep {S : Nat → wv_T → Prop} {a : Nat} {t : wv_T} {xs : List Nat} (hl : zL h a t xs) (k : kp S h h1) (hn : ¬ S a t) : zL h1 a t xs := by
  obtain ⟨md, cap, h1, h2⟩ := hl
  exact ⟨md, cap, h1, k a _ h2 hn⟩
theorem zL.is {a : Nat} {t : wv_T} {xs : List Nat} (hl : zL h a t xs) : wv_is G h a "java/util/ArrayList" := by
  obtain ⟨md, cap, h1, h2⟩ := hl
  exact z_isL h2
theorem zL.ex {a : Nat} {t : wv_T} {xs : List Nat} (hl : zL h a t xs) : ∃ o, h a = some (t, o) := by
  obtain ⟨md, cap, h1, h2⟩ := hl
  exact ⟨_, h2⟩
theorem zL.size (hG : wv_G0 G) {a : Nat} {t : wv_T} {xs : List Nat} (hl : zL h a t xs) : wv_C G yJ2_size [.ref a] h 0 0 0 (fun r h' => r = .inl (some (.int (nI xs.length))) ∧ h' = h) := by
  obtain ⟨md, cap, h1, h2⟩ := hl
  exact wl_size hG h2
theorem zL.isEmpty (hG : wv_G0 G) {a : Nat} {t : wv_T} {xs : List Nat} (hl : zL h a t xs) : wv_C G yJ2_isEmpty [.ref a] h 0 0 0 (fun r h' => r = .inl (some (.int (if xs.length = 0 then 1 else 0))) ∧ h' = h) := by
  obtain ⟨md, cap, h1, h2⟩ := hl
  exact wl_isEmpty hG h2
theorem zL.get (hG : wv_G0 G) {a i x : Nat} {t : wv_T} {xs : List Nat} (hl : zL h a t xs) (hx : xs[i]? = some x) : wv_C G yJ2_get [.ref a, .int (nI i)] h 2 0 0 (fun r h' => r = .inl (some (va_rf (some x))) ∧ h' = h) := by
  obtain ⟨md, cap, h1, h2⟩ := hl
  exact wl_get hG h2 hx
theorem zL.vsize (hG : wv_G0 G) {a : Nat} {t : wv_T} {xs : List Nat} {K : Int32 → wv_W → Prop} (hl : zL w.1 a t xs) (hf : 0 < fr) (hK : K (nI xs.length) w) : wv_cV G fr yJ2_size (some a) [] w (wv_rI K KX) := z_vI hl.is (hl.size hG) hf hK
theorem zL.vget (hG : wv_G0 G) {a i x : Nat} {t : wv_T} {xs : List Nat} {K : Option Nat → wv_W → Prop} (hl : zL w.1 a t xs) (hx : xs[i]? = some x) (hf : 2 < fr) (hK : K (some x) w) : wv_cV G fr yJ2_get (some a) [.int (nI i)] w (wv_rA K KX) := z_vA hl.is (hl.get hG hx) hf hK
theorem zL.vsizeR (hG : wv_G0 G) {a n : Nat} {t : wv_T} {f : Nat → Nat} {K : Int32 → wv_W → Prop} (hl : zL w.1 a t ((List.range n).map f)) (hf : 0 < fr) (hK : K (nI n) w) : wv_cV G fr yJ2_size (some a) [] w (wv_rI K KX) := hl.vsize hG hf (by rw [z_rgl]; exact hK)
theorem zL.vgetR (hG : wv_G0 G) {a i n : Nat} {t : wv_T} {f : Nat → Nat} {K : Option Nat → wv_W → Prop} (hl : zL w.1 a t ((List.range n).map f)) (hi : i < n) (hf : 2 < fr) (hK : K (some (f i)) w) : wv_cV G fr yJ2_get (some a) [.int (nI i)] w (wv_rA K KX) := hl.vget hG (z_rg hi) hf hK
-- ===== an int's bits =====
def zb (x : Int32) (n : Nat) : Bool := x.toBitVec.getLsbD n
theorem zb_ext {x y : Int32} (hx : ∀ n, n < 32 → zb x n = zb y n) : x = y := by
  apply Int32.toBitVec_inj.mp
  apply BitVec.eq_of_getLsbD_eq
  intro i hi
  exact hx i hi
theorem zb_or (x y : Int32) (n : Nat) : zb (x ||| y) n = (zb x n || zb y n) := by
  unfold zb
  rw [Int32.toBitVec_or, BitVec.getLsbD_or]
theorem zb_and (x y : Int32) (n : Nat) : zb (x &&& y) n = (zb x n && zb y n) := by
  unfold zb
  rw [Int32.toBitVec_and, BitVec.getLsbD_and]
theorem zb_0 (n : Nat) : zb 0 n = false := by
  unfold zb
  simp
theorem zb_m1 {n : Nat} (hn : n < 32) : zb (-1) n = true := by
  have key : ∀ n, n < 32 → zb (-1) n = true := by decide
  exact key n hn
theorem zb_xor (x y : Int32) (n : Nat) : zb (x ^^^ y) n = (zb x n ^^ zb y n) := by
  unfold zb
  rw [Int32.toBitVec_xor, BitVec.getLsbD_xor]
theorem zb_hi {x : Int32} {n : Nat} (hn : 32 ≤ n) : zb x n = false := BitVec.getLsbD_of_ge _ _ hn
theorem zb_p (k n : Nat) (hk : k < 32) : zb (nI (2 ^ k)) n = decide (n = k) := by
  unfold zb nI
  have e : (Int32.ofNat (2 ^ k)).toBitVec = BitVec.ofNat 32 (2 ^ k) := rfl
  rw [e, BitVec.getLsbD_ofNat, Nat.testBit_two_pow]
  by_cases h : n = k
  · subst h
    simp [hk]
  · simp [h, Ne.symm h]
theorem zb_is0 {x : Int32} : x = 0 ↔ ∀ n, n < 32 → zb x n = false := by
  constructor
  · intro e n _
    rw [e, zb_0]
  · intro e
    apply zb_ext
    intro n hn
    rw [e n hn, zb_0]
theorem zb_sh {k : Nat} (hk : k < 32) : (1 : Int32) <<< (nI k &&& 31) = nI (2 ^ k) := by
  have key : ∀ k, k < 32 → (1 : Int32) <<< (nI k &&& 31) = nI (2 ^ k) := by decide
  exact key k hk
theorem zb_and0 {x : Int32} {k : Nat} (hk : k < 32) : x &&& nI (2 ^ k) = 0 ↔ zb x k = false := by
  rw [zb_is0]
  constructor
  · intro e
    have := e k hk
    rw [zb_and, zb_p k k hk] at this
    simpa using this
  · intro e n _
    rw [zb_and, zb_p k n hk]
    by_cases h : n = k
    · rw [h, e]; rfl
    · simp [h]
theorem zb_shr {x : Int32} {k : Nat} (hk : k < 32) : zb (x >>> (nI k &&& 31)) 0 = zb x k := by
  unfold zb
  have e : ((nI k &&& 31).toBitVec.smod 32).toNat = k := by
    have key : ∀ k, k < 32 → ((nI k &&& 31).toBitVec.smod 32).toNat = k := by decide
    exact key k hk
  rw [Int32.toBitVec_shiftRight, BitVec.sshiftRight_eq', e, BitVec.getLsbD_sshiftRight]
  simp [hk]
theorem zb_shr1 {x : Int32} {k : Nat} (hk : k < 32) : (x >>> (nI k &&& 31)) &&& 1 = if zb x k = true then 1 else 0 := by
  apply zb_ext
  intro n hn
  have e1 : (1 : Int32) = nI (2 ^ 0) := by decide
  rw [zb_and]
  by_cases h0 : n = 0
  · subst h0
    rw [zb_shr hk]
    cases zb x k <;> decide
  · have e2 : zb 1 n = false := by
      rw [e1, zb_p 0 n (by decide)]
      simp [h0]
    rw [e2, Bool.and_false]
    cases zb x k
    · simp [zb_0]
    · simp [e2]
/-- the bits of f under n -/
def zm (f : Nat → Bool) : Nat → Int32
  | 0 => 0
  | n + 1 => zm f n ||| (if f n = true then nI (2 ^ n) else 0)
theorem zb_zm {f : Nat → Bool} {n : Nat} (hn : n ≤ 32) (j : Nat) : zb (zm f n) j = (decide (j < n) && f j) := by
  induction n with
  | zero => simp [zm, zb_0]
  | succ n ih =>
    rw [zm, zb_or, ih (by omega)]
    by_cases hf : f n = true
    · rw [if_pos hf, zb_p n j (by omega)]
      by_cases h : j = n
      · subst h; simp [hf]
      · by_cases h2 : j < n
        · simp [h2, h, Nat.lt_succ_of_lt h2]
        · have : ¬ j < n + 1 := by omega
          simp [h2, h, this]
    · rw [if_neg hf, zb_0]
      by_cases h : j = n
      · subst h
        simp at hf
        simp [hf]
      · by_cases h2 : j < n
        · simp [h2, Nat.lt_succ_of_lt h2]
        · have : ¬ j < n + 1 := by omega
          simp [h2, this]
theorem zm_and {f g : Nat → Bool} {n : Nat} (hn : n ≤ 32) : zm f n &&& zm g n = zm (fun j => f j && g j) n := by
  apply zb_ext
  intro j _
  rw [zb_and, zb_zm hn, zb_zm hn, zb_zm hn]
  cases decide (j < n) <;> cases f j <;> cases g j <;> rfl
theorem zm_andn {f g : Nat → Bool} {n : Nat} (hn : n ≤ 32) : zm f n &&& (zm g n ^^^ (-1)) = zm (fun j => f j && !g j) n := by
  apply zb_ext
  intro j hj
  rw [zb_and, zb_xor, zb_m1 hj, zb_zm hn, zb_zm hn, zb_zm hn]
  cases decide (j < n) <;> cases f j <;> cases g j <;> rfl
theorem zm_0 {f : Nat → Bool} {n : Nat} (hn : n ≤ 32) : zm f n = 0 ↔ (List.range n).all (fun j => !f j) = true := by
  rw [zb_is0, List.all_eq_true]
  constructor
  · intro e j hj
    have hj := List.mem_range.mp hj
    have := e j (by omega)
    rw [zb_zm hn, decide_eq_true hj, Bool.true_and] at this
    rw [this]
    rfl
  · intro e j _
    rw [zb_zm hn]
    by_cases h : j < n
    · have := e j (List.mem_range.mpr h)
      rw [decide_eq_true h, Bool.true_and]
      simpa using this
    · rw [decide_eq_false h, Bool.false_and]
theorem zm_congr {f g : Nat → Bool} : ∀ {n : Nat}, (∀ j, j < n → f j = g j) → zm f n = zm g n
  | 0, _ => rfl
  | n + 1, e => by rw [zm, zm, zm_congr (fun j hj => e j (by omega)), e n (by omega)]
-- ===== loops with a counter =====
theorem z_loop {A : Type} {F : (A → wv_W → Prop) → A → wv_W → Prop} {a : A} {w : wv_W} (n : Nat) (hn : n < 2 ^ 31) (ix : A → Int32) (I : Nat → A → wv_W → Prop) (i0 : ix a = nI 0) (h0 : I 0 a w) (hs : ∀ (K : A → wv_W → Prop) (i : Nat) (a : A) (w : wv_W), i ≤ n → ix a = nI i → I i a w → (∀ a' w', i < n → ix a' = nI (i + 1) → I (i + 1) a' w' → K a' w') → F K a w) : wv_L F a w := by
  refine ⟨fun a w => ∃ i, i ≤ n ∧ ix a = nI i ∧ I i a w, fun a _ => n - (ix a).toNatClampNeg, ⟨0, Nat.zero_le _, i0, h0⟩, ?_⟩
  rintro a w ⟨i, hi, e, h1⟩
  refine hs _ i a w hi e h1 (fun a' w' hlt e' h2 => ⟨⟨i + 1, hlt, e', h2⟩, ?_⟩)
  show n - (ix a').toNatClampNeg < n - (ix a).toNatClampNeg
  rw [e, e', nI_clamp (by omega), nI_clamp (by omega)]
  omega
/-- a loop whose numbers are a function of the counter, over one world -/
theorem z_loopV {A : Type} {F : (A → wv_W → Prop) → A → wv_W → Prop} {a : A} {w : wv_W} (n : Nat) (hn : n < 2 ^ 31) (ix : A → Int32) (val : Nat → A) (hix : ∀ i, ix (val i) = nI i) (h0 : a = val 0) (hs : ∀ (K : A → wv_W → Prop) (i : Nat), i ≤ n → (i < n → K (val (i + 1)) w) → F K (val i) w) : wv_L F a w := by
  refine z_loop n hn ix (fun i v w' => v = val i ∧ w' = w) (by rw [h0]; exact hix 0) ⟨h0, rfl⟩ ?_
  rintro K i _ _ hi - ⟨rfl, rfl⟩ hK
  exact hs K i hi (fun hlt => hK _ _ hlt (hix (i + 1)) ⟨rfl, rfl⟩)
/-- the same over worlds that change -/
theorem z_loopW {A : Type} {F : (A → wv_W → Prop) → A → wv_W → Prop} {a : A} {w : wv_W} (n : Nat) (hn : n < 2 ^ 31) (ix : A → Int32) (val : Nat → A) (I : Nat → wv_W → Prop) (hix : ∀ i, ix (val i) = nI i) (h0 : a = val 0) (hI : I 0 w) (hs : ∀ (K : A → wv_W → Prop) (i : Nat) (w : wv_W), i ≤ n → I i w → (∀ w', i < n → I (i + 1) w' → K (val (i + 1)) w') → F K (val i) w) : wv_L F a w := by
  refine z_loop n hn ix (fun i v w' => v = val i ∧ I i w') (by rw [h0]; exact hix 0) ⟨h0, hI⟩ ?_
  rintro K i _ w hi - ⟨rfl, h1⟩ hK
  exact hs K i w hi h1 (fun w' hlt h2 => hK _ w' hlt (hix (i + 1)) ⟨rfl, h2⟩)
-- ===== ints as places =====
theorem z_nn {x : Int32} (h0 : 0 ≤ x) : ¬ x < 0 := Int32.not_lt.mpr h0
end ZT
