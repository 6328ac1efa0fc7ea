/-! LISTS that grow as they do: what n adds cost -/
section ZTE
variable {G : wv_G} {h h1 h' : wv_H} {w : wv_W} {fr : Nat} {KX : String → Nat → wv_W → Prop} {a : Nat} {t : wv_T}
def zcaps : List Nat := [0, 10, 15, 22, 33, 49, 73, 109, 163, 244, 366, 549]
/-- the room of a list after n adds -/
def zcap (n : Nat) : Nat := (zcaps.find? (fun c => Nat.ble n c)).getD 549
/-- the arrays made for n adds, and their room in all -/
def zgc (n : Nat) : Nat := (zcaps.filter (fun c => Nat.ble 1 c && Nat.ble c (zcap n))).length
def zgs (n : Nat) : Nat := (zcaps.filter (fun c => Nat.ble c (zcap n))).sum
theorem zcap_all : (List.range 400).all (fun n => decide (wl_cc n (zcap n) = zcap (n + 1)) && decide ((if n = zcap n then 1 else 0) + zgc n = zgc (n + 1)) && decide ((if n = zcap n then wl_nc (zcap n) else 0) + zgs n = zgs (n + 1)) && decide (zcap n ≤ 549)) = true := by decide +kernel
theorem zcap_s {n : Nat} (hn : n < 400) : wl_cc n (zcap n) = zcap (n + 1) ∧ (if n = zcap n then 1 else 0) + zgc n = zgc (n + 1) ∧ (if n = zcap n then wl_nc (zcap n) else 0) + zgs n = zgs (n + 1) ∧ zcap n ≤ 549 := by
  have := List.all_eq_true.mp zcap_all n (List.mem_range.mpr hn)
  simp only [Bool.and_eq_true, decide_eq_true_eq] at this
  exact ⟨this.1.1.1, this.1.1.2, this.1.2, this.2⟩
/-- a list that only grew -/
def zLx (h : wv_H) (a : Nat) (t : wv_T) (xs : List Nat) : Prop := ∃ md : Int32, h a = some (t, wo_L md (zcap xs.length) xs)
theorem zLx.keep {S : Nat → wv_T → Prop} {xs : List Nat} (hl : zLx h a t xs) (k : kp S h h1) (hn : ¬ S a t) : zLx h1 a t xs := by
  obtain ⟨md, h1⟩ := hl
  exact ⟨md, k _ _ h1 hn⟩
theorem zLx.is {xs : List Nat} (hl : zLx h a t xs) : wv_is G h a "java/util/ArrayList" := by
  obtain ⟨md, h1⟩ := hl
  exact z_isL h1
theorem zLx.size (hG : wv_G0 G) {xs : List Nat} (hl : zLx h a t xs) : wv_C G yJ2_size [.ref a] h 0 0 0 (fun r h' => r = .inl (some (.int (nI xs.length))) ∧ h' = h) := by
  obtain ⟨md, h1⟩ := hl
  exact wl_size hG h1
theorem zLx.get (hG : wv_G0 G) {i x : Nat} {xs : List Nat} (hl : zLx h a t xs) (hx : xs[i]? = some x) : wv_C G yJ2_get [.ref a, .int (nI i)] h 2 0 0 (fun r h' => r = .inl (some (va_rf (some x))) ∧ h' = h) := by
  obtain ⟨md, h1⟩ := hl
  exact wl_get hG h1 hx
theorem zLx.vsize (hG : wv_G0 G) {xs : List Nat} {K : Int32 → wv_W → Prop} (hl : zLx w.1 a t xs) (hf : 0 < fr) (hK : K (nI xs.length) w) : wv_cV G fr yJ2_size (some a) [] w (wv_rI K KX) := z_vI hl.is (hl.size hG) hf hK
theorem zLx.vget (hG : wv_G0 G) {i x : Nat} {xs : List Nat} {K : Option Nat → wv_W → Prop} (hl : zLx w.1 a t xs) (hx : xs[i]? = some x) (hf : 2 < fr) (hK : K (some x) w) : wv_cV G fr yJ2_get (some a) [.int (nI i)] w (wv_rA K KX) := z_vA hl.is (hl.get hG hx) hf hK
theorem zLx.nil (hb : h a = some (t, wo_L 0 0 [])) : zLx h a t [] := ⟨0, hb⟩
/-- one more: exactly what it costs -/
theorem zLx.cadd (hG : wv_G0 G) {xs : List Nat} {v : Nat} {K : Int32 → wv_W → Prop} (hl : zLx w.1 a t xs) (hv : wl_el G w.1 v) (hel : ∀ x ∈ xs, wl_el G w.1 x) (hlen : xs.length < 400) (hf : 6 < fr) (hc : zgc (xs.length + 1) - zgc xs.length ≤ w.2.1) (hs : zgs (xs.length + 1) - zgs xs.length ≤ w.2.2)
    (hK : ∀ h', zLx h' a t (xs ++ [v]) → (∀ b, b ≠ a → h' b = w.1 b) → K 1 (h', w.2.1 - (zgc (xs.length + 1) - zgc xs.length), w.2.2 - (zgs (xs.length + 1) - zgs xs.length))) : wv_cV G fr yJ2_add (some a) [va_rf (some v)] w (wv_rI K KX) := by
  obtain ⟨md, h2⟩ := hl
  obtain ⟨c1, c2, c3, c4⟩ := zcap_s hlen
  have ec : (if xs.length = zcap xs.length then 1 else 0) = zgc (xs.length + 1) - zgc xs.length := by omega
  have es : (if xs.length = zcap xs.length then wl_nc (zcap xs.length) else 0) = zgs (xs.length + 1) - zgs xs.length := by omega
  have hC := wl_add hG h2 (by omega) hv hel
  rw [ec, es] at hC
  refine ⟨a, rfl, z_isL h2, z_c hC hf hc hs ?_⟩
  rintro r h3 ⟨rfl, rfl⟩
  refine Or.inl ⟨1, rfl, hK _ ⟨md + 1, ?_⟩ (fun b hb => wv_up_ne hb)⟩
  rw [wv_up_self, c1, List.length_append]
  rfl
theorem zgc_le {n : Nat} (hn : n < 400) : zgc n ≤ zgc (n + 1) ∧ zgs n ≤ zgs (n + 1) := by
  obtain ⟨c1, c2, c3, c4⟩ := zcap_s hn
  omega
end ZTE
