/-! LISTS that grow and shrink, of at most twenty: their room is what their longest needed -/
section ZTOA
variable {G : wv_G} {h h1 h' : wv_H} {w : wv_W} {fr : Nat} {KX : String → Nat → wv_W → Prop} {a b : Nat} {t tb : wv_T}
def zLy (h : wv_H) (a : Nat) (t : wv_T) (xs : List Nat) : Prop := ∃ (md : Int32) (m : Nat), xs.length ≤ m ∧ m ≤ 20 ∧ h a = some (t, wo_L md (zcap m) xs)
theorem zcy_all : (List.range 21).all (fun m => (List.range 20).all (fun n => Nat.blt m n || (decide (wl_cc n (zcap m) = zcap (max m (n + 1))) && decide ((if n = zcap m then wl_nc (zcap m) else 0) ≤ 22) && decide (zcap m ≤ 60000)))) = true := by decide +kernel
theorem zcy_s {m n : Nat} (hm : m ≤ 20) (hn : n < 20) (h : n ≤ m) : wl_cc n (zcap m) = zcap (max m (n + 1)) ∧ (if n = zcap m then wl_nc (zcap m) else 0) ≤ 22 ∧ zcap m ≤ 60000 := by
  have h1 := List.all_eq_true.mp zcy_all m (List.mem_range.mpr (by omega))
  have h2 := List.all_eq_true.mp h1 n (List.mem_range.mpr hn)
  have h3 : Nat.blt m n = false := by
    cases hb : Nat.blt m n with
    | false => rfl
    | true =>
      have := Nat.blt_eq.mp hb
      omega
  rw [h3, Bool.false_or] at h2
  simp only [Bool.and_eq_true, decide_eq_true_eq] at h2
  exact ⟨h2.1.1, h2.1.2, h2.2⟩
theorem zLy.keep {S : Nat → wv_T → Prop} {xs : List Nat} (hl : zLy h a t xs) (k : kp S h h1) (hn : ¬ S a t) : zLy h1 a t xs := by
  obtain ⟨md, m, e1, e2, e3⟩ := hl
  exact ⟨md, m, e1, e2, k _ _ e3 hn⟩
theorem zLy.is {xs : List Nat} (hl : zLy h a t xs) : wv_is G h a "java/util/ArrayList" := by
  obtain ⟨md, m, e1, e2, e3⟩ := hl
  exact z_isL e3
theorem zLy.size (hG : wv_G0 G) {xs : List Nat} (hl : zLy h a t xs) : wv_C G yJ2_size [.ref a] h 0 0 0 (fun r h' => r = .inl (some (.int (nI xs.length))) ∧ h' = h) := by
  obtain ⟨md, m, e1, e2, e3⟩ := hl
  exact wl_size hG e3
theorem zLy.vsize (hG : wv_G0 G) {xs : List Nat} {K : Int32 → wv_W → Prop} (hl : zLy w.1 a t xs) (hf : 0 < fr) (hK : K (nI xs.length) w) : wv_cV G fr yJ2_size (some a) [] w (wv_rI K KX) := z_vI hl.is (hl.size hG) hf hK
theorem zLy.nil (hb : h a = some (t, wo_L 0 0 [])) : zLy h a t [] := ⟨0, 0, Nat.le_refl _, Nat.zero_le _, hb⟩
theorem zLy.len {xs : List Nat} (hl : zLy h a t xs) : xs.length ≤ 20 := by
  obtain ⟨md, m, e1, e2, e3⟩ := hl
  omega
theorem z_iter (hG : wv_G0 G) {md : Int32} {cap : Nat} {xs : List Nat} {K : Option Nat → wv_W → Prop} (e1 : w.1 a = some (t, wo_L md cap xs)) (hf : 2 < fr) (hc : 1 ≤ w.2.1) (hs : 4 ≤ w.2.2) (hK : ∀ b h', w.1 b = none → kp kn w.1 h' → zIt h' b a t xs 0 → K (some b) (h', w.2.1 - 1, w.2.2 - 4)) : wv_cV G fr yJ2_iterator (some a) [] w (wv_rA K KX) := by
  refine ⟨a, rfl, z_isL e1, z_c (wl_iterator hG e1) hf hc hs ?_⟩
  rintro r h' ⟨b, rfl, hb, rfl⟩
  have k : kp kn w.1 (wv_up w.1 b ((1, 0, 0, 0), wl_it md a 0 (-1))) := kp.new hb
  exact Or.inl ⟨_, rfl, hK b _ hb k ⟨md, _, -1, kn.at k e1, wv_up_self, Nat.zero_le _⟩⟩
theorem zLy.iter (hG : wv_G0 G) {xs : List Nat} {K : Option Nat → wv_W → Prop} (hl : zLy w.1 a t xs) (hf : 2 < fr) (hc : 1 ≤ w.2.1) (hs : 4 ≤ w.2.2) (hK : ∀ b h', w.1 b = none → kp kn w.1 h' → zIt h' b a t xs 0 → K (some b) (h', w.2.1 - 1, w.2.2 - 4)) : wv_cV G fr yJ2_iterator (some a) [] w (wv_rA K KX) := by
  obtain ⟨md, m, -, -, e1⟩ := hl
  exact z_iter hG e1 hf hc hs hK
theorem zL.iter (hG : wv_G0 G) {xs : List Nat} {K : Option Nat → wv_W → Prop} (hl : zL w.1 a t xs) (hf : 2 < fr) (hc : 1 ≤ w.2.1) (hs : 4 ≤ w.2.2) (hK : ∀ b h', w.1 b = none → kp kn w.1 h' → zIt h' b a t xs 0 → K (some b) (h', w.2.1 - 1, w.2.2 - 4)) : wv_cV G fr yJ2_iterator (some a) [] w (wv_rA K KX) := by
  obtain ⟨md, cap, -, e1⟩ := hl
  exact z_iter hG e1 hf hc hs hK
theorem zIt.keep {S : Nat → wv_T → Prop} {xs : List Nat} {i : Nat} (I : zIt h b a t xs i) (k : kp S h h1) (ha : ¬ S a t) (hb : ¬ S b (1, 0, 0, 0)) : zIt h1 b a t xs i := by
  obtain ⟨md, cap, l, e1, e2, hi⟩ := I
  exact ⟨md, cap, l, k _ _ e1 ha, k _ _ e2 hb, hi⟩
/-- one more: at most one array of 22 -/
theorem zLy.cadd (hG : wv_G0 G) {xs : List Nat} {v : Nat} {K : Int32 → wv_W → Prop} (hl : zLy w.1 a t xs) (hv : wl_el G w.1 v) (hel : ∀ x ∈ xs, wl_el G w.1 x) (hlen : xs.length < 20) (hf : 6 < fr) (hc : 1 ≤ w.2.1) (hs : 22 ≤ w.2.2)
    (hK : ∀ h' c s, zLy h' a t (xs ++ [v]) → (∀ b, b ≠ a → h' b = w.1 b) → w.2.1 - 1 ≤ c → w.2.2 - 22 ≤ s → K 1 (h', c, s)) : wv_cV G fr yJ2_add (some a) [va_rf (some v)] w (wv_rI K KX) := by
  obtain ⟨md, m, e1, e2, h2⟩ := hl
  obtain ⟨c1, c2, c3⟩ := zcy_s e2 hlen e1
  have hC := wl_add hG h2 c3 hv hel
  have c4 : (if xs.length = zcap m then 1 else 0) ≤ 1 := by split <;> decide
  refine ⟨a, rfl, z_isL h2, z_c hC hf (Nat.le_trans c4 hc) (Nat.le_trans c2 hs) ?_⟩
  rintro r h3 ⟨rfl, rfl⟩
  refine Or.inl ⟨1, rfl, hK _ _ _ ⟨md + 1, max m (xs.length + 1), ?_, by omega, ?_⟩ (fun b hb => wv_up_ne hb) (by omega) (by omega)⟩
  · rw [List.length_append]
    exact Nat.le_max_right _ _
  · rw [wv_up_self, c1]
/-- the last taken off -/
theorem zLy.pop (hG : wv_G0 G) {xs : List Nat} {x n : Nat} {K : Option Nat → wv_W → Prop} (hl : zLy w.1 a t (xs ++ [x])) (hn : n = xs.length) (hf : 2 < fr) (hK : ∀ h', zLy h' a t xs → (∀ b, b ≠ a → h' b = w.1 b) → K (some x) (h', w.2)) : wv_cV G fr yJ2_remove (some a) [.int (nI n)] w (wv_rA K KX) := by
  subst hn
  obtain ⟨md, m, e1, e2, h2⟩ := hl
  refine ⟨a, rfl, z_isL h2, z_c (wl_removeLast hG h2) hf (Nat.zero_le _) (Nat.zero_le _) ?_⟩
  rintro r h3 ⟨rfl, rfl⟩
  rw [List.length_append] at e1
  exact Or.inl ⟨_, rfl, hK _ ⟨md + 1, m, by omega, e2, wv_up_self⟩ (fun b hb => wv_up_ne hb)⟩
end ZTOA
