/-! LISTS gone through by their iterators -/
section ZTO
variable {G : wv_G} {h h1 h' : wv_H} {w : wv_W} {fr : Nat} {KX : String → Nat → wv_W → Prop} {a b : Nat} {t tb : wv_T}
theorem zfI_has : wv_face "java/util/ArrayList$Itr" (⟨"java/util/Iterator", "hasNext", "()Z"⟩ : MethodName) yJ24_hasNext := ⟨q2202, q2204, q107, ⟨_, _, _, q2206⟩, ⟨by decide +kernel, by decide +kernel⟩, q2200, q2199, q2205, q2203, q2201⟩
theorem zfI_next : wv_face "java/util/ArrayList$Itr" (⟨"java/util/Iterator", "next", "()Ljava/lang/Object;"⟩ : MethodName) yJ24_next := ⟨q2211, q2213, q107, ⟨_, _, _, q2215⟩, ⟨by decide +kernel, by decide +kernel⟩, q2210, q2209, q2214, q2212, q2201⟩
/-- an iterator at the i-th of a list -/
def zIt (h : wv_H) (b a : Nat) (t : wv_T) (xs : List Nat) (i : Nat) : Prop := ∃ (md : Int32) (cap : Nat) (l : Int32), h a = some (t, wo_L md cap xs) ∧ h b = some ((1, 0, 0, 0), wl_it md a i l) ∧ i ≤ xs.length
theorem zIt.is {xs : List Nat} {i : Nat} (I : zIt h b a t xs i) : wv_is G h b RJ24 := by
  obtain ⟨md, cap, l, e1, e2, -⟩ := I
  exact z_is e2 ccJ24
/-- made: at the first -/
theorem zLx.iter (hG : wv_G0 G) {xs : List Nat} {K : Option Nat → wv_W → Prop} (hl : zLx w.1 a t xs) (hf : 2 < fr) (hc : 1 ≤ w.2.1) (hs : 4 ≤ w.2.2) (hK : ∀ b h', w.1 b = none → kp kn w.1 h' → zIt h' b a t xs 0 → K (some b) (h', w.2.1 - 1, w.2.2 - 4)) : wv_cV G fr yJ2_iterator (some a) [] w (wv_rA K KX) := by
  obtain ⟨md, e1⟩ := hl
  refine ⟨a, rfl, z_isL e1, z_c (wl_iterator hG e1) hf hc hs ?_⟩
  rintro r h' ⟨b, rfl, hb, rfl⟩
  have k : kp kn w.1 (wv_up w.1 b ((1, 0, 0, 0), wl_it md a 0 (-1))) := kp.new hb
  exact Or.inl ⟨_, rfl, hK b _ hb k ⟨md, _, -1, kn.at k e1, wv_up_self, Nat.zero_le _⟩⟩
theorem zIt.has (hG : wv_G0 G) {xs : List Nat} {i : Nat} {K : Int32 → wv_W → Prop} (I : zIt w.1 b a t xs i) (hf : 0 < fr) (hK : K (if i = xs.length then 0 else 1) w) : wv_cF G fr (⟨"java/util/Iterator", "hasNext", "()Z"⟩ : MethodName) (some b) [] w (wv_rI K KX) := by
  obtain ⟨md, cap, l, e1, e2, hi⟩ := I
  exact z_fI (z_is e2 ccJ24) zfI_has (wl_hasNext hG e1 e2 hi) hf hK
theorem zIt.next (hG : wv_G0 G) {xs : List Nat} {i x : Nat} {K : Option Nat → wv_W → Prop} (I : zIt w.1 b a t xs i) (hx : xs[i]? = some x) (hf : 1 < fr) (hK : ∀ h', kp (zTo b) w.1 h' → zIt h' b a t xs (i + 1) → K (some x) (h', w.2)) : wv_cF G fr (⟨"java/util/Iterator", "next", "()Ljava/lang/Object;"⟩ : MethodName) (some b) [] w (wv_rA K KX) := by
  obtain ⟨md, cap, l, e1, e2, hi⟩ := I
  have hlt := (List.getElem?_eq_some_iff.mp hx).1
  refine ⟨b, _, _, rfl, z_is e2 ccJ24, zfI_next, z_c (wl_next hG e1 e2 (by decide) hx) hf (Nat.zero_le _) (Nat.zero_le _) ?_⟩
  rintro r h' ⟨rfl, rfl⟩
  have k : kp (zTo b) w.1 (wv_up w.1 b ((1, 0, 0, 0), wl_it md a (i + 1) (nI i))) := kp.put e2 rfl
  have hab : a ≠ b := fun q => by rw [q, e2] at e1; cases e1
  exact Or.inl ⟨_, rfl, hK _ k ⟨md, cap, _, k _ _ e1 hab, wv_up_self, hlt⟩⟩
end ZTO
