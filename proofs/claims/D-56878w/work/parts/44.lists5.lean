/-! STRINGS: the constants -/
section WL5
variable {G : wv_G} {h : wv_H} {fr kc ks : Nat} {P : wv_R → wv_H → Prop}
/-- the k-th String constant -/
def wst (G : wv_G) (k : Nat) : Nat := G.2.2.2.2 (400 + k)
theorem wst_is {k : Nat} (hk : k < 19) : wv_is G h (wst G k) "java/lang/String" := Or.inr (Or.inr (Or.inr ⟨k, hk, rfl, rfl⟩))
theorem wst_hash (hG : wv_G0 G) {k : Nat} {q : Int32 × List Int32} (hq : wv_sx[k]? = some q) : wv_C G yJ8_hashCode [va_rf (some (wst G k))] h 0 0 0 (fun r h' => r = .inl (some (.int q.1)) ∧ h' = h) := by
  refine wk_J8_hashCode hG ?_
  have h0 : ¬ q.1 = 0 := (by decide : ∀ q ∈ wv_sx, ¬ q.1 = 0) q (List.mem_of_getElem? hq)
  exact ⟨k, q, hq, rfl, fun _ => ⟨rfl, rfl⟩, fun q => absurd q h0⟩
theorem wst_eq (hG : wv_G0 G) {a : Option Nat} : wv_C G yJ8_equals [a.elim .null .ref, va_rf a] h 0 0 0 (fun r h' => r = .inl (some (.int 1)) ∧ h' = h) := by
  have e : a.elim Value.null Value.ref = va_rf a := by cases a <;> rfl
  rw [e]
  exact wk_J8_equals hG ⟨fun q => absurd rfl q, fun _ => ⟨rfl, rfl, rfl⟩⟩
theorem wst_isLatin1 (hG : wv_G0 G) {k : Nat} (hk : k < 19) : wv_C G yJ8_isLatin1 [va_rf (some (wst G k))] h 0 0 0 (fun r h' => r = .inl (some (.int 1)) ∧ h' = h) :=
  wk_J8_isLatin1 hG ⟨fun q => absurd q (by decide), fun _ => ⟨k, hk, rfl, fun q => absurd rfl q, fun _ => ⟨rfl, rfl, rfl⟩⟩⟩
theorem wst_coder (hG : wv_G0 G) {k : Nat} (hk : k < 19) : wv_C G yJ8_coder [va_rf (some (wst G k))] h 0 0 0 (fun r h' => r = .inl (some (.int 0)) ∧ h' = h) :=
  wk_J8_coder hG ⟨fun q => absurd q (by decide), fun _ => ⟨k, hk, rfl, rfl, rfl, rfl⟩⟩
theorem wst_len (hG : wv_G0 G) {k : Nat} {q : Int32 × List Int32} (hq : wv_sx[k]? = some q) : wv_C G yJ8_length [va_rf (some (wst G k))] h 1 0 0 (fun r h' => r = .inl (some (.int (nI q.2.length))) ∧ h' = h) := by
  have hk : k < 19 := (List.getElem?_eq_some_iff.mp hq).1
  refine wk_J8_length hG ⟨k, hk, rfl, k, q, hq, rfl, wst G k, rfl, wst_is hk, 0, 0, 0, _, wst_coder hG hk, by omega, Nat.zero_le _, Nat.zero_le _, ?_⟩
  rintro r h' ⟨rfl, rfl⟩
  refine Or.inl ⟨_, rfl, ?_, rfl⟩
  have hb : q.2.length < 2 ^ 31 := (by decide : ∀ q ∈ wv_sx, q.2.length < 2 ^ 31) q (List.mem_of_getElem? hq)
  rw [pk_shrN hb ((0 : Int32) &&& 31) 0 (by decide)]
  simp
theorem wst_ck (hG : wv_G0 G) {i n : Nat} (hi : i < n) (hn : n < 2 ^ 31) : wv_C G yJ8_checkIndex [.int (nI i), .int (nI n)] h 1 0 0 (fun r h' => r = .inl none ∧ h' = h) := by
  refine wk_J8_checkIndex hG fun x => ⟨0, 0, 0, _, wl_ck0 hG hi hn, by omega, Nat.zero_le _, Nat.zero_le _, ?_⟩
  rintro r h' ⟨rfl, rfl⟩
  exact Or.inl ⟨_, rfl, rfl, rfl⟩
theorem wst_char (hG : wv_G0 G) {k i : Nat} {q : Int32 × List Int32} (hq : wv_sx[k]? = some q) (hi : i < q.2.length) : wv_C G yJ8_charAt [va_rf (some (wst G k)), .int (nI i)] h 3 0 0 (fun r h' => r = .inl (some (.int (q.2.getD i 0))) ∧ h' = h) := by
  have hk : k < 19 := (List.getElem?_eq_some_iff.mp hq).1
  have hm := List.mem_of_getElem? hq
  have hb : q.2.length < 2 ^ 31 := (by decide : ∀ q ∈ wv_sx, q.2.length < 2 ^ 31) q hm
  have hc : ∀ b ∈ q.2, (Int32.toUInt32 (b &&& (255 : Int32)) % 65536).toInt32 = b ∧ narrow .char (.int b) = .int b := (by decide +kernel : ∀ q ∈ wv_sx, ∀ b ∈ q.2, (Int32.toUInt32 (b &&& (255 : Int32)) % 65536).toInt32 = b ∧ narrow .char (.int b) = .int b) q hm
  have hg : q.2.getD i 0 ∈ q.2 := by
    rw [List.getD_eq_getElem?_getD, List.getElem?_eq_getElem hi]
    exact List.getElem_mem hi
  obtain ⟨c1, c2⟩ := hc _ hg
  have hca : wv_C G yJ17_charAt [va_rf (some (G.2.2.2.2 (450 + k))), .int (nI i)] h 2 0 0 (fun r h' => r = .inl (some (.int (q.2.getD i 0))) ∧ h' = h) := by
    refine wk_J17_charAt hG ⟨k, q, hq, rfl, 1, 0, 0, _, wst_ck hG hi hb, by omega, Nat.zero_le _, Nat.zero_le _, ?_⟩
    rintro r h' ⟨rfl, rfl⟩
    refine Or.inl ⟨rfl, k, q, hq, rfl, vp_in_nI hi hb, ?_⟩
    rw [nI_clamp (by omega)]
    dsimp only
    rw [c1]
    exact ⟨c2, rfl, rfl⟩
  refine wk_J8_charAt hG ⟨wst G k, rfl, wst_is hk, 0, 0, 0, _, wst_isLatin1 hG hk, by omega, Nat.zero_le _, Nat.zero_le _, ?_⟩
  rintro r h' ⟨rfl, rfl⟩
  refine Or.inl ⟨_, rfl, fun q => absurd q (by decide), fun _ => ⟨k, hk, rfl, 2, 0, 0, _, hca, by omega, Nat.zero_le _, Nat.zero_le _, ?_⟩⟩
  rintro r h' ⟨rfl, rfl⟩
  exact Or.inl ⟨_, rfl, c2, rfl, rfl⟩
/-- the words of steps are one object in both classes -/
theorem wst_same (hG : wv_G0 G) : wst G 0 = wst G 7 ∧ wst G 1 = wst G 8 ∧ wst G 2 = wst G 9 ∧ wst G 3 = wst G 10 ∧ wst G 4 = wst G 11 ∧ wst G 5 = wst G 12 := by
  obtain ⟨-, -, -, b0, hn, hk⟩ := hG
  have key : ∀ i j : Nat, ∀ p q : String × Nat, wv_str[i]? = some p → wv_str[j]? = some q → (Cond.eq (.string p.1 p.2) (.string q.1 q.2)).before #[Value.ref b0] G.2.1 = true → wst G i = wst G j := by
    intro i j p q hp hq he
    have hi : i < 19 := (List.getElem?_eq_some_iff.mp hp).1
    have hj : j < 19 := (List.getElem?_eq_some_iff.mp hq).1
    have e1 : wv_tm (400 + i) = some (.string p.1 p.2) := by
      unfold wv_tm
      rw [if_neg (by omega), if_neg (by omega), if_neg (by omega), if_neg (by omega), if_pos (by omega), show 400 + i - 400 = i by omega, hp]
      rfl
    have e2 : wv_tm (400 + j) = some (.string q.1 q.2) := by
      unfold wv_tm
      rw [if_neg (by omega), if_neg (by omega), if_neg (by omega), if_neg (by omega), if_pos (by omega), show 400 + j - 400 = j by omega, hq]
      rfl
    have h1 := hk _ _ e1
    have h2 := hk _ _ e2
    have h3 : (Term.string p.1 p.2).eval #[Value.ref b0] G.2.1 none [] G.2.1 = some (.ref (G.2.2.2.2 (400 + j))) := va_eqv he h2
    exact Value.ref.inj (Option.some.inj (h1.symm.trans h3))
  have hs := flat_of_before _ hn
  exact ⟨key 0 7 _ _ rfl rfl (hs _ (by decide +kernel)), key 1 8 _ _ rfl rfl (hs _ (by decide +kernel)), key 2 9 _ _ rfl rfl (hs _ (by decide +kernel)), key 3 10 _ _ rfl rfl (hs _ (by decide +kernel)), key 4 11 _ _ rfl rfl (hs _ (by decide +kernel)), key 5 12 _ _ rfl rfl (hs _ (by decide +kernel))⟩
end WL5
