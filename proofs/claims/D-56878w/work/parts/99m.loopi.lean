/-! LOOPS whose counter lies in the world: by an invariant with a number -/
section ZTQ
variable {G : wv_G} {h h1 h' : wv_H} {a b : Nat} {t : wv_T}
theorem z_loopI {A : Type} {F : (A → wv_W → Prop) → A → wv_W → Prop} {a0 : A} {w0 : wv_W} (n : Nat) (I : Nat → A → wv_W → Prop) (h0 : I 0 a0 w0) (hu : ∀ i j a w, i ≤ n → j ≤ n → I i a w → I j a w → i = j) (hs : ∀ (K : A → wv_W → Prop) (i : Nat) (a : A) (w : wv_W), i ≤ n → I i a w → (∀ a' w', i < n → I (i + 1) a' w' → K a' w') → F K a w) : wv_L F a0 w0 := by
  classical
  have mu : ∀ (i : Nat) (a : A) (w : wv_W), i ≤ n → I i a w → (if h : ∃ i, i ≤ n ∧ I i a w then Classical.choose h else 0) = i := by
    intro i a w hi hI
    have h : ∃ i, i ≤ n ∧ I i a w := ⟨i, hi, hI⟩
    rw [dif_pos h]
    exact hu _ _ _ _ (Classical.choose_spec h).1 hi (Classical.choose_spec h).2 hI
  refine ⟨fun a w => ∃ i, i ≤ n ∧ I i a w, fun a w => n - (if h : ∃ i, i ≤ n ∧ I i a w then Classical.choose h else 0), ⟨0, Nat.zero_le _, h0⟩, ?_⟩
  rintro a w ⟨i, hi, hI⟩
  refine hs _ i a w hi hI (fun a' w' hlt hI' => ⟨⟨i + 1, hlt, hI'⟩, ?_⟩)
  show n - (if h : ∃ i, i ≤ n ∧ I i a' w' then Classical.choose h else 0) < n - (if h : ∃ i, i ≤ n ∧ I i a w then Classical.choose h else 0)
  rw [mu i a w hi hI, mu (i + 1) a' w' hlt hI']
  omega
theorem zIt.unique {xs : List Nat} {i j : Nat} (hn : xs.length < 2 ^ 31) (I : zIt h b a t xs i) (J : zIt h b a t xs j) : i = j := by
  obtain ⟨md, cap, l, e1, e2, hi⟩ := I
  obtain ⟨md', cap', l', e1', e2', hj⟩ := J
  rw [e2] at e2'
  have h1 := Option.some.inj e2'
  simp [wl_it] at h1
  exact (nI_eq (a := i) (b := j) (by omega) (by omega)).mp h1.1
end ZTQ
