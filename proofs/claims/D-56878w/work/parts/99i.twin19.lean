/-! THE REFERENCE: a run's objects made -/
section ZTM
variable {G : wv_G} {A B B' : zA} {σ σ' : zS} {h h0 h1 h2 h' : wv_H} {w : wv_W} {fr fr' kc ks : Nat} {P : wv_R → wv_H → Prop} {KX : String → Nat → wv_W → Prop} {a b : Nat} {t : wv_T}
theorem z31_init (hG : wv_G0 G) (ht : t.1 ≠ 0) {c n d : Int32} (hf : wv_fit .char c) : wv_C G yX31_init [.ref a, .int c, .int n, .int d] (wv_up h a (t, wo_o ciX31 [.int 0, .int 0, .int 0])) 2 0 0 (fun r h' => r = .inl none ∧ h' = wv_up h a (t, wo_o ciX31 [.int c, .int n, .int d])) := by
  refine wk_X31_init (v0 := some a) hG ⟨a, rfl, z_cV (h1 := wv_up h a (t, wo_o ciX31 [.int 0, .int 0, .int 0])) (wk_J23_init (v0 := some a) hG ⟨⟨a, rfl⟩, Nat.le_refl 1, rfl, rfl⟩) (by omega) ⟨hf, z_pt wv_up_self ht (by simp) (z_pt wv_up_self ht (by simp) (z_pt wv_up_self ht (by simp) ⟨rfl, ?_⟩))⟩⟩
  show wv_up (wv_up (wv_up (wv_up h a _) a _) a _) a _ = _
  rw [z_uu, z_uu, z_uu]
  rfl
theorem z29_init (hG : wv_G0 G) (ht : t.1 ≠ 0) {c1 c2 c3 c4 c5 c6 c7 c8 : Int32} (hf : wv_fit .char c1) : wv_C G yX29_init [.ref a, .int c1, .int c2, .int c3, .int c4, .int c5, .int c6, .int c7, .int c8] (wv_up h a (t, wo_o ciX29 [.int 0, .int 0, .int 0, .int 0, .int 0, .int 0, .int 0, .int 0])) 2 0 0 (fun r h' => r = .inl none ∧ h' = wv_up h a (t, wo_o ciX29 [.int c1, .int c2, .int c3, .int c4, .int c5, .int c6, .int c7, .int c8])) := by
  refine wk_X29_init (v0 := some a) hG ⟨a, rfl, z_cV (h1 := wv_up h a (t, wo_o ciX29 [.int 0, .int 0, .int 0, .int 0, .int 0, .int 0, .int 0, .int 0])) (wk_J23_init (v0 := some a) hG ⟨⟨a, rfl⟩, Nat.le_refl 1, rfl, rfl⟩) (by omega) ⟨hf, z_pt wv_up_self ht (by simp) (z_pt wv_up_self ht (by simp) (z_pt wv_up_self ht (by simp) (z_pt wv_up_self ht (by simp) (z_pt wv_up_self ht (by simp) (z_pt wv_up_self ht (by simp) (z_pt wv_up_self ht (by simp) (z_pt wv_up_self ht (by simp) ⟨rfl, ?_⟩)))))))⟩⟩
  show wv_up (wv_up (wv_up (wv_up (wv_up (wv_up (wv_up (wv_up (wv_up h a _) a _) a _) a _) a _) a _) a _) a _) a _ = _
  rw [z_uu, z_uu, z_uu, z_uu, z_uu, z_uu, z_uu, z_uu]
  rfl
/-- a thing of a run of the reference: its class, its fields -/
theorem z27_init (hG : wv_G0 G) {x : Int32} (ha : h a = none) : wv_C G yX27_init [.ref a, .int x] (wv_up h a ((144, 0, 0, 0), wo_o ciX27 [.int 0, va_rf none])) 1 1 4 (fun y h' => y = .inl none ∧ ∃ ar, ar ≠ a ∧ h ar = none ∧ h' a = some ((144, 0, 0, 0), wo_o ciX27 [.int x, va_rf (some ar)]) ∧ h' ar = some ((145, 0, 0, 0), wo_i (wv_A G 0) 4 (fun _ => 0)) ∧ kp kn h h') := by
  refine wk_X27_init (v0 := some a) hG ⟨⟨a, rfl⟩, Nat.le_refl _, z_na (N := 4) (145, 0, 0, 0) (by decide) zle zle (fun ar har _ => ?_)⟩
  have har : wv_up h a ((144, 0, 0, 0), wo_o ciX27 [.int 0, va_rf none]) ar = none := har
  have hne : ar ≠ a := fun q => by rw [q, wv_up_self] at har; cases har
  have har0 : h ar = none := by rw [wv_up_ne hne] at har; exact har
  refine z_pt (z_upo (Ne.symm hne) wv_up_self) (by decide) (by simp) (z_pt wv_up_self (by decide) (by simp) ⟨rfl, ar, hne, har0, wv_up_self, ?_, ?_⟩)
  · exact z_upo hne (z_upo hne wv_up_self)
  · intro b9 x hb9 _
    have q1 : b9 ≠ a := z_nw ha hb9
    have q2 : b9 ≠ ar := z_nw har0 hb9
    exact z_upo q1 (z_upo q1 (z_upo q2 (z_upo q1 hb9)))
end ZTM
