/-! THE REFERENCE: exceptions made; points asked; bits -/
section ZTN
variable {G : wv_G} {A B B' : zA} {σ σ' : zS} {h h0 h1 h2 h' : wv_H} {w : wv_W} {fr fr' kc ks : Nat} {P : wv_R → wv_H → Prop} {KX : String → Nat → wv_W → Prop} {a b : Nat} {t : wv_T}
theorem z30_init (hG : wv_G0 G) {n : Int32} (ht : t.1 ≠ 0) : wv_C G yX30_init [.ref a, .int n] (wv_up h a (t, wo_o ciX30 [va_rf none, va_rf none, va_rf none, va_rf none, va_rf none, .int 0, .int 0])) 5 0 0 (fun r h' => r = .inl none ∧ ∃ fs : List Value, fs.length = 7 ∧ fs[6]? = some (.int n) ∧ h' = wv_up h a (t, wo_o ciX30 fs)) := by
  refine wk_X30_init (v0 := some a) hG ⟨a, rfl, 4, 0, 0, _, z_J4 hG wv_up_self ht wv_excX30 rfl, by omega, Nat.zero_le _, Nat.zero_le _, ?_⟩
  rintro r h' ⟨rfl, fs, h1, rfl⟩
  have h1 : fs.length = 7 := h1
  rw [z_uu]
  refine Or.inl ⟨rfl, z_pp ht (by omega) ⟨rfl, fs.set 6 (.int n), by rw [List.length_set]; exact h1, ?_, rfl⟩⟩
  rw [List.getElem?_set]
  simp [h1]
theorem z28_init (hG : wv_G0 G) {ci : Nat} {fs : List Value} (ha : h a = some (t, wo_o ci fs)) (ht : t.1 ≠ 0) (he : wv_exc ci fs.length) (h4 : fs[4]? = some (va_rf none)) : wv_C G yX28_init [.ref a] h 5 0 0 (fun r h' => r = .inl none ∧ ∃ fs' : List Value, fs'.length = fs.length ∧ h' = wv_up h a (t, wo_o ci fs')) :=
  wk_X28_init (v0 := some a) hG ⟨a, rfl, 4, 0, 0, _, z_J4 hG ha ht he h4, by omega, Nat.zero_le _, Nat.zero_le _, by rintro r h' ⟨rfl, h1⟩; exact Or.inl ⟨rfl, rfl, h1⟩⟩
/-- a point of the reference: kind, name, the object's class, the class it is in, method, index, value, held -/
abbrev zpnO (c n ty pc m ix v hd : Int32) : wv_O := wo_o ciX29 [.int c, .int n, .int ty, .int pc, .int m, .int ix, .int v, .int hd]
variable {c n ty pc m ix v hd : Int32}
theorem z29_kind (hG : wv_G0 G) (hb : h b = some (t, zpnO c n ty pc m ix v hd)) (hf : wv_fit .char c) : wv_C G yX29_kind [.ref b] h 0 0 0 (fun r h' => r = .inl (some (.int c)) ∧ h' = h) := wk_X29_kind (v0 := some b) hG (z_gI hb rfl ⟨hf.1, rfl, rfl⟩)
theorem z29_name (hG : wv_G0 G) (hb : h b = some (t, zpnO c n ty pc m ix v hd)) : wv_C G yX29_name [.ref b] h 0 0 0 (fun r h' => r = .inl (some (.int n)) ∧ h' = h) := wk_X29_name (v0 := some b) hG (z_gI hb rfl ⟨rfl, rfl⟩)
theorem z29_placeClass (hG : wv_G0 G) (hb : h b = some (t, zpnO c n ty pc m ix v hd)) : wv_C G yX29_placeClass [.ref b] h 0 0 0 (fun r h' => r = .inl (some (.int pc)) ∧ h' = h) := wk_X29_placeClass (v0 := some b) hG (z_gI hb rfl ⟨rfl, rfl⟩)
theorem z29_method (hG : wv_G0 G) (hb : h b = some (t, zpnO c n ty pc m ix v hd)) : wv_C G yX29_method [.ref b] h 0 0 0 (fun r h' => r = .inl (some (.int m)) ∧ h' = h) := wk_X29_method (v0 := some b) hG (z_gI hb rfl ⟨rfl, rfl⟩)
theorem z29_index (hG : wv_G0 G) (hb : h b = some (t, zpnO c n ty pc m ix v hd)) : wv_C G yX29_index [.ref b] h 0 0 0 (fun r h' => r = .inl (some (.int ix)) ∧ h' = h) := wk_X29_index (v0 := some b) hG (z_gI hb rfl ⟨rfl, rfl⟩)
theorem z29_held (hG : wv_G0 G) (hb : h b = some (t, zpnO c n ty pc m ix v hd)) : wv_C G yX29_held [.ref b] h 0 0 0 (fun r h' => r = .inl (some (.int hd)) ∧ h' = h) := wk_X29_held (v0 := some b) hG (z_gI hb rfl ⟨rfl, rfl⟩)
theorem z26_isBit (hG : wv_G0 G) {k : Nat} (hk : k < 32) (x : Int32) : wv_C G yX26_isBit [.ref a, .int x, .int (nI k)] h 0 0 0 (fun r h' => r = .inl (some (.int (zbI (zb x k)))) ∧ h' = h) := by
  refine wk_X26_isBit (v0 := some a) hG ?_
  have e : (x >>> (nI k &&& 31)) &&& 1 = if zb x k = true then 1 else 0 := zb_shr1 hk
  refine ⟨fun q => ?_, fun q => ?_⟩
  · have hz : zb x k = false := by
      cases hz : zb x k with
      | false => rfl
      | true => rw [e, hz] at q; exact absurd rfl q
    rw [hz]
    exact ⟨rfl, rfl, rfl⟩
  · have hz : zb x k = true := by
      cases hz : zb x k with
      | true => rfl
      | false => rw [e, hz] at q; exact absurd q (by decide)
    rw [hz]
    exact ⟨rfl, rfl, rfl⟩
end ZTN
