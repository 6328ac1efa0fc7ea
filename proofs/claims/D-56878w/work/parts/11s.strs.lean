/-! the String constants -/
section WVS
/-- the String constants: hash, bytes -/
def wv_sx : List (Int32 × List Int32) := [(96417, [97, 100, 100]), (3045982, [99, 97, 108, 108]), (3343854, [109, 97, 107, 101]), (102230, [103, 101, 116]), (113762, [115, 101, 116]), (110339814, [116, 104, 114, 111, 119]), ((-1224577496), [104, 97, 110, 100, 108, 101]), (96417, [97, 100, 100]), (3045982, [99, 97, 108, 108]), (3343854, [109, 97, 107, 101]), (102230, [103, 101, 116]), (113762, [115, 101, 116]), (110339814, [116, 104, 114, 111, 119]), (1389128103, [99, 101, 103, 104, 115, 109, 110, 116, 119, 118, 102, 38, 124, 33]), (109425, [110, 116, 119]), (3079077, [102, 38, 124, 33]), (1302, [38, 124]), (93513381, [98, 97, 120, 102, 114]), (3051961, [99, 103, 115, 104])]
def wv_sqz : List (String × Nat × Int32 × List Int32) := (wv_str.zip wv_sx).map (fun q => (q.1.1, q.1.2, q.2.1, q.2.2))
def wv_scond (q : String × Nat × Int32 × List Int32) : List Cond := [.exactly (.string q.1 q.2.1) "java/lang/String", .eq (.field (.string q.1 q.2.1) "java/lang/String" "coder" "B") (.int 0), .arrayOf (.field (.string q.1 q.2.1) "java/lang/String" "value" "[B") .byte, .eq (.length (.field (.string q.1 q.2.1) "java/lang/String" "value" "[B")) (.int (Int32.ofNat q.2.2.2.length))] ++ ((List.range q.2.2.2.length).map (fun j => .eq (.elem (.field (.string q.1 q.2.1) "java/lang/String" "value" "[B") (.int (Int32.ofNat j))) (.int (q.2.2.2.getD j 0))) ++ [.eq (.field (.string q.1 q.2.1) "java/lang/String" "hash" "I") (.int q.2.2.1)])
def wv_sord : List (String × Nat × Int32 × List Int32) := [0, 1, 2, 3, 4, 5, 6, 7, 8, 9, 10, 11, 12, 13, 14, 15, 16, 17, 18].map (fun k => wv_sqz.getD k ("", 0, 0, []))
variable {G : wv_G}
set_option maxRecDepth 100000 in
set_option maxHeartbeats 4000000 in
theorem wv_sall {b0 : Nat} (h : (Jvm.Cond.and given_1 narrow_1).before #[Value.ref b0] G.2.1 = true) : ∀ q ∈ wv_sqz, ∀ x ∈ wv_scond q, x.before #[Value.ref b0] G.2.1 = true := by
  have hs : ∀ x ∈ wv_sord.flatMap wv_scond, x.before #[Value.ref b0] G.2.1 = true := by
    intro x hx
    refine flat_of_before _ h x ?_
    revert hx
    refine fun hx => List.Sublist.subset (List.isSublist_iff_sublist.mp ?_) hx
    decide +kernel
  intro q hq x hx
  exact hs x (List.mem_flatMap.mpr ⟨q, (by decide +kernel : ∀ q ∈ wv_sqz, q ∈ wv_sord) q hq, hx⟩)
/-- what is known of the k-th String constant -/
def wv_strF (G : wv_G) (k : Nat) (hs : Int32) (bs : List Int32) : Prop :=
  va_O "java/lang/String" (G.2.2.2.2 (400 + k)) (fun q => wv_b G ≤ q) G.2.1 G.2.1.heap ∧ va_OF "java/lang/String" "coder" "B" (.int 0) (G.2.2.2.2 (400 + k)) (fun q => wv_b G ≤ q) G.2.1 G.2.1.heap ∧ va_OF "java/lang/String" "hash" "I" (.int hs) (G.2.2.2.2 (400 + k)) (fun q => wv_b G ≤ q) G.2.1 G.2.1.heap ∧ va_OF "java/lang/String" "value" "[B" (.ref (G.2.2.2.2 (450 + k))) (G.2.2.2.2 (400 + k)) (fun q => wv_b G ≤ q) G.2.1 G.2.1.heap ∧ va_T .byte (G.2.2.2.2 (450 + k)) bs.length (fun j => .int (bs.getD j 0)) (fun q => wv_b G ≤ q) G.2.1 G.2.1.heap
theorem wv_strs (hG : wv_G0 G) {k : Nat} {q : Int32 × List Int32} (hq : wv_sx[k]? = some q) : wv_strF G k q.1 q.2 := by
  obtain ⟨-, -, -, b0, hn, hk⟩ := hG
  have hlt : k < 19 := (List.getElem?_eq_some_iff.mp hq).1
  have hlen : wv_str.length = 19 := rfl
  obtain ⟨z, hz⟩ : ∃ z, wv_str[k]? = some z := ⟨_, List.getElem?_eq_getElem (by omega)⟩
  have hm : (z.1, z.2, q.1, q.2) ∈ wv_sqz := by
    refine List.mem_of_getElem? (i := k) ?_
    have h9 := (List.getElem?_zip_eq_some (l₁ := wv_str) (l₂ := wv_sx) (z := (z, q)) (i := k)).mpr ⟨hz, hq⟩
    rw [wv_sqz, List.getElem?_map, h9]
    rfl
  have hw := wv_sall hn _ hm
  have hS : (Term.string z.1 z.2).eval #[Value.ref b0] G.2.1 none [] G.2.1 = some (.ref (G.2.2.2.2 (400 + k))) := by
    refine hk (400 + k) _ ?_
    unfold wv_tm
    rw [if_neg (by omega), if_neg (by omega), if_neg (by omega), if_neg (by omega), if_pos (by omega), show 400 + k - 400 = k by omega, hz]
    rfl
  have hV : (Term.field (.string z.1 z.2) "java/lang/String" "value" "[B").eval #[Value.ref b0] G.2.1 none [] G.2.1 = some (.ref (G.2.2.2.2 (450 + k))) := by
    refine hk (450 + k) _ ?_
    unfold wv_tm
    rw [if_neg (by omega), if_neg (by omega), if_neg (by omega), if_neg (by omega), if_neg (by omega), if_pos (by omega), show 450 + k - 450 = k by omega, hz]
    rfl
  have hA : ∀ a : Nat, a < G.2.1.heap.size → ¬ (fun q => wv_b G ≤ q) a := fun a ha => Nat.not_le.mpr ha
  obtain ⟨a, c, cA, kA, q1, q2, q3, q4, q5, q6, -⟩ := Cond.exactly_spec (args := #[Value.ref b0]) (first := G.2.1) (o := none) (s := G.2.1) (idx := []) (t := .string z.1 z.2) (cls := "java/lang/String") (hw _ (by simp [wv_scond]))
  have hb : q.2.length < 2 ^ 31 := (by decide : ∀ q ∈ wv_sx, q.2.length < 2 ^ 31) q (List.mem_of_getElem? hq)
  obtain ⟨t, ht, hT⟩ := va_Tof (N := q.2.length) (f := fun j => .int (q.2.getD j 0)) (A := fun q => wv_b G ≤ q) hb (hw (.arrayOf (.field (.string z.1 z.2) "java/lang/String" "value" "[B") .byte) (by simp [wv_scond])) (va_eqt (hw (.eq (.length (.field (.string z.1 z.2) "java/lang/String" "value" "[B")) (.int (Int32.ofNat q.2.length))) (by simp [wv_scond]))) (fun j hj => va_eqt (hw (.eq (.elem (.field (.string z.1 z.2) "java/lang/String" "value" "[B") (.int (Int32.ofNat j))) (.int (q.2.getD j 0))) (by
    unfold wv_scond
    exact List.mem_append_right _ (List.mem_append_left _ (List.mem_map.mpr ⟨j, List.mem_range.mpr hj, rfl⟩))))) hA
  cases hS.symm.trans q1
  cases hV.symm.trans ht
  exact ⟨⟨cA, q3, q5, by rw [q6]; exact q2, hA _ (Array.getElem?_eq_some_iff.mp q3).1⟩, vk_OFof hS (va_eqt (hw _ (by simp [wv_scond]))) hA, vk_OFof hS (va_eqt (hw (.eq (.field (.string z.1 z.2) "java/lang/String" "hash" "I") (.int q.1)) (by simp [wv_scond]))) hA, vk_OFof hS hV hA, hT⟩
end WVS
