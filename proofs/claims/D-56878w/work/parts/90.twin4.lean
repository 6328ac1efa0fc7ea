/-! THE REFERENCE: precede; letters in a row; patterns told -/
section ZT4
variable {G : wv_G} {A B : zA} {σ σ' : zS} {h h0 h1 h2 h' : wv_H} {w : wv_W} {fr fr' kc ks : Nat} {P : wv_R → wv_H → Prop} {KX : String → Nat → wv_W → Prop} {a b c L : Nat} {k m n r : Nat} {t : wv_T} {x y v th : Int32}
theorem z44 (i j : Nat) : (4 : Int32) * nI i + nI j = nI (4 * i + j) := by
  rw [show (4 : Int32) = nI 4 by decide, pk_mul, nI_add]
theorem z4_precede25 (hG : wv_G0 G) (M : zMf G B σ th L h) {x y : Int32} {b c : Bool} (hc : c = decide (zir x 0 3 = true ∧ zir y 0 3 = true ∧ ¬ x = y)) : vc_X4_precede_25 G 3 (zTw G B σ L h (zeE x y) (.int 0) (fun r h' => r = .inl (some (.int (zbI (σ.2.2.2 (zAt x) (zAt y))))) ∧ zTN G B (zprec σ (zAt x) (zAt y) b) L h h')) (some (B 100 0 0)) x y (zbI b) (zbI c) (some (B 100 0 0)) (h, 0, 0) := by
  refine ⟨B 100 0 0, rfl, M.is, z_c (z4_checked hG M c) (by omega) (Nat.zero_le _) (Nat.zero_le _) ?_⟩
  rintro z h1 ⟨rfl, M1, k1⟩
  refine Or.inl ⟨_, rfl, ?_⟩
  cases c with
  | false => exact ⟨fun q => absurd q (by decide), fun _ => ⟨rfl, zTw.bad 1 (by unfold zeE; rw [if_neg (of_decide_eq_false hc.symm)]) (by decide) M1 (k1.mono z100T)⟩⟩
  | true =>
    obtain ⟨e1, e2, e3⟩ := of_decide_eq_true hc.symm
    have hc0 : zeE x y = 0 := by unfold zeE; rw [if_pos ⟨e1, e2, e3⟩]
    rw [zir3] at e1 e2
    obtain ⟨i, hi, rfl⟩ := zir_ok (by decide) e1
    obtain ⟨j, hj, rfl⟩ := zir_ok (by decide) e2
    rw [zAt_nI (by omega), zAt_nI (by omega)]
    refine ⟨fun _ => ?_, fun q => absurd (by decide) q⟩
    obtain ⟨m0, m1, mb, m2, m3, m4, m5, m6, m7, m8, m9, m10, m11, ⟨f12, m12, u12⟩⟩ := M1
    refine z_gA m0 rfl ?_
    rw [z44]
    refine z_li m12 (by omega) (by decide) (z_gA m0 rfl (z_si m12 (by show (112 : Nat) ≠ 0; decide) (by omega) (by decide) ?_))
    rw [u12 i j hi hj, show vp_nar .boolean (zbI b) = zbI b by cases b <;> rfl]
    refine ⟨zbI_n _, zTw.ok hc0 ⟨rfl, B, rfl, ?_⟩⟩
    have k2 : kp (fun _ t => t.1 = 112) h1 (wv_up h1 (B 112 0 0) ((112, 0, 0, 0), wo_i (wv_A G 2) 16 (upd f12 (4 * i + j) (zbI b)))) := kp.put m12 rfl
    have e9 : wv_up h1 (B 112 0 0) ((112, 0, 0, 0), wo_i (wv_A G 2) 16 (upd f12 (4 * i + j) (zbI b))) (B 112 0 0) = _ := wv_up_self
    show zMf G B (zprec σ i j b) 0 L (wv_up h1 (B 112 0 0) ((112, 0, 0, 0), wo_i (wv_A G 2) 16 (upd f12 (4 * i + j) (zbI b)))) ∧ kp zST h (wv_up h1 (B 112 0 0) ((112, 0, 0, 0), wo_i (wv_A G 2) 16 (upd f12 (4 * i + j) (zbI b))))
    generalize wv_up h1 (B 112 0 0) ((112, 0, 0, 0), wo_i (wv_A G 2) 16 (upd f12 (4 * i + j) (zbI b))) = h2 at k2 e9 ⊢
    have hr : ∀ r, r ≠ 112 → ∀ (a : Nat) (t : wv_T), t.1 = 112 → t.1 ≠ r := fun r hr a t q e => hr (e.symm.trans q)
    refine ⟨⟨k2 _ _ m0 (fun q => by cases q), ?_, fun i j hi hj he => (mb i j hi hj he).keep k2 (fun a t q x => by have q : t.1 = 112 := q; omega), m2.keep k2 (hr 102 (by decide)), m3.keep k2 (hr 103 (by decide)), m4.keep k2 (hr 104 (by decide)), m5.keep k2 (hr 105 (by decide)), m6.keep k2 (hr 106 (by decide)), m7.keep k2 (hr 107 (by decide)), m8.keep k2 (hr 108 (by decide)), m9.keep k2 (hr 109 (by decide)), m10.keep k2 (hr 110 (by decide)), m11.keep k2 (hr 111 (by decide)), ⟨_, e9, fun i' j' hi' hj' => ?_⟩⟩, (k1.mono z100T).trans (k2.mono (fun _ t q => ?_))⟩
    · obtain ⟨fb, p1, p2⟩ := m1
      exact ⟨fb, k2 _ _ p1 (fun q => by cases q), p2⟩
    · show _ = zbI (if i' = i ∧ j' = j then b else σ.2.2.2 i' j')
      by_cases e : i' = i ∧ j' = j
      · rw [if_pos e, e.1, e.2, pk_us]
      · rw [if_neg e, pk_un (by omega)]
        exact u12 i' j' hi' hj'
    · have q : t.1 = 112 := q
      exact ⟨by omega, by omega⟩
theorem z4_precede (hG : wv_G0 G) (M : zMf G B σ th L h) (x y : Int32) (b : Bool) : wv_C G yX4_precede [.ref (B 100 0 0), .int x, .int y, .int (zbI b)] h 3 0 0 (zTw G B σ L h (zeE x y) (.int 0) (fun r h' => r = .inl (some (.int (zbI (σ.2.2.2 (zAt x) (zAt y))))) ∧ zTN G B (zprec σ (zAt x) (zAt y) b) L h h')) := by
  refine wk_X4_precede (v0 := some (B 100 0 0)) hG (z_cI (z4_isAspect hG _) (by omega) ⟨fun q => ?_, fun q => z_cI (z4_isAspect hG _) (by omega) ⟨fun q2 => ?_, fun q2 => ⟨fun q3 => ?_, fun q3 => ?_⟩⟩⟩)
  · exact z4_precede25 hG M (c := false) (by rw [zbI_e0 q]; simp)
  · exact z4_precede25 hG M (c := false) (by rw [zbI_e0 q2]; simp)
  · exact z4_precede25 hG M (c := false) (by simp [q3])
  · exact z4_precede25 hG M (c := true) (by rw [zbI_n0 q, zbI_n0 q2]; simp [q3])
-- ===== letters =====
theorem z4_isOneOf (hG : wv_G0 G) {k : Nat} {q : Int32 × List Int32} (hq : wv_sx[k]? = some q) (hl : q.2.length ≤ 20) (c : Int32) : wv_C G yX4_isOneOf [.ref (G.2.2.2.2 (400 + k)), .int c] h 4 0 0 (fun r h' => r = .inl (some (.int (zbI (q.2.contains c)))) ∧ h' = h) := by
  have hk : k < 19 := (List.getElem?_eq_some_iff.mp hq).1
  refine wk_X4_isOneOf (v0 := some (G.2.2.2.2 (400 + k))) hG ?_
  refine z_loop q.2.length (by omega) (fun v => v.2.2) (fun i v w => v = (some (G.2.2.2.2 (400 + k)), c, nI i) ∧ w = (h, 0, 0) ∧ ∀ j, j < i → ¬ q.2.getD j 0 = c) rfl ⟨rfl, rfl, fun j hj => absurd hj (Nat.not_lt_zero _)⟩ ?_
  rintro K i _ _ hi - ⟨rfl, rfl, hf⟩ hK
  refine z_vI (wst_is hk) (wst_len hG hq) (by omega) (pk_le q.2.length i (fun hle => ?_) (fun hlt => ?_))
  · have hn : q.2.contains c = false := by
      rw [Bool.eq_false_iff]
      intro hc
      obtain ⟨j, hj, hjc⟩ := List.mem_iff_getElem.mp (List.contains_iff_mem.mp hc)
      refine hf j (by omega) ?_
      rw [List.getD_eq_getElem?_getD, List.getElem?_eq_getElem hj]
      exact hjc
    rw [hn]
    exact ⟨rfl, rfl, rfl⟩
  · refine z_vI (wst_is hk) (wst_char hG hq hlt) (by omega) ⟨fun e => hK _ _ hlt ?_ ⟨?_, rfl, fun j hj => ?_⟩, fun e => ?_⟩
    · show nI i + 1 = _
      rw [← nI_succ]
    · show (_, _, nI i + 1) = _
      rw [← nI_succ]
    · rcases Nat.lt_or_ge j i with h9 | h9
      · exact hf j h9
      · have : j = i := by omega
        rw [this]
        exact e
    · have hn : q.2.contains c = true := by
        rw [List.contains_iff_mem]
        have hx : q.2[i]? = some q.2[i] := List.getElem?_eq_getElem hlt
        rw [List.getD_eq_getElem?_getD, hx] at e
        have e : q.2[i] = c := e
        rw [← e]
        exact List.getElem_mem hlt
      rw [hn]
      exact ⟨rfl, rfl, rfl⟩
end ZT4
