/-! THE REFERENCE: the last trace asked; made -/
section ZTD
variable {G : wv_G} {A B B' : zA} {σ σ' : zS} {h h0 h1 h2 h' : wv_H} {w : wv_W} {fr fr' kc ks : Nat} {P : wv_R → wv_H → Prop} {KX : String → Nat → wv_W → Prop} {ol L : Nat} {k m r i j : Nat} {t : wv_T} {x y v th c : Int32} {l : zL9}
theorem zeX_b (tr : List zAc) (x : Int32) : nI (zeX tr x) = zbI (!zir x 0 (nI tr.length - 1)) := by
  unfold zeX
  cases hx : zix x tr.length with
  | none =>
    rw [zix_none.mp hx]
    rfl
  | some i =>
    rw [if_neg (by simp)]
    have : zir x 0 (nI tr.length - 1) = true := by
      unfold zix at hx
      split at hx
      · assumption
      · cases hx
    rw [this]
    rfl
theorem zeX_le (tr : List zAc) (x : Int32) : zeX tr x ≤ 1 := by
  unfold zeX
  split <;> decide
theorem z4_wrongIndex (hG : wv_G0 G) (M : zMf G B σ th L h) (R : zMR L l h) (x : Int32) : wv_C G yX4_wrongIndex [.ref (B 100 0 0), .int x] h 1 0 0 (fun r h' => r = .inl (some (.int (nI (zeX l.2.2.2.2 x)))) ∧ zMf G B σ (nI (zeX l.2.2.2.2 x)) L h' ∧ kp zS100 h h') := by
  obtain ⟨tl, md, cap, xs, r1, r2, r3, r4, -⟩ := R
  refine wk_X4_wrongIndex (v0 := some (B 100 0 0)) hG (z_gA M.1 rfl (z_gA r1 rfl (z_vI (z_isL r3) (wl_size hG r3) (by omega) (z_cI (z4_in hG _ _ _) (by omega) ⟨B 100 0 0, rfl, M.is, z_c (z4_checked hG M _) (by omega) (Nat.zero_le _) (Nat.zero_le _) ?_⟩))))
  rintro z h1 ⟨rfl, M1, k1⟩
  refine Or.inl ⟨_, rfl, ?_⟩
  rw [zeX_b, ← r4]
  exact ⟨rfl, M1, k1⟩
theorem z31_kind (hG : wv_G0 G) {b : Nat} {t : wv_T} {a : zAc} (hb : h b = some (t, wo_o ciX31 [.int a.1, .int a.2.1, .int (nI a.2.2)])) (hf : wv_fit .char a.1) : wv_C G yX31_kind [.ref b] h 0 0 0 (fun r h' => r = .inl (some (.int a.1)) ∧ h' = h) := wk_X31_kind (v0 := some b) hG (z_gI hb rfl ⟨hf.1, rfl, rfl⟩)
theorem z31_number (hG : wv_G0 G) {b : Nat} {t : wv_T} {a : zAc} (hb : h b = some (t, wo_o ciX31 [.int a.1, .int a.2.1, .int (nI a.2.2)])) : wv_C G yX31_number [.ref b] h 0 0 0 (fun r h' => r = .inl (some (.int a.2.1)) ∧ h' = h) := wk_X31_number (v0 := some b) hG (z_gI hb rfl ⟨rfl, rfl⟩)
theorem z31_advice (hG : wv_G0 G) {b : Nat} {t : wv_T} {a : zAc} (hb : h b = some (t, wo_o ciX31 [.int a.1, .int a.2.1, .int (nI a.2.2)])) : wv_C G yX31_advice [.ref b] h 0 0 0 (fun r h' => r = .inl (some (.int (nI a.2.2))) ∧ h' = h) := wk_X31_advice (v0 := some b) hG (z_gI hb rfl ⟨rfl, rfl⟩)
theorem zeX_0 {tr : List zAc} (hl : tr.length ≤ 400) (h0 : zeX tr x = 0) : ∃ i, zix x tr.length = some i := by
  cases hx : zix x tr.length with
  | none => unfold zeX at h0; rw [if_pos hx] at h0; cases h0
  | some i => exact ⟨i, rfl⟩
theorem z4_traceKind (hG : wv_G0 G) (M : zMf G B σ th L h) (R : zMR L l h) (x : Int32) : wv_C G yX4_traceKind [.ref (B 100 0 0), .int x] h 3 0 0 (zTw G B σ L h (zeX l.2.2.2.2 x) (.int 32) (fun r h' => r = .inl (some (.int (zac l.2.2.2.2 x).1)) ∧ zTN G B σ L h h')) := by
  have hle := zeX_le l.2.2.2.2 x
  refine wk_X4_traceKind (v0 := some (B 100 0 0)) hG ⟨B 100 0 0, rfl, M.is, z_c (z4_wrongIndex hG M R x) (by omega) (Nat.zero_le _) (Nat.zero_le _) ?_⟩
  rintro z h1 ⟨rfl, M1, k1⟩
  refine Or.inl ⟨_, rfl, z4_code (by omega) (fun q0 => ?_) (fun q0 => ⟨rfl, zTw.bad _ rfl q0 M1 (k1.mono z100T)⟩)⟩
  obtain ⟨tl, md, cap, xs, r1, r2, r3, r4, r5, r6⟩ := R.T (k1.mono z100T)
  obtain ⟨i, hi⟩ := zeX_0 r5 q0
  obtain ⟨e1, e2, rfl⟩ := zac_of hi r5
  obtain ⟨b, b1, b2, b3, -⟩ := r6 i _ e1
  rw [q0] at M1
  exact z_gA M1.1 rfl (z_gA r1 rfl (z_vA (z_isL r3) (wl_get hG r3 b1) (by omega) (z_cc (z_is b2 ccX31) (z_vI (z_is b2 ccX31) (z31_kind hG b2 b3) (by omega) ⟨b3.1, zTw.ok q0 ⟨rfl, B, rfl, M1, k1.mono z100T⟩⟩))))
theorem z4_traceValue (hG : wv_G0 G) (M : zMf G B σ th L h) (R : zMR L l h) (x : Int32) : wv_C G yX4_traceValue [.ref (B 100 0 0), .int x] h 3 0 0 (zTw G B σ L h (zeX l.2.2.2.2 x) (.int 0) (fun r h' => r = .inl (some (.int (zac l.2.2.2.2 x).2.1)) ∧ zTN G B σ L h h')) := by
  have hle := zeX_le l.2.2.2.2 x
  refine wk_X4_traceValue (v0 := some (B 100 0 0)) hG ⟨B 100 0 0, rfl, M.is, z_c (z4_wrongIndex hG M R x) (by omega) (Nat.zero_le _) (Nat.zero_le _) ?_⟩
  rintro z h1 ⟨rfl, M1, k1⟩
  refine Or.inl ⟨_, rfl, z4_code (by omega) (fun q0 => ?_) (fun q0 => zTw.bad _ rfl q0 M1 (k1.mono z100T))⟩
  obtain ⟨tl, md, cap, xs, r1, r2, r3, r4, r5, r6⟩ := R.T (k1.mono z100T)
  obtain ⟨i, hi⟩ := zeX_0 r5 q0
  obtain ⟨e1, e2, rfl⟩ := zac_of hi r5
  obtain ⟨b, b1, b2, b3, -⟩ := r6 i _ e1
  rw [q0] at M1
  exact z_gA M1.1 rfl (z_gA r1 rfl (z_vA (z_isL r3) (wl_get hG r3 b1) (by omega) (z_cc (z_is b2 ccX31) (z_vI (z_is b2 ccX31) (z31_number hG b2) (by omega) (zTw.ok q0 ⟨rfl, B, rfl, M1, k1.mono z100T⟩)))))
theorem z4_traceAdvice (hG : wv_G0 G) (M : zMf G B σ th L h) (R : zMR L l h) (x : Int32) : wv_C G yX4_traceAdvice [.ref (B 100 0 0), .int x] h 3 0 0 (zTw G B σ L h (zeX l.2.2.2.2 x) (.int 0) (fun r h' => r = .inl (some (.int (nI (zac l.2.2.2.2 x).2.2))) ∧ zTN G B σ L h h')) := by
  have hle := zeX_le l.2.2.2.2 x
  refine wk_X4_traceAdvice (v0 := some (B 100 0 0)) hG ⟨B 100 0 0, rfl, M.is, z_c (z4_wrongIndex hG M R x) (by omega) (Nat.zero_le _) (Nat.zero_le _) ?_⟩
  rintro z h1 ⟨rfl, M1, k1⟩
  refine Or.inl ⟨_, rfl, z4_code (by omega) (fun q0 => ?_) (fun q0 => zTw.bad _ rfl q0 M1 (k1.mono z100T))⟩
  obtain ⟨tl, md, cap, xs, r1, r2, r3, r4, r5, r6⟩ := R.T (k1.mono z100T)
  obtain ⟨i, hi⟩ := zeX_0 r5 q0
  obtain ⟨e1, e2, rfl⟩ := zac_of hi r5
  obtain ⟨b, b1, b2, b3, -⟩ := r6 i _ e1
  rw [q0] at M1
  exact z_gA M1.1 rfl (z_gA r1 rfl (z_vA (z_isL r3) (wl_get hG r3 b1) (by omega) (z_cc (z_is b2 ccX31) (z_vI (z_is b2 ccX31) (z31_advice hG b2) (by omega) (zTw.ok q0 ⟨rfl, B, rfl, M1, k1.mono z100T⟩)))))
/-- the first class with a body of the first method -/
theorem z4_lowest (hG : wv_G0 G) (hw : zwf σ) (M : zMf G B σ th L h) : wv_C G yX4_lowest [.ref (B 100 0 0)] h 1 0 0 (fun r h' => r = .inl (some (.int (zoN (zlw σ)))) ∧ h' = h) := by
  have hn6 := hw.1
  refine wk_X4_lowest (v0 := some (B 100 0 0)) hG ?_
  refine z_loop (zn σ) (by omega) (fun v => v.2) (fun i v w => v = (some (B 100 0 0), nI i) ∧ w = (h, 0, 0) ∧ zlwF σ i = none) rfl ⟨rfl, rfl, rfl⟩ ?_
  rintro K i _ _ hi - ⟨rfl, rfl, hf⟩ hK
  refine z_gI M.1 rfl (pk_le (zn σ) i (fun hle => ?_) (fun hlt => ?_))
  · have e : zlw σ = none := by
      have : i = zn σ := by omega
      rw [this] at hf
      exact hf
    rw [e]
    exact ⟨rfl, rfl⟩
  · have hb := z4_body hG M (k := i) (m := 0) (by omega) (by decide)
    rw [nI_0] at hb
    refine z_vA M.is hb (by omega) ?_
    cases hb : (zbody σ i 0).isEmpty with
    | true =>
      refine ⟨fun _ => hK _ _ hlt ?_ ⟨?_, rfl, ?_⟩, fun q => absurd rfl q⟩
      · show nI i + 1 = _
        rw [← nI_succ]
      · show (_, nI i + 1) = _
        rw [← nI_succ]
      · rw [zlwF_s, hf, hb]
        rfl
    | false =>
      refine ⟨fun q => (by cases q), fun _ => ?_⟩
      have e1 : zlwF σ (i + 1) = some i := by
        rw [zlwF_s, hf, hb]
        rfl
      have e : zlw σ = some i := by
        unfold zlw
        have e2 : List.range (zn σ) = List.range (i + 1) ++ (List.range (zn σ - (i + 1))).map (fun j => i + 1 + j) := by
          rw [← List.range_add]
          congr 1
          omega
        rw [e2, List.find?_append]
        unfold zlwF at e1
        rw [e1]
        rfl
      rw [e]
      exact ⟨rfl, rfl⟩
end ZTD
