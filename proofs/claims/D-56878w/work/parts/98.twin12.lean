/-! THE REFERENCE: aspectAt; the last result asked -/
section ZTC
variable {G : wv_G} {A B B' : zA} {σ σ' : zS} {h h0 h1 h2 h' : wv_H} {w : wv_W} {fr fr' kc ks : Nat} {P : wv_R → wv_H → Prop} {KX : String → Nat → wv_W → Prop} {ol L : Nat} {k m r i j : Nat} {t : wv_T} {x y v th c a b : Int32} {l : zL9}
theorem z4_aspectAt (hG : wv_G0 G) (M : zMf G B σ th L h) (x : Int32) : wv_C G yX4_aspectAt [.ref (B 100 0 0), .int x] h 8 10 86 (zTw G B σ L h (zeR σ x) (.int 0) (fun r h' => r = .inl (some (.int (zasp σ (zAt x)))) ∧ zTN G B σ L h h')) := by
  have key : ∀ (q : Nat) (h1 : wv_H) (cc cs : Nat), 5 ≤ cc → 43 ≤ cs → zMf G B σ th L h1 → kp zST h h1 → q ≤ 2 → (q = 0 → ∃ j, j < 4 ∧ x = nI j) → (q = 0 → zring σ = false) → zeR σ x = q → vc_X4_aspectAt_28 G 8 (zTw G B σ L h (zeR σ x) (.int 0) (fun r h' => r = .inl (some (.int (zasp σ (zAt x)))) ∧ zTN G B σ L h h')) (some (B 100 0 0)) x (nI q) (some (B 100 0 0)) (h1, cc, cs) := by
    intro q h1 cc cs hcc hcs M k1 hq hx hr hcode
    refine z4_put M (fun h2 M2 k2 => z_gI M2.1 rfl (z4_code (by omega) (fun q0 => ?_) (fun q0 => zTw.bad q hcode q0 M2 (k1.trans (k2.mono z100T)))))
    obtain ⟨j, hj, rfl⟩ := hx q0
    have hc0 : zeR σ (nI j) = 0 := by rw [hcode, q0]
    rw [q0] at M2
    refine ⟨B 100 0 0, rfl, M2.is, z_c (z4_order hG M2) (by omega) hcc hcs ?_⟩
    rintro z h3 ⟨ol, rfl, -, L3, k3⟩
    refine Or.inl ⟨_, rfl, ?_⟩
    obtain ⟨i, e1, e2, hi⟩ := zasp_of (hr q0) hj
    have hx : ((zord σ).map (wb G))[j]? = some (wb G i) := by rw [List.getElem?_map, e1]; rfl
    refine L3.vget hG hx (by omega) (z_cc (wb_is (k := i) (by omega)) (z_vI (wb_is (k := i) (by omega)) (wl_intValue hG (k := i) (by omega)) (by omega) (zTw.ok hc0 ⟨?_, B, rfl, M2.keepn k3, (k1.trans (k2.mono z100T)).trans (kn.to k3)⟩)))
    rw [zAt_nI (by omega), e2]
  refine wk_X4_aspectAt (v0 := some (B 100 0 0)) hG (z_cI (z4_isAspect hG x) (by omega) ⟨fun q => ?_, fun q => ?_⟩)
  · have q := zbI_n0 q
    rw [zir3] at q
    obtain ⟨j, hj, rfl⟩ := zir_ok (by decide) q
    have hzj : zix (nI j) 4 = some j := (zix_some (by decide)).mpr ⟨hj, rfl⟩
    have g1 : ¬ zix (nI j) 4 = none := by rw [hzj]; simp
    refine ⟨B 100 0 0, rfl, M.is, z_c (z4_order hG M) (by omega) (by show 5 ≤ 10; decide) (by show 43 ≤ 86; decide) ?_⟩
    rintro z h1 ⟨ol, rfl, -, L1, k1⟩
    have M1 := M.keepn k1
    have hle := zord_le (σ := σ)
    refine Or.inl ⟨_, rfl, L1.vsize hG (by omega) ?_⟩
    rw [List.length_map]
    refine pk_le 4 (zord σ).length (fun h9 => ?_) (fun h9 => ?_)
    · have hr : zring σ = false := zord_len.mp (by omega)
      exact key 0 h1 _ _ (by show 5 ≤ 10 - 5; decide) (by show 43 ≤ 86 - 43; decide) M1 (kn.to k1) (by decide) (fun _ => ⟨j, hj, rfl⟩) (fun _ => hr) (by unfold zeR; rw [if_neg g1, if_neg (by rw [hr]; decide)])
    · have hr : zring σ = true := by
        cases hr : zring σ with
        | true => rfl
        | false => have := zord_len.mpr hr; omega
      exact key 2 h1 _ _ (by show 5 ≤ 10 - 5; decide) (by show 43 ≤ 86 - 43; decide) M1 (kn.to k1) (by decide) (fun q => by cases q) (fun q => by cases q) (by unfold zeR; rw [if_neg g1, if_pos hr])
  · have g1 : zix x 4 = none := by
      rw [zix_none, ← zir3]
      exact zbI_e0 q
    exact key 1 h 10 86 (by decide) (by decide) M (kp.refl _) (by decide) (fun q => by cases q) (fun q => by cases q) (if_pos g1)
-- ===== the last result =====
/-- a result of the reference: its end, its trace in a list -/
def zMR (L : Nat) (l : zL9) (h : wv_H) : Prop := ∃ (tl : Nat) (md : Int32) (cap : Nat) (xs : List Nat),
  h L = some ((130, 0, 0, 0), wo_o ciX5 [va_rf (some tl), .int l.1, .int l.2.1, .int (nI l.2.2.1), .int (nI l.2.2.2.1)]) ∧ cap ≤ 60000 ∧ h tl = some ((131, 0, 0, 0), wo_L md cap xs) ∧ xs.length = l.2.2.2.2.length ∧ l.2.2.2.2.length ≤ 400 ∧
  ∀ (i : Nat) (a : zAc), l.2.2.2.2[i]? = some a → ∃ b : Nat, xs[i]? = some b ∧ h b = some ((132, 0, 0, 0), wo_o ciX31 [.int a.1, .int a.2.1, .int (nI a.2.2)]) ∧ wv_fit .char a.1 ∧ a.2.2 < 100
theorem zMR.keep {S : Nat → wv_T → Prop} (R : zMR L l h) (k : kp S h h1) (hS : ∀ a t, S a t → ¬ (130 ≤ t.1 ∧ t.1 ≤ 132)) : zMR L l h1 := by
  obtain ⟨tl, md, cap, xs, r1, r2, r3, r4, r5, r6⟩ := R
  refine ⟨tl, md, cap, xs, k _ _ r1 (fun q => hS _ _ q ⟨zle, zle⟩), r2, k _ _ r3 (fun q => hS _ _ q ⟨zle, zle⟩), r4, r5, fun i a hi => ?_⟩
  obtain ⟨b, b1, b2, b3⟩ := r6 i a hi
  exact ⟨b, b1, k _ _ b2 (fun q => hS _ _ q ⟨zle, zle⟩), b3⟩
theorem zMR.T (R : zMR L l h) (k : kp zST h h1) : zMR L l h1 := R.keep k (fun _ t q x => by omega)
theorem z4_points (hG : wv_G0 G) (M : zMf G B σ th L h) (R : zMR L l h) : wv_C G yX4_points [.ref (B 100 0 0)] h 1 0 0 (fun r h' => r = .inl (some (.int (nI l.2.2.1))) ∧ zMf G B σ 0 L h' ∧ kp zST h h') := by
  obtain ⟨tl, md, cap, xs, r1, -⟩ := R
  refine wk_X4_points (v0 := some (B 100 0 0)) hG (z_gA M.1 rfl (z_gI r1 rfl ⟨B 100 0 0, rfl, M.is, z_c (z4_plain hG M _) (by omega) (Nat.zero_le _) (Nat.zero_le _) ?_⟩))
  rintro z h1 ⟨rfl, M1, k1⟩
  exact Or.inl ⟨_, rfl, rfl, M1, k1.mono z100T⟩
theorem z4_asked (hG : wv_G0 G) (M : zMf G B σ th L h) (R : zMR L l h) : wv_C G yX4_asked [.ref (B 100 0 0)] h 1 0 0 (fun r h' => r = .inl (some (.int (nI l.2.2.2.1))) ∧ zMf G B σ 0 L h' ∧ kp zST h h') := by
  obtain ⟨tl, md, cap, xs, r1, -⟩ := R
  refine wk_X4_asked (v0 := some (B 100 0 0)) hG (z_gA M.1 rfl (z_gI r1 rfl ⟨B 100 0 0, rfl, M.is, z_c (z4_plain hG M _) (by omega) (Nat.zero_le _) (Nat.zero_le _) ?_⟩))
  rintro z h1 ⟨rfl, M1, k1⟩
  exact Or.inl ⟨_, rfl, rfl, M1, k1.mono z100T⟩
theorem z4_traceLength (hG : wv_G0 G) (M : zMf G B σ th L h) (R : zMR L l h) : wv_C G yX4_traceLength [.ref (B 100 0 0)] h 1 0 0 (fun r h' => r = .inl (some (.int (nI l.2.2.2.2.length))) ∧ zMf G B σ 0 L h' ∧ kp zST h h') := by
  obtain ⟨tl, md, cap, xs, r1, r2, r3, r4, -⟩ := R
  refine wk_X4_traceLength (v0 := some (B 100 0 0)) hG (z_gA M.1 rfl (z_gA r1 rfl (z_vI (z_isL r3) (wl_size hG r3) (by omega) ⟨B 100 0 0, rfl, M.is, z_c (z4_plain hG M _) (by omega) (Nat.zero_le _) (Nat.zero_le _) ?_⟩)))
  rintro z h1 ⟨rfl, M1, k1⟩
  exact Or.inl ⟨_, rfl, by rw [r4], M1, k1.mono z100T⟩
theorem z4_result30 (hG : wv_G0 G) (M : zMf G B σ th L h) (R : zMR L l h) {b : Bool} (hb : zeRs l.1 = if b = true then 0 else 1) : vc_X4_result_30 G 1 (zTw G B σ L h (zeRs l.1) (.int 0) (fun r h' => r = .inl (some (.int l.2.1)) ∧ zTN G B σ L h h')) (some (B 100 0 0)) (zbI b) (some (B 100 0 0)) (h, 0, 0) := by
  refine ⟨B 100 0 0, rfl, M.is, z_c (z4_checked hG M b) (by omega) (Nat.zero_le _) (Nat.zero_le _) ?_⟩
  rintro z h1 ⟨rfl, M1, k1⟩
  refine Or.inl ⟨_, rfl, ?_⟩
  cases b with
  | true =>
    obtain ⟨tl, md, cap, xs, r1, -⟩ := R.T (k1.mono z100T)
    exact ⟨fun _ => z_gA M1.1 rfl (z_gI r1 rfl (zTw.ok hb ⟨rfl, B, rfl, M1, k1.mono z100T⟩)), fun q => absurd (Int32.le_refl _) q⟩
  | false => exact ⟨fun q => absurd q (by decide), fun _ => zTw.bad 1 hb (by decide) M1 (k1.mono z100T)⟩
theorem z4_result (hG : wv_G0 G) (M : zMf G B σ th L h) (R : zMR L l h) : wv_C G yX4_result [.ref (B 100 0 0)] h 1 0 0 (zTw G B σ L h (zeRs l.1) (.int 0) (fun r h' => r = .inl (some (.int l.2.1)) ∧ zTN G B σ L h h')) := by
  obtain ⟨tl, md, cap, xs, r1, -⟩ := id R
  refine wk_X4_result (v0 := some (B 100 0 0)) hG (z_gA M.1 rfl (z_gI r1 rfl ⟨fun q => ?_, fun q => z_gA M.1 rfl (z_gI r1 rfl ⟨fun q2 => ?_, fun q2 => ?_⟩)⟩))
  · exact z4_result30 hG M R (b := true) (if_pos (Or.inl q))
  · exact z4_result30 hG M R (b := false) (if_neg (fun e => e.elim q q2))
  · exact z4_result30 hG M R (b := true) (if_pos (Or.inr q2))
end ZTC
