/-! THE REFERENCE: advice told -/
section ZT6
variable {G : wv_G} {A B : zA} {σ σ' : zS} {h h0 h1 h2 h' : wv_H} {w : wv_W} {fr fr' kc ks : Nat} {P : wv_R → wv_H → Prop} {KX : String → Nat → wv_W → Prop} {a b L : Nat} {k r : Nat} {t : wv_T} {c x y v th p m n : Int32}
theorem zisA_eq (c : Int32) : zisA c = [98, 97, 120, 102, 114].contains c := by
  unfold zisA
  rw [Bool.eq_iff_iff, decide_eq_true_eq, List.contains_iff_mem]
  simp only [List.mem_cons, List.not_mem_nil, or_false]
theorem zaddA_get {p : zAd} {f : Nat → Int32} {g : zAd → Int32} (h : ∀ n p, σ.2.2.1[n]? = some p → f n = g p) : ∀ n q, (zaddA σ p).2.2.1[n]? = some q → upd f σ.2.2.1.length (g p) n = g q := by
  intro n q hq
  have hq : (σ.2.2.1 ++ [p])[n]? = some q := hq
  rcases z_app hq with hq | ⟨e1, e2⟩
  · have := (List.getElem?_eq_some_iff.mp hq).1
    rw [pk_un (by omega)]
    exact h n q hq
  · rw [e1, e2, pk_us]
/-- a value written behind an array's own, by the reference -/
theorem z4_wr {r kk N i : Nat} {f : Nat → Int32} {v : Int32} {K : wv_W → Prop} (hm : w.1 (B r 0 0) = some ((r, 0, 0, 0), wo_i (wv_A G kk) N f)) (hr : r ≠ 0) (hi : i < N) (hN : N < 2 ^ 31) (hK : ∀ h1, kp (fun _ t => t.1 = r) w.1 h1 → h1 (B r 0 0) = some ((r, 0, 0, 0), wo_i (wv_A G kk) N (upd f i v)) → K (h1, w.2)) : wv_si G kk w (some (B r 0 0)) (nI i) v K :=
  z_si hm hr hi hN (hK _ (kp.put hm rfl) wv_up_self)
theorem z4_adv (hG : wv_G0 G) (M : zMf G B σ 0 L h1) (k1 : kp zST h h1) (hlt : σ.2.2.1.length < 12) (hc : zisA c = true) {i j q : Nat} {Q : wv_R → wv_H → Prop} (hQ : ∀ h', zTN G B (zaddA σ (i, c, j, m, q, true)) L h h' → Q (.inl (some (.int (nI σ.2.2.1.length)))) h') :
    wv_gA (h1, (0, 0)) (some (B 100 0 0)) ciX4 4 (fun x82 => wv_gI (h1, (0, 0)) (some (B 100 0 0)) ciX4 15 (fun x86 => wv_si G 0 (h1, (0, 0)) x82 x86 (nI i) (fun w90 => wv_gA w90 (some (B 100 0 0)) ciX4 9 (fun x92 => wv_gI w90 (some (B 100 0 0)) ciX4 15 (fun x96 => wv_si G 1 w90 x92 x96 (vp_nar .char c) (fun w100 => wv_gA w100 (some (B 100 0 0)) ciX4 5 (fun x102 => wv_gI w100 (some (B 100 0 0)) ciX4 15 (fun x106 => wv_si G 0 w100 x102 x106 (nI j) (fun w110 => wv_gA w110 (some (B 100 0 0)) ciX4 6 (fun x112 => wv_gI w110 (some (B 100 0 0)) ciX4 15 (fun x116 => wv_si G 0 w110 x112 x116 m (fun w121 => wv_gA w121 (some (B 100 0 0)) ciX4 7 (fun x123 => wv_gI w121 (some (B 100 0 0)) ciX4 15 (fun x127 => wv_si G 0 w121 x123 x127 (nI q) (fun w132 => wv_gA w132 (some (B 100 0 0)) ciX4 10 (fun x134 => wv_gI w132 (some (B 100 0 0)) ciX4 15 (fun x138 => wv_si G 2 w132 x134 x138 (vp_nar .boolean (1)) (fun w142 => wv_gI w142 (some (B 100 0 0)) ciX4 15 (fun x145 => wv_pt w142 (some (B 100 0 0)) ciX4 15 (.int (x145 + (1))) (fun w150 => wv_gI w150 (some (B 100 0 0)) ciX4 15 (fun x154 => Q (.inl (some (.int (x154 - (1))))) w150.1))))))))))))))))))))) := by
  obtain ⟨m0, ⟨fb, m1, u1⟩, mb, m2, m3, m4, ⟨f5, m5, u5⟩, ⟨f6, m6, u6⟩, ⟨f7, m7, u7⟩, ⟨f8, m8, u8⟩, m9, ⟨f10, m10, u10⟩, ⟨f11, m11, u11⟩, m12⟩ := M
  have hn : vp_nar .char c = c := by
    rw [zisA, decide_eq_true_eq] at hc
    rcases hc with e | e | e | e | e <;> rw [e] <;> rfl
  refine z_gA m0 rfl (z_gI m0 rfl (z4_wr m5 (by decide) hlt (by decide) (fun g1 k2 e1 => ?_)))
  have o1 := k2 _ _ m0 (fun q => by cases q)
  refine z_gA o1 rfl (z_gI o1 rfl (z4_wr (k2 _ _ m10 (fun q => by cases q)) (by decide) hlt (by decide) (fun g2 k3 e2 => ?_)))
  rw [hn] at e2
  have o2 := k3 _ _ o1 (fun q => by cases q)
  refine z_gA o2 rfl (z_gI o2 rfl (z4_wr (k3 _ _ (k2 _ _ m6 (fun q => by cases q)) (fun q => by cases q)) (by decide) hlt (by decide) (fun g3 k4 e3 => ?_)))
  have o3 := k4 _ _ o2 (fun q => by cases q)
  refine z_gA o3 rfl (z_gI o3 rfl (z4_wr (k4 _ _ (k3 _ _ (k2 _ _ m7 (fun q => by cases q)) (fun q => by cases q)) (fun q => by cases q)) (by decide) hlt (by decide) (fun g4 k5 e4 => ?_)))
  have o4 := k5 _ _ o3 (fun q => by cases q)
  refine z_gA o4 rfl (z_gI o4 rfl (z4_wr (k5 _ _ (k4 _ _ (k3 _ _ (k2 _ _ m8 (fun q => by cases q)) (fun q => by cases q)) (fun q => by cases q)) (fun q => by cases q)) (by decide) hlt (by decide) (fun g5 k6 e5 => ?_)))
  have o5 := k6 _ _ o4 (fun q => by cases q)
  refine z_gA o5 rfl (z_gI o5 rfl (z4_wr (k6 _ _ (k5 _ _ (k4 _ _ (k3 _ _ (k2 _ _ m11 (fun q => by cases q)) (fun q => by cases q)) (fun q => by cases q)) (fun q => by cases q)) (fun q => by cases q)) (by decide) hlt (by decide) (fun g6 k7 e6 => ?_)))
  have o6 := k7 _ _ o5 (fun q => by cases q)
  refine z_gI o6 rfl (z_pt o6 (Nat.succ_ne_zero _) (by simp) (z_gI wv_up_self rfl ?_))
  have k26 : kp (fun _ t => 105 ≤ t.1 ∧ t.1 ≤ 111 ∧ t.1 ≠ 109) h1 g6 := ((((((k2.mono (fun _ t q => ?_)).trans (k3.mono (fun _ t q => ?_))).trans (k4.mono (fun _ t q => ?_))).trans (k5.mono (fun _ t q => ?_))).trans (k6.mono (fun _ t q => ?_))).trans (k7.mono (fun _ t q => ?_)))
  rotate_left
  · have q : t.1 = 105 := q
    exact ⟨by omega, by omega, by omega⟩
  · have q : t.1 = 110 := q
    exact ⟨by omega, by omega, by omega⟩
  · have q : t.1 = 106 := q
    exact ⟨by omega, by omega, by omega⟩
  · have q : t.1 = 107 := q
    exact ⟨by omega, by omega, by omega⟩
  · have q : t.1 = 108 := q
    exact ⟨by omega, by omega, by omega⟩
  · have q : t.1 = 111 := q
    exact ⟨by omega, by omega, by omega⟩
  rw [show nI σ.2.2.1.length + 1 - 1 = nI σ.2.2.1.length by rw [← nI_succ, nI_pred]]
  have k8 : kp zS100 g6 (wv_up g6 (B 100 0 0) ((100, 0, 0, 0), wo_o ciX4 ([va_rf (some (B 101 0 0)), va_rf (some (B 102 0 0)), va_rf (some (B 103 0 0)), va_rf (some (B 104 0 0)), va_rf (some (B 105 0 0)), va_rf (some (B 106 0 0)), va_rf (some (B 107 0 0)), va_rf (some (B 108 0 0)), va_rf (some (B 109 0 0)), va_rf (some (B 110 0 0)), va_rf (some (B 111 0 0)), va_rf (some (B 112 0 0)), .int 0, .int (nI (zn σ)), .int (nI σ.2.1.length), .int (nI σ.2.2.1.length), va_rf (some L)].set 15 (.int (nI σ.2.2.1.length + 1))))) := kp.put o6 rfl
  refine hQ _ ⟨B, rfl, ⟨?_, ?_⟩, ?_⟩
  · refine wv_up_self.trans ?_
    unfold zMo
    rw [show (zaddA σ (i, c, j, m, q, true)).2.2.1.length = σ.2.2.1.length + 1 from List.length_append, nI_succ]
    rfl
  · refine zMh.keep (h := g6) ?_ k8 (fun _ t q x => by have q : t.1 = 100 := q; omega)
    have hr : ∀ r, (r < 105 ∨ r = 109 ∨ 111 < r) → ∀ (a : Nat) (t : wv_T), (105 ≤ t.1 ∧ t.1 ≤ 111 ∧ t.1 ≠ 109) → t.1 ≠ r := fun r hr a t q e => by omega
    refine ⟨⟨fb, k26 _ _ m1 (fun q => absurd q.1 (show ¬ 105 ≤ 101 by decide)), u1⟩, fun i j hi hj he => (mb i j hi hj he).keep k26 (fun a t q x => by omega), m2.keep k26 (hr 102 (by decide)), m3.keep k26 (hr 103 (by decide)), m4.keep k26 (hr 104 (by decide)), ⟨_, k7 _ _ (k6 _ _ (k5 _ _ (k4 _ _ (k3 _ _ e1 (fun q => by cases q)) (fun q => by cases q)) (fun q => by cases q)) (fun q => by cases q)) (fun q => by cases q), zaddA_get (g := fun a => nI a.1) u5⟩, ⟨_, k7 _ _ (k6 _ _ (k5 _ _ e3 (fun q => by cases q)) (fun q => by cases q)) (fun q => by cases q), zaddA_get (g := fun a => nI a.2.2.1) u6⟩, ⟨_, k7 _ _ (k6 _ _ e4 (fun q => by cases q)) (fun q => by cases q), zaddA_get (g := fun a => a.2.2.2.1) u7⟩, ⟨_, k7 _ _ e5 (fun q => by cases q), zaddA_get (g := fun a => nI a.2.2.2.2.1) u8⟩, m9.keep k26 (hr 109 (by decide)), ⟨_, k7 _ _ (k6 _ _ (k5 _ _ (k4 _ _ e2 (fun q => by cases q)) (fun q => by cases q)) (fun q => by cases q)) (fun q => by cases q), zaddA_get (g := fun a => a.2.1) u10⟩, ⟨_, e6, zaddA_get (g := fun a => zbI a.2.2.2.2.2) u11⟩, m12.keep k26 (hr 112 (by decide))⟩
  · exact (k1.trans (k26.mono (fun _ t q => ⟨by omega, by omega⟩))).trans (k8.mono z100T)
theorem z4_addAdvice (hG : wv_G0 G) (hw : zwf σ) (M : zMf G B σ th L h) (x c p m n : Int32) : wv_C G yX4_addAdvice [.ref (B 100 0 0), .int x, .int c, .int p, .int m, .int n] h 5 0 0 (zTw G B σ L h (zeA σ x c p m n) (.int 0) (fun r h' => r = .inl (some (.int (nI σ.2.2.1.length))) ∧ zTN G B (zsA σ x c p m n) L h h')) := by
  have h12 := hw.2.2.2.2.1
  have h24 := hw.2.2.1
  have bad : ∀ k : Nat, 0 < k → k ≤ 3 → zeA σ x c p m n = k → vc_X4_addAdvice_69 G 5 (zTw G B σ L h (zeA σ x c p m n) (.int 0) (fun r h' => r = .inl (some (.int (nI σ.2.2.1.length))) ∧ zTN G B (zsA σ x c p m n) L h h')) (some (B 100 0 0)) x c p m n (nI k) (some (B 100 0 0)) (h, 0, 0) := by
    intro k h0 h3 hc
    refine z4_put M (fun h1 M1 k1 => z_gI M1.1 rfl ⟨fun q => absurd q (nI_nle h0 (by omega)), fun _ => zTw.bad k hc h0 M1 (k1.mono z100T)⟩)
  refine wk_X4_addAdvice (v0 := some (B 100 0 0)) hG (z_cI (z4_isAspect hG x) (by omega) ⟨fun q => ?_, fun q => ?_⟩)
  · exact bad 1 (by decide) (by decide) (if_pos (by rw [zbI_e0 q]; rfl))
  · have q := zbI_n0 q
    refine z_cI (z4_isOneOf hG (k := 17) (q := wv_sx.getD 17 (0, [])) rfl (by decide) c) (by omega) ⟨fun q2 => ?_, fun q2 => ?_⟩
    · have q2 : zisA c = false := by rw [zisA_eq]; exact zbI_e0 q2
      exact bad 1 (by decide) (by decide) (if_pos (by rw [q, q2]; rfl))
    · have q2 : zisA c = true := by rw [zisA_eq]; exact zbI_n0 q2
      have g1 : ¬ (zir x 0 3 && zisA c) = false := by rw [q, q2]; decide
      refine z_cI (z4_in hG _ _ _) (by omega) ⟨fun q3 => ?_, fun q3 => z_cI (z4_in hG _ _ _) (by omega) ⟨fun q4 => ?_, fun q4 => ?_⟩⟩
      · exact bad 1 (by decide) (by decide) (by unfold zeA; rw [if_neg g1, if_pos (by rw [zbI_e0 q3]; rfl)])
      · have q3 := zbI_n0 q3
        have q4 := zbI_n0 q4
        have g2 : ¬ (zir m (-99) 99 && zir n 0 2) = false := by rw [q3, q4]; decide
        refine z_vI M.is (z4_isPattern hG M p) (by omega) ⟨fun q5 => ?_, fun q5 => ?_⟩
        · have q5 := zbI_n0 q5
          have g3 : ¬ zix p σ.2.2.1.length = none ∨ True := Or.inr trivial
          have g4 : ¬ zix p σ.2.1.length = none := by rw [zix_none, q5]; decide
          refine z_gI M.1 rfl ⟨fun q6 => ?_, fun q6 => ?_⟩
          · have hlt : σ.2.2.1.length < 12 := by
              rcases Nat.lt_or_ge σ.2.2.1.length 12 with h9 | h9
              · exact h9
              · exact absurd (by rw [show σ.2.2.1.length = 12 by omega]; rfl) q6
            have hc0 : zeA σ x c p m n = 0 := by unfold zeA; rw [if_neg g1, if_neg g2, if_neg g4, if_pos hlt]
            rw [zir3] at q
            rw [zir2] at q4
            obtain ⟨i, hi, rfl⟩ := zir_ok (by decide) q
            obtain ⟨j, hj, rfl⟩ := zir_ok (by omega) q5
            obtain ⟨d, hd, rfl⟩ := zir_ok (by decide) q4
            refine z4_put M (fun h1 M1 k1 => z_gI M1.1 rfl ⟨fun _ => ?_, fun q => absurd (Int32.le_refl _) q⟩)
            refine z4_adv hG M1 (k1.mono z100T) hlt q2 (fun h' N => zTw.ok hc0 ⟨rfl, ?_⟩)
            unfold zsA
            rw [zAt_nI (by omega), zAt_nI (by omega), zAt_nI (by omega)]
            exact N
          · have hge : σ.2.2.1.length = 12 := (nI_eq (a := σ.2.2.1.length) (b := 12) (by omega) (by decide)).mp q6
            exact bad 3 (by decide) (by decide) (by unfold zeA; rw [if_neg g1, if_neg g2, if_neg g4, if_neg (by omega)])
        · have g4 : zix p σ.2.1.length = none := by rw [zix_none]; exact zbI_e0 q5
          exact bad 2 (by decide) (by decide) (by unfold zeA; rw [if_neg g1, if_neg g2, if_pos g4])
      · exact bad 1 (by decide) (by decide) (by unfold zeA; rw [if_neg g1, if_pos (by rw [zbI_e0 q4]; simp)])
end ZT6
