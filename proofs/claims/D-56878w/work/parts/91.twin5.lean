/-! THE REFERENCE: patterns told -/
section ZT5
variable {G : wv_G} {A B : zA} {σ σ' : zS} {h h0 h1 h2 h' : wv_H} {w : wv_W} {fr fr' kc ks : Nat} {P : wv_R → wv_H → Prop} {KX : String → Nat → wv_W → Prop} {a b L : Nat} {k m n r : Nat} {t : wv_T} {c x y v th : Int32}
def zl14 : List Int32 := [99, 101, 103, 104, 115, 109, 110, 116, 119, 118, 102, 38, 124, 33]
def zpn (c a : Int32) : Bool := if [110, 116, 119].contains c = true then zir a 0 5 else if c = 118 then zir a (-99) 99 else true
theorem zl14_k (e : zl14.contains c = true) : c = 99 ∨ c = 101 ∨ c = 103 ∨ c = 104 ∨ c = 115 ∨ c = 109 ∨ c = 110 ∨ c = 116 ∨ c = 119 ∨ c = 118 ∨ c = 102 ∨ c = 38 ∨ c = 124 ∨ c = 33 := by
  have h1 := List.contains_iff_mem.mp e
  simp only [zl14, List.mem_cons, List.not_mem_nil, or_false] at h1
  exact h1
theorem zptR_eq (c a : Int32) : zptR c a = (zl14.contains c && zpn c a) := by
  cases e : zl14.contains c with
  | true =>
    rcases zl14_k e with e | e | e | e | e | e | e | e | e | e | e | e | e | e <;> subst e <;> simp [zptR, zpn]
  | false =>
    rw [Bool.false_and, Bool.eq_false_iff]
    intro h
    have h2 := zptR_k h
    have h3 : zl14.contains c = true := by
      rcases h2 with e | e | e | e | e | e | e | e | e | e | e | e | e | e <;> rw [e] <;> decide
    rw [e] at h3
    cases h3
theorem z4_isPatternNumber (hG : wv_G0 G) (c a : Int32) : wv_C G yX4_isPatternNumber [.int c, .int a] h 5 0 0 (fun r h' => r = .inl (some (.int (zbI (zpn c a)))) ∧ h' = h) := by
  refine wk_X4_isPatternNumber hG (z_cI (z4_isOneOf hG (k := 14) (q := wv_sx.getD 14 (0, [])) rfl (by decide) c) (by omega) ⟨fun q => ⟨fun q2 => ?_, fun q2 => ?_⟩, fun q => ?_⟩)
  · have q : ¬ [110, 116, 119].contains c = true := by rw [show [110, 116, 119].contains c = false from zbI_e0 q]; decide
    refine ⟨rfl, ?_, rfl⟩
    unfold zpn
    rw [if_neg q, if_neg q2]
    rfl
  · have q : ¬ [110, 116, 119].contains c = true := by rw [show [110, 116, 119].contains c = false from zbI_e0 q]; decide
    have e : zpn c a = zir a (-99) 99 := by
      unfold zpn
      rw [if_neg q, if_pos q2]
    rw [e]
    refine z_cI (z4_in hG _ _ _) (by omega) ⟨fun q3 => ?_, fun q3 => ?_⟩
    · rw [zbI_e0 q3]
      exact ⟨rfl, rfl, rfl⟩
    · rw [zbI_n0 q3]
      exact ⟨rfl, rfl, rfl⟩
  · have q : [110, 116, 119].contains c = true := zbI_n0 q
    have e : zpn c a = zir a 0 5 := by
      unfold zpn
      rw [if_pos q]
    rw [e]
    exact z_cI (z4_in hG _ _ _) (by omega) ⟨zbI_n _, rfl, rfl⟩
/-- are the patterns there that a pattern names -/
def zap (σ : zS) (c x y : Int32) : Bool := (!([102, 38, 124, 33].contains c) || zir x 0 (nI σ.2.1.length - 1)) && (!([38, 124].contains c) || zir y 0 (nI σ.2.1.length - 1))
theorem z4_arePatterns17 (hG : wv_G0 G) (M : zMf G B σ th L h) {b : Bool} (hb : b = (!([102, 38, 124, 33].contains c) || zir x 0 (nI σ.2.1.length - 1))) (hb1 : b = true) : vc_X4_arePatterns_17 G 5 (fun r h' => r = .inl (some (.int (zbI (zap σ c x y)))) ∧ h' = h) (some (B 100 0 0)) c y (h, 0, 0) := by
  have e : zap σ c x y = (!([38, 124].contains c) || zir y 0 (nI σ.2.1.length - 1)) := by
    unfold zap
    rw [← hb, hb1, Bool.true_and]
  rw [e]
  refine z_cI (z4_isOneOf hG (k := 16) (q := wv_sx.getD 16 (0, [])) rfl (by decide) c) (by omega) ⟨fun q => ?_, fun q => ?_⟩
  · rw [show [38, 124].contains c = false from zbI_e0 q]
    exact ⟨rfl, rfl, rfl⟩
  · rw [show [38, 124].contains c = true from zbI_n0 q]
    refine z_vI M.is (z4_isPattern hG M y) (by omega) ⟨fun q3 => ?_, fun q3 => ?_⟩
    · rw [zbI_e0 q3]
      exact ⟨rfl, rfl, rfl⟩
    · rw [zbI_n0 q3]
      exact ⟨rfl, rfl, rfl⟩
theorem z4_arePatterns (hG : wv_G0 G) (M : zMf G B σ th L h) (c x y : Int32) : wv_C G yX4_arePatterns [.ref (B 100 0 0), .int c, .int x, .int y] h 5 0 0 (fun r h' => r = .inl (some (.int (zbI (zap σ c x y)))) ∧ h' = h) := by
  refine wk_X4_arePatterns (v0 := some (B 100 0 0)) hG (z_cI (z4_isOneOf hG (k := 15) (q := wv_sx.getD 15 (0, [])) rfl (by decide) c) (by omega) ⟨fun q => ?_, fun q => ?_⟩)
  · have q : [102, 38, 124, 33].contains c = false := zbI_e0 q
    exact z4_arePatterns17 hG M rfl (by rw [q]; rfl)
  · have q : [102, 38, 124, 33].contains c = true := zbI_n0 q
    refine z_vI M.is (z4_isPattern hG M x) (by omega) ⟨fun q3 => ?_, fun q3 => ?_⟩
    · have e : zap σ c x y = false := by
        unfold zap
        rw [q, zbI_e0 q3]
        rfl
      rw [e]
      exact ⟨rfl, rfl, rfl⟩
    · exact z4_arePatterns17 hG M rfl (by rw [q, zbI_n0 q3]; rfl)
theorem zap_E (hr : zl14.contains c = true) : zap σ c x y = true ↔ ¬ zmE σ c x y := by
  have hz : ∀ z : Int32, (zix z σ.2.1.length = none ↔ ¬ zir z 0 (nI σ.2.1.length - 1) = true) := fun z => by rw [zix_none, Bool.not_eq_true]
  rcases zl14_k hr with e | e | e | e | e | e | e | e | e | e | e | e | e | e <;> subst e <;> simp [zap, zmE, hz]
theorem zmO (M : zMf G B σ th L h) : h (B 100 0 0) = some ((100, 0, 0, 0), zMo B σ th L) := M.1
theorem zaddP_get {p : zPt} {f : Nat → Int32} {g : zPt → Int32} (h : ∀ n p, σ.2.1[n]? = some p → f n = g p) : ∀ n q, (zaddP σ p).2.1[n]? = some q → upd f σ.2.1.length (g p) n = g q := by
  intro n q hq
  have hq : (σ.2.1 ++ [p])[n]? = some q := hq
  rcases z_app hq with hq | ⟨e1, e2⟩
  · have := (List.getElem?_eq_some_iff.mp hq).1
    rw [pk_un (by omega)]
    exact h n q hq
  · rw [e1, e2, pk_us]
theorem z4_addPattern (hG : wv_G0 G) (hw : zwf σ) (M : zMf G B σ th L h) (c x y : Int32) : wv_C G yX4_addPattern [.ref (B 100 0 0), .int c, .int x, .int y] h 6 0 0 (zTw G B σ L h (zeP σ c x y) (.int 0) (fun r h' => r = .inl (some (.int (nI σ.2.1.length))) ∧ zTN G B (zaddP σ (c, x, y)) L h h')) := by
  have h24 := hw.2.2.1
  have bad : ∀ k : Nat, 0 < k → k ≤ 3 → zeP σ c x y = k → vc_X4_addPattern_50 G 6 (zTw G B σ L h (zeP σ c x y) (.int 0) (fun r h' => r = .inl (some (.int (nI σ.2.1.length))) ∧ zTN G B (zaddP σ (c, x, y)) L h h')) (some (B 100 0 0)) c x y (nI k) (some (B 100 0 0)) (h, 0, 0) := by
    intro k h0 h3 hc
    refine z4_put M (fun h1 M1 k1 => z_gI M1.1 rfl ⟨fun q => absurd q (nI_nle h0 (by omega)), fun _ => zTw.bad k hc h0 M1 (k1.mono z100T)⟩)
  refine wk_X4_addPattern (v0 := some (B 100 0 0)) hG (z_cI (z4_isOneOf hG (k := 13) (q := wv_sx.getD 13 (0, [])) rfl (by decide) c) (by omega) ⟨fun q => ?_, fun q => ?_⟩)
  · have q : zl14.contains c = false := zbI_e0 q
    exact bad 1 (by decide) (by decide) (if_pos (by rw [zptR_eq, q]; rfl))
  · have q : zl14.contains c = true := zbI_n0 q
    refine z_cI (z4_isPatternNumber hG c x) (by omega) ⟨fun q2 => ?_, fun q2 => bad 1 (by decide) (by decide) (if_pos (by rw [zptR_eq, q, zbI_e0 q2]; rfl))⟩
    have hr : ¬ zptR c x = false := by rw [zptR_eq, q, zbI_n0 q2]; decide
    refine z_vI M.is (z4_arePatterns hG M c x y) (by omega) ⟨fun q3 => ?_, fun q3 => bad 2 (by decide) (by decide) ?_⟩
    · have hE : ¬ zmE σ c x y := (zap_E q).mp (zbI_n0 q3)
      refine z_gI M.1 rfl ⟨fun q4 => ?_, fun q4 => bad 3 (by decide) (by decide) ?_⟩
      · have hlt : σ.2.1.length < 24 := by
          rcases Nat.lt_or_ge σ.2.1.length 24 with h9 | h9
          · exact h9
          · exact absurd (by rw [show σ.2.1.length = 24 by omega]; rfl) q4
        have hc0 : zeP σ c x y = 0 := by unfold zeP; rw [if_neg hr, if_neg hE, if_pos hlt]
        refine z4_put M (fun h1 M1 k1 => z_gI M1.1 rfl ⟨fun _ => ?_, fun q => absurd (Int32.le_refl _) q⟩)
        obtain ⟨m0, m1, mb, m2, ⟨f3, m3, u3⟩, ⟨f4, m4, u4⟩, m5, m6, m7, m8, ⟨f9, m9, u9⟩, m10, m11, m12⟩ := M1
        have hn : vp_nar .char c = c := by
          rcases zl14_k q with e | e | e | e | e | e | e | e | e | e | e | e | e | e <;> rw [e] <;> rfl
        refine z_gA m0 rfl (z_gI m0 rfl (z_si m9 (by show (109 : Nat) ≠ 0; decide) hlt (by decide) ?_))
        rw [hn]
        have k2 : kp (fun _ t => t.1 = 109) h1 (wv_up h1 (B 109 0 0) ((109, 0, 0, 0), wo_i (wv_A G 1) 24 (upd f9 σ.2.1.length c))) := kp.put m9 rfl
        have e2 : wv_up h1 (B 109 0 0) ((109, 0, 0, 0), wo_i (wv_A G 1) 24 (upd f9 σ.2.1.length c)) (B 109 0 0) = _ := wv_up_self
        show wv_gA (wv_up h1 (B 109 0 0) ((109, 0, 0, 0), wo_i (wv_A G 1) 24 (upd f9 σ.2.1.length c)), _, _) _ _ _ _
        generalize wv_up h1 (B 109 0 0) ((109, 0, 0, 0), wo_i (wv_A G 1) 24 (upd f9 σ.2.1.length c)) = h2 at k2 e2 ⊢
        have o2 := k2 _ _ m0 (fun q => by cases q)
        have m32 := k2 _ _ m3 (fun q => by cases q)
        refine z_gA o2 rfl (z_gI o2 rfl (z_si m32 (by show (103 : Nat) ≠ 0; decide) hlt (by decide) ?_))
        have k3 : kp (fun _ t => t.1 = 103) h2 (wv_up h2 (B 103 0 0) ((103, 0, 0, 0), wo_i (wv_A G 0) 24 (upd f3 σ.2.1.length x))) := kp.put m32 rfl
        have e3 : wv_up h2 (B 103 0 0) ((103, 0, 0, 0), wo_i (wv_A G 0) 24 (upd f3 σ.2.1.length x)) (B 103 0 0) = _ := wv_up_self
        show wv_gA (wv_up h2 (B 103 0 0) ((103, 0, 0, 0), wo_i (wv_A G 0) 24 (upd f3 σ.2.1.length x)), _, _) _ _ _ _
        generalize wv_up h2 (B 103 0 0) ((103, 0, 0, 0), wo_i (wv_A G 0) 24 (upd f3 σ.2.1.length x)) = h3 at k3 e3 ⊢
        have o3 := k3 _ _ o2 (fun q => by cases q)
        have m43 := k3 _ _ (k2 _ _ m4 (fun q => by cases q)) (fun q => by cases q)
        refine z_gA o3 rfl (z_gI o3 rfl (z_si m43 (by show (104 : Nat) ≠ 0; decide) hlt (by decide) ?_))
        have k4 : kp (fun _ t => t.1 = 104) h3 (wv_up h3 (B 104 0 0) ((104, 0, 0, 0), wo_i (wv_A G 0) 24 (upd f4 σ.2.1.length y))) := kp.put m43 rfl
        have e4 : wv_up h3 (B 104 0 0) ((104, 0, 0, 0), wo_i (wv_A G 0) 24 (upd f4 σ.2.1.length y)) (B 104 0 0) = _ := wv_up_self
        show wv_gI (wv_up h3 (B 104 0 0) ((104, 0, 0, 0), wo_i (wv_A G 0) 24 (upd f4 σ.2.1.length y)), _, _) _ _ _ _
        generalize wv_up h3 (B 104 0 0) ((104, 0, 0, 0), wo_i (wv_A G 0) 24 (upd f4 σ.2.1.length y)) = h4 at k4 e4 ⊢
        have o4 := k4 _ _ o3 (fun q => by cases q)
        refine z_gI o4 rfl (z_pt o4 (Nat.succ_ne_zero _) (by simp) (z_gI wv_up_self rfl (zTw.ok hc0 ⟨?_, B, rfl, ⟨?_, ?_⟩, ?_⟩)))
        · show Sum.inl (some (Value.int (nI σ.2.1.length + 1 - 1))) = _
          rw [← nI_succ, nI_pred]
        · refine wv_up_self.trans ?_
          unfold zMo
          rw [show (zaddP σ (c, x, y)).2.1.length = σ.2.1.length + 1 from List.length_append, nI_succ]
          rfl
        · have k5 : kp zS100 h4 (wv_up h4 (B 100 0 0) ((100, 0, 0, 0), wo_o ciX4 ([va_rf (some (B 101 0 0)), va_rf (some (B 102 0 0)), va_rf (some (B 103 0 0)), va_rf (some (B 104 0 0)), va_rf (some (B 105 0 0)), va_rf (some (B 106 0 0)), va_rf (some (B 107 0 0)), va_rf (some (B 108 0 0)), va_rf (some (B 109 0 0)), va_rf (some (B 110 0 0)), va_rf (some (B 111 0 0)), va_rf (some (B 112 0 0)), .int 0, .int (nI (zn σ)), .int (nI σ.2.1.length), .int (nI σ.2.2.1.length), va_rf (some L)].set 14 (.int (nI σ.2.1.length + 1))))) := kp.put o4 rfl
          refine zMh.keep (h := h4) ?_ k5 (fun _ t q x => by have q : t.1 = 100 := q; omega)
          have k24 : kp (fun _ t => t.1 = 109 ∨ t.1 = 103 ∨ t.1 = 104) h1 h4 := ((k2.mono (fun _ t q => Or.inl q)).trans (k3.mono (fun _ t q => Or.inr (Or.inl q)))).trans (k4.mono (fun _ t q => Or.inr (Or.inr q)))
          have hr : ∀ r, r ≠ 109 → r ≠ 103 → r ≠ 104 → ∀ (a : Nat) (t : wv_T), (t.1 = 109 ∨ t.1 = 103 ∨ t.1 = 104) → t.1 ≠ r := fun r h1 h2 h3 a t q e => by rcases q with q | q | q <;> omega
          refine ⟨?_, fun i j hi hj he => (mb i j hi hj he).keep k24 (fun a t q x => by rcases q with q | q | q <;> omega), m2.keep k24 (hr 102 (by decide) (by decide) (by decide)), ⟨_, k4 _ _ e3 (fun q => by cases q), zaddP_get (g := fun p => p.2.1) u3⟩, ⟨_, e4, zaddP_get (g := fun p => p.2.2) u4⟩, m5.keep k24 (hr 105 (by decide) (by decide) (by decide)), m6.keep k24 (hr 106 (by decide) (by decide) (by decide)), m7.keep k24 (hr 107 (by decide) (by decide) (by decide)), m8.keep k24 (hr 108 (by decide) (by decide) (by decide)), ⟨_, k4 _ _ (k3 _ _ e2 (fun q => by cases q)) (fun q => by cases q), zaddP_get (g := fun p => p.1) u9⟩, m10.keep k24 (hr 110 (by decide) (by decide) (by decide)), m11.keep k24 (hr 111 (by decide) (by decide) (by decide)), m12.keep k24 (hr 112 (by decide) (by decide) (by decide))⟩
          obtain ⟨fb, p1, p2⟩ := m1
          exact ⟨fb, k24 _ _ p1 (fun q => by rcases q with q | q | q <;> cases q), p2⟩
        · refine ((((k1.mono z100T).trans (k2.mono (fun _ t q => ?_))).trans (k3.mono (fun _ t q => ?_))).trans (k4.mono (fun _ t q => ?_))).trans (kp.put o4 ⟨zle, zle⟩)
          · have q : t.1 = 109 := q
            exact ⟨by omega, by omega⟩
          · have q : t.1 = 103 := q
            exact ⟨by omega, by omega⟩
          · have q : t.1 = 104 := q
            exact ⟨by omega, by omega⟩
      · have hge : σ.2.1.length = 24 := (nI_eq (a := σ.2.1.length) (b := 24) (by omega) (by decide)).mp q4
        unfold zeP
        rw [if_neg hr, if_neg hE, if_neg (by omega)]
    · have hE : zmE σ c x y := Classical.byContradiction (fun x9 => by
        have := (zap_E (σ := σ) (x := x) (y := y) q).mpr x9
        rw [this] at q3
        exact absurd q3 (by decide))
      unfold zeP
      rw [if_neg hr, if_pos hE]
end ZT5
