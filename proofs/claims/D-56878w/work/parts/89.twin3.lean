/-! THE REFERENCE: dropBody, turn, precede -/
section ZT3
variable {G : wv_G} {A B : zA} {σ σ' : zS} {h h0 h1 h2 h' : wv_H} {w : wv_W} {fr fr' kc ks : Nat} {P : wv_R → wv_H → Prop} {KX : String → Nat → wv_W → Prop} {a b c L : Nat} {k m n r : Nat} {t : wv_T} {x y v th : Int32}
theorem zwr_le (x y : Int32) : zwr σ x y ≤ 2 := by
  unfold zwr
  split
  · decide
  · split <;> decide
theorem zwr_ok (hn6 : zn σ ≤ 6) (hc0 : zwr σ x y = 0) : ∃ k m, zix x (zn σ) = some k ∧ zix y 6 = some m ∧ k < zn σ ∧ m < 6 ∧ x = nI k ∧ y = nI m := by
  cases hk : zix x (zn σ) with
  | none => rw [zwr_1 hk] at hc0; cases hc0
  | some k =>
    cases hm : zix y 6 with
    | none => rw [zwr_2 hk hm] at hc0; cases hc0
    | some m =>
      obtain ⟨hlt, exk⟩ := (zix_some (by omega)).mp hk
      obtain ⟨hm6, eym⟩ := (zix_some (by decide)).mp hm
      exact ⟨k, m, rfl, rfl, hlt, hm6, exk, eym⟩
/-- the code of a call is 0 or not -/
theorem z4_code {c : Nat} (hc : c < 2 ^ 31) {Y N : Prop} (hY : c = 0 → Y) (hN : 0 < c → N) : (nI c ≤ 0 → Y) ∧ (¬ nI c ≤ 0 → N) := by
  refine ⟨fun q => hY ?_, fun q => hN ?_⟩
  · rcases Nat.eq_zero_or_pos c with e | e
    · exact e
    · exact absurd q (nI_nle e hc)
  · rcases Nat.eq_zero_or_pos c with e | e
    · rw [e] at q
      exact absurd (Int32.le_refl _) q
    · exact e
theorem z4_dropBody (hG : wv_G0 G) (hw : zwf σ) (M : zMf G B σ th L h) (x y : Int32) : wv_C G yX4_dropBody [.ref (B 100 0 0), .int x, .int y] h 3 0 0 (zTw G B σ L h (zwr σ x y) (.int 0) (fun r h' => r = .inl (some (.int (nI (zbody σ (zAt x) (zAt y)).length))) ∧ zTN G B (zset σ (zAt x) (zAt y) []) L h h')) := by
  have hn6 := hw.1
  have h2 := zwr_le (σ := σ) x y
  refine wk_X4_dropBody (v0 := some (B 100 0 0)) hG (z_vI M.is (z4_wrong hG M x y) (by omega) (z4_put M (fun h1 M1 k1 => z_gI M1.1 rfl (z4_code (by omega) (fun hc0 => ?_) (fun hc => zTw.bad (zwr σ x y) rfl hc M1 (k1.mono z100T))))))
  obtain ⟨k, m, hk, hm, hlt, hm6, rfl, rfl⟩ := zwr_ok hn6 hc0
  rw [zix_at hk, zix_at hm]
  have M2 : zMf G B σ 0 L h1 := by rw [hc0] at M1; exact M1
  refine z_vA M2.is (z4_body hG M2 (by omega) hm6) (by omega) (z_gA M2.1 rfl ?_)
  obtain ⟨m0, ⟨fb, m1, u1⟩, mb, m2, m3, m4, m5, m6, m7, m8, m9, m10, m11, m12⟩ := M2
  rw [z46]
  refine ⟨B 101 0 0, _, 36, fb, rfl, m1, by show (101 : Nat) ≠ 0; decide, vp_in_nI (by omega) (by decide), fun b hb => (by cases hb), ?_⟩
  rw [nI_clamp (by omega)]
  have k2 : kp (fun _ t => t.1 = 101) h1 (wv_up h1 (B 101 0 0) ((101, 0, 0, 0), wo_q (wv_A G 7) 36 (va_up fb (6 * k + m) none))) := kp.put m1 rfl
  have e2 : wv_up h1 (B 101 0 0) ((101, 0, 0, 0), wo_q (wv_A G 7) 36 (va_up fb (6 * k + m) none)) (B 101 0 0) = _ := wv_up_self
  show (_ → wv_gI (wv_up h1 (B 101 0 0) ((101, 0, 0, 0), wo_q (wv_A G 7) 36 (va_up fb (6 * k + m) none)), _, _) _ _ _ _) ∧ (_ → zTw G B σ L h _ _ _ _ (wv_up h1 (B 101 0 0) ((101, 0, 0, 0), wo_q (wv_A G 7) 36 (va_up fb (6 * k + m) none))))
  generalize wv_up h1 (B 101 0 0) ((101, 0, 0, 0), wo_q (wv_A G 7) 36 (va_up fb (6 * k + m) none)) = h2 at k2 e2 ⊢
  have hr : ∀ r, r ≠ 101 → ∀ (a : Nat) (t : wv_T), t.1 = 101 → t.1 ≠ r := fun r hr a t q e => hr (e.symm.trans q)
  have N : zTN G B (zset σ k m []) L h h2 := by
    refine ⟨B, rfl, ⟨?_, ⟨_, e2, fun i j hi hj => ?_⟩, fun i j hi hj he => ?_, ?_, m3.keep k2 (hr 103 (by decide)), m4.keep k2 (hr 104 (by decide)), m5.keep k2 (hr 105 (by decide)), m6.keep k2 (hr 106 (by decide)), m7.keep k2 (hr 107 (by decide)), m8.keep k2 (hr 108 (by decide)), m9.keep k2 (hr 109 (by decide)), m10.keep k2 (hr 110 (by decide)), m11.keep k2 (hr 111 (by decide)), m12.keep k2 (hr 112 (by decide))⟩, (k1.mono z100T).trans (k2.mono (fun _ t q => ?_))⟩
    · refine (k2 _ _ m0 (fun q => by cases q)).trans ?_
      unfold zMo
      rw [zset_n]
      rfl
    · rw [zset_body σ hlt]
      unfold va_up
      by_cases e : i = k ∧ j = m
      · obtain ⟨rfl, rfl⟩ := e
        rw [if_pos rfl, if_pos (show i = i ∧ j = j from ⟨rfl, rfl⟩)]
        rfl
      · rw [if_neg (by omega), if_neg e]
        exact u1 i j hi hj
    · rw [zset_body σ hlt] at he ⊢
      by_cases e : i = k ∧ j = m
      · rw [if_pos e] at he
        cases he
      · rw [if_neg e] at he ⊢
        exact (mb i j hi hj he).keep k2 (fun a t q x => by have q : t.1 = 101 := q; omega)
    · obtain ⟨f2, p1, p2⟩ := m2
      refine ⟨f2, k2 _ _ p1 (fun q => by cases q), fun i hi => ?_⟩
      rw [zset_n] at hi
      rw [zset_par]
      exact p2 i hi
    · have q : t.1 = 101 := q
      exact ⟨by omega, by omega⟩
  cases hb : (zbody σ k m).isEmpty with
  | true =>
    have hb2 : zbody σ k m = [] := List.isEmpty_iff.mp hb
    refine ⟨fun q => absurd rfl q, fun _ => zTw.ok hc0 ⟨?_, N⟩⟩
    rw [hb2]
    rfl
  | false =>
    have hbo := (mb k m (by omega) hm6 hb).1
    exact ⟨fun _ => z_gI (k2 _ _ hbo (fun q => by cases q)) rfl (zTw.ok hc0 ⟨rfl, N⟩), fun q => by cases q⟩
theorem z4_turn (hG : wv_G0 G) (hw : zwf σ) (M : zMf G B σ th L h) (x : Int32) (b : Bool) : wv_C G yX4_turn [.ref (B 100 0 0), .int x, .int (zbI b)] h 3 0 0 (zTw G B σ L h (zeT σ x) (.int 0) (fun r h' => r = .inl (some (.int (zbI (zadv σ (zAt x)).2.2.2.2.2))) ∧ zTN G B (zturn σ (zAt x) b) L h h')) := by
  have h12 := hw.2.2.2.2.1
  refine wk_X4_turn (v0 := some (B 100 0 0)) hG (z_vI M.is (z4_isAdvice hG M x) (by omega) ⟨B 100 0 0, rfl, M.is, z_c (z4_checked hG M _) (by omega) (Nat.zero_le _) (Nat.zero_le _) ?_⟩)
  rintro z h1 ⟨rfl, M1, k1⟩
  refine Or.inl ⟨_, rfl, ?_⟩
  cases hk : zix x σ.2.2.1.length with
  | none =>
    have e1 := zix_none.mp hk
    rw [e1] at M1 ⊢
    refine ⟨fun q => absurd q (by decide), fun _ => ⟨rfl, zTw.bad 1 (if_pos hk) (by decide) M1 (k1.mono z100T)⟩⟩
  | some k =>
    have e1 := zir_of (by omega) hk
    obtain ⟨hlt, rfl⟩ := (zix_some (by omega)).mp hk
    rw [e1] at M1 ⊢
    have hc0 : zeT σ (nI k) = 0 := by unfold zeT; rw [if_neg (by rw [hk]; simp)]
    have hx := zadv_get hlt
    refine ⟨fun _ => ?_, fun q => absurd (by decide) q⟩
    rw [zAt_nI (by omega)]
    obtain ⟨m0, m1, mb, m2, m3, m4, m5, m6, m7, m8, m9, m10, ⟨f11, m11, u11⟩, m12⟩ := M1
    refine z_gA m0 rfl (z_li m11 (by omega) (by decide) (z_gA m0 rfl (z_si m11 (by show (111 : Nat) ≠ 0; decide) (by omega) (by decide) ?_)))
    rw [u11 k _ hx, show vp_nar .boolean (zbI b) = zbI b by cases b <;> rfl]
    refine ⟨zbI_n _, zTw.ok hc0 ⟨rfl, B, rfl, ?_⟩⟩
    have k2 : kp (fun _ t => t.1 = 111) h1 (wv_up h1 (B 111 0 0) ((111, 0, 0, 0), wo_i (wv_A G 2) 12 (upd f11 k (zbI b)))) := kp.put m11 rfl
    have e2 : wv_up h1 (B 111 0 0) ((111, 0, 0, 0), wo_i (wv_A G 2) 12 (upd f11 k (zbI b))) (B 111 0 0) = _ := wv_up_self
    show zMf G B (zturn σ k b) 0 L (wv_up h1 (B 111 0 0) ((111, 0, 0, 0), wo_i (wv_A G 2) 12 (upd f11 k (zbI b)))) ∧ kp zST h (wv_up h1 (B 111 0 0) ((111, 0, 0, 0), wo_i (wv_A G 2) 12 (upd f11 k (zbI b))))
    generalize wv_up h1 (B 111 0 0) ((111, 0, 0, 0), wo_i (wv_A G 2) 12 (upd f11 k (zbI b))) = h2 at k2 e2 ⊢
    have hr : ∀ r, r ≠ 111 → ∀ (a : Nat) (t : wv_T), t.1 = 111 → t.1 ≠ r := fun r hr a t q e => hr (e.symm.trans q)
    -- what is not the switch, alike
    have al : ∀ n y, (zturn σ k b).2.2.1[n]? = some y → ∃ z, σ.2.2.1[n]? = some z ∧ y.1 = z.1 ∧ y.2.1 = z.2.1 ∧ y.2.2.1 = z.2.2.1 ∧ y.2.2.2.1 = z.2.2.2.1 ∧ y.2.2.2.2.1 = z.2.2.2.2.1 ∧ y.2.2.2.2.2 = (if n = k then b else z.2.2.2.2.2) := by
      intro n y hy
      rw [zturn_get] at hy
      cases hz : σ.2.2.1[n]? with
      | none => rw [hz] at hy; cases hy
      | some z =>
        rw [hz] at hy
        have hy : (if n = k then (z.1, z.2.1, z.2.2.1, z.2.2.2.1, z.2.2.2.2.1, b) else z) = y := by injection hy
        refine ⟨z, rfl, ?_⟩
        by_cases e : n = k
        · rw [if_pos e] at hy
          subst hy
          rw [if_pos e]
          exact ⟨rfl, rfl, rfl, rfl, rfl, rfl⟩
        · rw [if_neg e] at hy
          subst hy
          rw [if_neg e]
          exact ⟨rfl, rfl, rfl, rfl, rfl, rfl⟩
    have re : ∀ {r kk N : Nat} {g : zAd → Int32}, r ≠ 111 → zar G B r kk N (fun f => ∀ n a, σ.2.2.1[n]? = some a → f n = g a) h1 → (∀ y z : zAd, y.1 = z.1 → y.2.1 = z.2.1 → y.2.2.1 = z.2.2.1 → y.2.2.2.1 = z.2.2.2.1 → y.2.2.2.2.1 = z.2.2.2.2.1 → g y = g z) → zar G B r kk N (fun f => ∀ n a, (zturn σ k b).2.2.1[n]? = some a → f n = g a) h2 := by
      intro r kk N g hr1 ⟨f, p1, p2⟩ hg
      refine ⟨f, k2 _ _ p1 (fun q => hr1 q), fun n y hy => ?_⟩
      obtain ⟨z, hz, z1, z2, z3, z4, z5, -⟩ := al n y hy
      rw [p2 n z hz]
      exact (hg y z z1 z2 z3 z4 z5).symm
    refine ⟨⟨?_, ?_, fun i j hi hj he => (mb i j hi hj he).keep k2 (fun a t q x => by have q : t.1 = 111 := q; omega), m2.keep k2 (hr 102 (by decide)), m3.keep k2 (hr 103 (by decide)), m4.keep k2 (hr 104 (by decide)), re (g := fun a => nI a.1) (by decide) m5 (fun y z z1 z2 z3 z4 z5 => by rw [z1]), re (g := fun a => nI a.2.2.1) (by decide) m6 (fun y z z1 z2 z3 z4 z5 => by rw [z3]), re (g := fun a => a.2.2.2.1) (by decide) m7 (fun y z z1 z2 z3 z4 z5 => z4), re (g := fun a => nI a.2.2.2.2.1) (by decide) m8 (fun y z z1 z2 z3 z4 z5 => by rw [z5]), m9.keep k2 (hr 109 (by decide)), re (g := fun a => a.2.1) (by decide) m10 (fun y z z1 z2 z3 z4 z5 => z2), ⟨_, e2, fun n y hy => ?_⟩, m12.keep k2 (hr 112 (by decide))⟩, (k1.mono z100T).trans (k2.mono (fun _ t q => ?_))⟩
    · refine (k2 _ _ m0 (fun q => by cases q)).trans ?_
      unfold zMo
      rw [show (zturn σ k b).2.2.1.length = σ.2.2.1.length from List.length_modify _ _ _]
      rfl
    · obtain ⟨fb, p1, p2⟩ := m1
      exact ⟨fb, k2 _ _ p1 (fun q => by cases q), p2⟩
    · obtain ⟨z, hz, -, -, -, -, -, z6⟩ := al n y hy
      rw [z6]
      by_cases e : n = k
      · subst e
        rw [pk_us, if_pos rfl]
      · rw [pk_un e, if_neg e]
        exact u11 n z hz
    · have q : t.1 = 111 := q
      exact ⟨by omega, by omega⟩
end ZT3
