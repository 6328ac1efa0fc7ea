/-! THE REFERENCE: its picture; its small methods -/
section ZT1
variable {G : wv_G} {A B : zA} {σ σ' : zS} {h h0 h1 h2 h' : wv_H} {w : wv_W} {fr fr' kc ks : Nat} {P : wv_R → wv_H → Prop} {KX : String → Nat → wv_W → Prop} {a b c L : Nat} {k m n r : Nat} {t : wv_T} {x y v th : Int32}
/-- parents and nothing as numbers -/
def zoN (o : Option Nat) : Int32 := match o with
  | none => -1
  | some p => nI p
/-- an array of the reference -/
def zar (G : wv_G) (B : zA) (r kk N : Nat) (P : (Nat → Int32) → Prop) (h : wv_H) : Prop := ∃ f, h (B r 0 0) = some ((r, 0, 0, 0), wo_i (wv_A G kk) N f) ∧ P f
/-- a body's object -/
def zMb (G : wv_G) (B : zA) (q : Nat) (l : List zSt) (h : wv_H) : Prop :=
  h (B 120 q 0) = some ((120, q, 0, 0), wo_o ciX8 [va_rf (some (B 121 q 0)), va_rf (some (B 122 q 0)), va_rf (some (B 123 q 0)), .int (nI l.length)]) ∧
  (∃ f, h (B 121 q 0) = some ((121, q, 0, 0), wo_i (wv_A G 1) 8 f) ∧ ∀ i st, l[i]? = some st → f i = st.1) ∧
  (∃ f, h (B 122 q 0) = some ((122, q, 0, 0), wo_i (wv_A G 0) 8 f) ∧ ∀ i st, l[i]? = some st → f i = st.2.1) ∧
  (∃ f, h (B 123 q 0) = some ((123, q, 0, 0), wo_i (wv_A G 0) 8 f) ∧ ∀ i st, l[i]? = some st → f i = st.2.2)
/-- the reference's own object: thrown, its last result's address -/
def zMo (B : zA) (σ : zS) (th : Int32) (L : Nat) : wv_O := wo_o ciX4 [va_rf (some (B 101 0 0)), va_rf (some (B 102 0 0)), va_rf (some (B 103 0 0)), va_rf (some (B 104 0 0)), va_rf (some (B 105 0 0)), va_rf (some (B 106 0 0)), va_rf (some (B 107 0 0)), va_rf (some (B 108 0 0)), va_rf (some (B 109 0 0)), va_rf (some (B 110 0 0)), va_rf (some (B 111 0 0)), va_rf (some (B 112 0 0)), .int th, .int (nI (zn σ)), .int (nI σ.2.1.length), .int (nI σ.2.2.1.length), va_rf (some L)]
/-- what the reference holds, but its object and its last result -/
def zMh (G : wv_G) (B : zA) (σ : zS) (h : wv_H) : Prop :=
  (∃ fb, h (B 101 0 0) = some ((101, 0, 0, 0), wo_q (wv_A G 7) 36 fb) ∧ ∀ k m, k < 6 → m < 6 → fb (6 * k + m) = if (zbody σ k m).isEmpty = true then none else some (B 120 (6 * k + m) 0)) ∧
  (∀ k m, k < 6 → m < 6 → (zbody σ k m).isEmpty = false → zMb G B (6 * k + m) (zbody σ k m) h) ∧
  zar G B 102 0 6 (fun f => ∀ k, k < zn σ → f k = zoN (zpar σ k)) h ∧
  zar G B 103 0 24 (fun f => ∀ n p, σ.2.1[n]? = some p → f n = p.2.1) h ∧
  zar G B 104 0 24 (fun f => ∀ n p, σ.2.1[n]? = some p → f n = p.2.2) h ∧
  zar G B 105 0 12 (fun f => ∀ n a, σ.2.2.1[n]? = some a → f n = nI a.1) h ∧
  zar G B 106 0 12 (fun f => ∀ n a, σ.2.2.1[n]? = some a → f n = nI a.2.2.1) h ∧
  zar G B 107 0 12 (fun f => ∀ n a, σ.2.2.1[n]? = some a → f n = a.2.2.2.1) h ∧
  zar G B 108 0 12 (fun f => ∀ n a, σ.2.2.1[n]? = some a → f n = nI a.2.2.2.2.1) h ∧
  zar G B 109 1 24 (fun f => ∀ n p, σ.2.1[n]? = some p → f n = p.1) h ∧
  zar G B 110 1 12 (fun f => ∀ n a, σ.2.2.1[n]? = some a → f n = a.2.1) h ∧
  zar G B 111 2 12 (fun f => ∀ n a, σ.2.2.1[n]? = some a → f n = zbI a.2.2.2.2.2) h ∧
  zar G B 112 2 16 (fun f => ∀ i j, i < 4 → j < 4 → f (4 * i + j) = zbI (σ.2.2.2 i j)) h
/-- the reference, in all -/
def zMf (G : wv_G) (B : zA) (σ : zS) (th : Int32) (L : Nat) (h : wv_H) : Prop := h (B 100 0 0) = some ((100, 0, 0, 0), zMo B σ th L) ∧ zMh G B σ h
theorem zar.keep {S : Nat → wv_T → Prop} {kk N : Nat} {Q : (Nat → Int32) → Prop} (R : zar G B r kk N Q h) (k : kp S h h1) (hS : ∀ a t, S a t → t.1 ≠ r) : zar G B r kk N Q h1 := by
  obtain ⟨f, e1, e2⟩ := R
  exact ⟨f, k _ _ e1 (fun q => hS _ _ q rfl), e2⟩
theorem zMb.keep {S : Nat → wv_T → Prop} {q : Nat} {l : List zSt} (R : zMb G B q l h) (k : kp S h h1) (hS : ∀ a t, S a t → ¬ (120 ≤ t.1 ∧ t.1 ≤ 123 ∧ t.2.1 = q)) : zMb G B q l h1 := by
  obtain ⟨r1, ⟨f2, r2, u2⟩, ⟨f3, r3, u3⟩, ⟨f4, r4, u4⟩⟩ := R
  exact ⟨k _ _ r1 (fun q => hS _ _ q ⟨zle, zle, rfl⟩), ⟨f2, k _ _ r2 (fun q => hS _ _ q ⟨zle, zle, rfl⟩), u2⟩, ⟨f3, k _ _ r3 (fun q => hS _ _ q ⟨zle, zle, rfl⟩), u3⟩, ⟨f4, k _ _ r4 (fun q => hS _ _ q ⟨zle, zle, rfl⟩), u4⟩⟩
/-- kept as long as nothing of it is written -/
theorem zMh.keep {S : Nat → wv_T → Prop} (M : zMh G B σ h) (k : kp S h h1) (hS : ∀ a t, S a t → ¬ (101 ≤ t.1 ∧ t.1 ≤ 123)) : zMh G B σ h1 := by
  obtain ⟨⟨fb, m0, u0⟩, m1, m2, m3, m4, m5, m6, m7, m8, m9, m10, m11, m12⟩ := M
  have hr : ∀ r, 101 ≤ r → r ≤ 123 → ∀ a t, S a t → t.1 ≠ r := fun r h1 h2 a t q e => hS a t q ⟨by omega, by omega⟩
  exact ⟨⟨fb, k _ _ m0 (fun q => hS _ _ q ⟨zle, zle⟩), u0⟩, fun i j hi hj he => (m1 i j hi hj he).keep k (fun a t q x => hS a t q ⟨by omega, by omega⟩), m2.keep k (hr 102 zle zle), m3.keep k (hr 103 zle zle), m4.keep k (hr 104 zle zle), m5.keep k (hr 105 zle zle), m6.keep k (hr 106 zle zle), m7.keep k (hr 107 zle zle), m8.keep k (hr 108 zle zle), m9.keep k (hr 109 zle zle), m10.keep k (hr 110 zle zle), m11.keep k (hr 111 zle zle), m12.keep k (hr 112 zle zle)⟩
theorem zMf.keep {S : Nat → wv_T → Prop} (M : zMf G B σ th L h) (k : kp S h h1) (hS : ∀ a t, S a t → ¬ (100 ≤ t.1 ∧ t.1 ≤ 123)) : zMf G B σ th L h1 := ⟨k _ _ M.1 (fun q => hS _ _ q ⟨zle, zle⟩), M.2.keep k (fun a t q x => hS a t q ⟨by omega, by omega⟩)⟩
theorem zMf.keepn (M : zMf G B σ th L h) (k : kp kn h h1) : zMf G B σ th L h1 := M.keep k (fun _ _ q => q.elim)
/-- its own object: thrown written -/
abbrev zS100 : Nat → wv_T → Prop := fun _ t => t.1 = 100
theorem zMf.thrown (M : zMf G B σ th L h) (x : Int32) : zMf G B σ x L (wv_up h (B 100 0 0) ((100, 0, 0, 0), zMo B σ x L)) ∧ kp zS100 h (wv_up h (B 100 0 0) ((100, 0, 0, 0), zMo B σ x L)) := by
  have k : kp zS100 h (wv_up h (B 100 0 0) ((100, 0, 0, 0), zMo B σ x L)) := kp.put M.1 rfl
  exact ⟨⟨wv_up_self, M.2.keep k (fun _ t q x => by have q : t.1 = 100 := q; omega)⟩, k⟩
theorem zMf.is (M : zMf G B σ th L h) : wv_is G h (B 100 0 0) RX4 := z_is M.1 ccX4
-- ===== in, isMethod, isClass .. =====
theorem z4_in (hG : wv_G0 G) (x lo hi : Int32) : wv_C G yX4_in [.int x, .int lo, .int hi] h 0 0 0 (fun r h' => r = .inl (some (.int (zbI (zir x lo hi)))) ∧ h' = h) := by
  refine wk_X4_in hG ⟨fun e => ?_, fun e => ⟨fun e2 => ?_, fun e2 => ?_⟩⟩
  · exact ⟨rfl, by rw [zir, if_pos e]; rfl, rfl⟩
  · exact ⟨rfl, by rw [zir, if_neg e, if_pos e2]; rfl, rfl⟩
  · exact ⟨rfl, by rw [zir, if_neg e, if_neg e2]; rfl, rfl⟩
theorem z4_isMethod (hG : wv_G0 G) (x : Int32) : wv_C G yX4_isMethod [.int x] h 1 0 0 (fun r h' => r = .inl (some (.int (zbI (zir x 0 5)))) ∧ h' = h) := wk_X4_isMethod hG (z_cI (z4_in hG _ _ _) (by omega) ⟨zbI_n _, rfl, rfl⟩)
theorem z4_isAspect (hG : wv_G0 G) (x : Int32) : wv_C G yX4_isAspect [.int x] h 1 0 0 (fun r h' => r = .inl (some (.int (zbI (zir x 0 3)))) ∧ h' = h) := wk_X4_isAspect hG (z_cI (z4_in hG _ _ _) (by omega) ⟨zbI_n _, rfl, rfl⟩)
theorem z4_isClass (hG : wv_G0 G) (M : zMf G B σ th L h) (x : Int32) : wv_C G yX4_isClass [.ref (B 100 0 0), .int x] h 1 0 0 (fun r h' => r = .inl (some (.int (zbI (zir x 0 (nI (zn σ) - 1))))) ∧ h' = h) := wk_X4_isClass (v0 := some (B 100 0 0)) hG (z_gI M.1 rfl (z_cI (z4_in hG _ _ _) (by omega) ⟨zbI_n _, rfl, rfl⟩))
theorem z4_isPattern (hG : wv_G0 G) (M : zMf G B σ th L h) (x : Int32) : wv_C G yX4_isPattern [.ref (B 100 0 0), .int x] h 1 0 0 (fun r h' => r = .inl (some (.int (zbI (zir x 0 (nI σ.2.1.length - 1))))) ∧ h' = h) := wk_X4_isPattern (v0 := some (B 100 0 0)) hG (z_gI M.1 rfl (z_cI (z4_in hG _ _ _) (by omega) ⟨zbI_n _, rfl, rfl⟩))
theorem z4_isAdvice (hG : wv_G0 G) (M : zMf G B σ th L h) (x : Int32) : wv_C G yX4_isAdvice [.ref (B 100 0 0), .int x] h 1 0 0 (fun r h' => r = .inl (some (.int (zbI (zir x 0 (nI σ.2.2.1.length - 1))))) ∧ h' = h) := wk_X4_isAdvice (v0 := some (B 100 0 0)) hG (z_gI M.1 rfl (z_cI (z4_in hG _ _ _) (by omega) ⟨zbI_n _, rfl, rfl⟩))
theorem z4_thrown (hG : wv_G0 G) (M : zMf G B σ th L h) : wv_C G yX4_thrown [.ref (B 100 0 0)] h 0 0 0 (fun r h' => r = .inl (some (.int th)) ∧ h' = h) := wk_X4_thrown (v0 := some (B 100 0 0)) hG (z_gI M.1 rfl ⟨rfl, rfl⟩)
/-- thrown written by the reference -/
theorem z4_put (M : zMf G B σ th L w.1) {x : Int32} {K : wv_W → Prop} (hK : ∀ h1, zMf G B σ x L h1 → kp zS100 w.1 h1 → K (h1, w.2)) : wv_pt w (some (B 100 0 0)) ciX4 12 (.int x) K := by
  obtain ⟨M1, k1⟩ := M.thrown x
  exact z_pt M.1 (Nat.succ_ne_zero _) (by simp) (hK _ M1 k1)
theorem z4_plain (hG : wv_G0 G) (M : zMf G B σ th L h) (x : Int32) : wv_C G yX4_plain [.ref (B 100 0 0), .int x] h 0 0 0 (fun r h' => r = .inl (some (.int x)) ∧ zMf G B σ 0 L h' ∧ kp zS100 h h') := wk_X4_plain (v0 := some (B 100 0 0)) hG (z4_put M (fun h1 M1 k1 => ⟨rfl, M1, k1⟩))
theorem z4_checked (hG : wv_G0 G) (M : zMf G B σ th L h) (b : Bool) : wv_C G yX4_checked [.ref (B 100 0 0), .int (zbI b)] h 0 0 0 (fun r h' => r = .inl (some (.int (zbI (!b)))) ∧ zMf G B σ (zbI (!b)) L h' ∧ kp zS100 h h') := by
  refine wk_X4_checked (v0 := some (B 100 0 0)) hG ⟨fun q => ?_, fun q => ?_⟩
  · rw [zbI_e0 q]
    exact z4_put M (fun h1 M1 k1 => z_gI M1.1 rfl ⟨rfl, M1, k1⟩)
  · rw [zbI_n0 q]
    exact z4_put M (fun h1 M1 k1 => z_gI M1.1 rfl ⟨rfl, M1, k1⟩)
-- ===== bodies =====
theorem z46 (k m : Nat) : (6 : Int32) * nI k + nI m = nI (6 * k + m) := by
  rw [show (6 : Int32) = nI 6 by decide, pk_mul, nI_add]
theorem z4_body (hG : wv_G0 G) (M : zMf G B σ th L h) (hk : k < 6) (hm : m < 6) : wv_C G yX4_body [.ref (B 100 0 0), .int (nI k), .int (nI m)] h 0 0 0 (fun r h' => r = .inl (some (va_rf (if (zbody σ k m).isEmpty = true then none else some (B 120 (6 * k + m) 0)))) ∧ h' = h) := by
  obtain ⟨m0, ⟨fb, m1, u1⟩, -⟩ := M
  refine wk_X4_body (v0 := some (B 100 0 0)) hG (z_gA m0 rfl ?_)
  rw [z46]
  refine z_lq m1 (by omega) (by decide) ?_
  rw [u1 k m hk hm]
  exact ⟨rfl, rfl⟩
theorem zoN_n {p : Nat} (hp : p < 2 ^ 31) : ¬ zoN (some p) = -1 := nI_m1 hp
theorem z4_found (hG : wv_G0 G) (hw : zwf σ) (M : zMf G B σ th L h) (hm : m < 6) (hk : k < zn σ) : wv_C G yX4_found [.ref (B 100 0 0), .int (nI k), .int (nI m)] h 1 0 0 (fun r h' => r = .inl (some (.int (zoN (zfind σ m k)))) ∧ h' = h) := by
  have h6 := hw.1
  obtain ⟨f2, m2, u2⟩ := id M.2.2.2.1
  refine wk_X4_found (v0 := some (B 100 0 0)) hG ?_
  refine ⟨fun v w => w = (h, 0, 0) ∧ ∃ o : Option Nat, v = (some (B 100 0 0), nI m, zoN o) ∧ (∀ p, o = some p → p < zn σ) ∧ zfind σ m k = (match o with | none => none | some p => zfind σ m p), fun v _ => if v.2.2 = -1 then 0 else zAt v.2.2 + 1, ⟨rfl, some k, rfl, fun p e => by cases e; exact hk, rfl⟩, ?_⟩
  rintro _ _ ⟨rfl, o, rfl, ho, hz⟩
  cases o with
  | none =>
    refine ⟨fun _ => ?_, fun q => absurd rfl q⟩
    rw [hz]
    exact ⟨rfl, rfl⟩
  | some p =>
    have hp := ho p rfl
    refine ⟨fun q => absurd q (zoN_n (by omega)), fun _ => z_vA M.is (z4_body hG M (k := p) (by omega) hm) (by omega) ?_⟩
    have hz : zfind σ m k = zfind σ m p := hz
    rw [zfind_eq hw m p] at hz
    cases hb : (zbody σ p m).isEmpty with
    | false =>
      rw [hb, if_pos rfl] at hz
      refine ⟨fun _ => ?_, fun q => by cases q⟩
      rw [hz]
      exact ⟨rfl, rfl⟩
    | true =>
      rw [hb, if_neg (by decide)] at hz
      refine ⟨fun q => absurd rfl q, fun _ => z_gA M.1 rfl (z_li m2 (by omega) (by decide) ?_)⟩
      rw [u2 p hp]
      refine ⟨⟨rfl, zpar σ p, rfl, fun q e => by have := zpar_lt hw e; omega, ?_⟩, ?_⟩
      · rw [hz]
        cases zpar σ p <;> rfl
      · show (if zoN (zpar σ p) = -1 then 0 else zAt (zoN (zpar σ p)) + 1) < (if zoN (some p) = -1 then 0 else zAt (zoN (some p)) + 1)
        rw [if_neg (zoN_n (by omega))]
        cases hq : zpar σ p with
        | none =>
          show (if (-1 : Int32) = -1 then 0 else _) < _
          rw [if_pos rfl]
          exact Nat.succ_pos _
        | some q =>
          have := zpar_lt hw hq
          rw [if_neg (zoN_n (by omega))]
          show zAt (nI q) + 1 < zAt (nI p) + 1
          rw [zAt_nI (by omega), zAt_nI (by omega)]
          omega
theorem z4_isBelow (hG : wv_G0 G) (hw : zwf σ) (M : zMf G B σ th L h) (hk : k < zn σ) (ht : ¬ x = -1) : wv_C G yX4_isBelow [.ref (B 100 0 0), .int (nI k), .int x] h 0 0 0 (fun r h' => r = .inl (some (.int (zbI (zbelow σ k x)))) ∧ h' = h) := by
  have h6 := hw.1
  obtain ⟨f2, m2, u2⟩ := id M.2.2.2.1
  refine wk_X4_isBelow (v0 := some (B 100 0 0)) hG ?_
  refine ⟨fun v w => w = (h, 0, 0) ∧ ∃ o : Option Nat, v = (some (B 100 0 0), x, zoN o) ∧ (∀ p, o = some p → p < zn σ) ∧ zbelow σ k x = (match o with | none => false | some p => zbelow σ p x), fun v _ => if v.2.2 = -1 then 0 else zAt v.2.2 + 1, ⟨rfl, some k, rfl, fun p e => by cases e; exact hk, rfl⟩, ?_⟩
  rintro _ _ ⟨rfl, o, rfl, ho, hz⟩
  cases o with
  | none =>
    refine ⟨fun _ => ⟨fun _ => ?_, fun q => absurd q (fun e => ht e.symm)⟩, fun q => absurd rfl q⟩
    rw [hz]
    exact ⟨rfl, rfl, rfl⟩
  | some p =>
    have hp := ho p rfl
    have hz : zbelow σ k x = zbelow σ p x := hz
    rw [zbelow_eq hw p x] at hz
    refine ⟨fun q => absurd q (zoN_n (by omega)), fun _ => ⟨fun q => ⟨fun q2 => absurd q q2, fun _ => ?_⟩, fun q => ?_⟩⟩
    · have q : nI p = x := q
      rw [hz, decide_eq_true q, Bool.true_or]
      exact ⟨rfl, rfl, rfl⟩
    · have q : ¬ nI p = x := q
      rw [decide_eq_false q, Bool.false_or] at hz
      refine z_gA M.1 rfl (z_li m2 (by omega) (by decide) ?_)
      rw [u2 p hp]
      refine ⟨⟨rfl, zpar σ p, rfl, fun q e => by have := zpar_lt hw e; omega, ?_⟩, ?_⟩
      · rw [hz]
        cases zpar σ p <;> rfl
      · show (if zoN (zpar σ p) = -1 then 0 else zAt (zoN (zpar σ p)) + 1) < (if zoN (some p) = -1 then 0 else zAt (zoN (some p)) + 1)
        rw [if_neg (zoN_n (by omega))]
        cases hq : zpar σ p with
        | none =>
          show (if (-1 : Int32) = -1 then 0 else _) < _
          rw [if_pos rfl]
          exact Nat.succ_pos _
        | some q =>
          have := zpar_lt hw hq
          rw [if_neg (zoN_n (by omega))]
          show zAt (nI q) + 1 < zAt (nI p) + 1
          rw [zAt_nI (by omega), zAt_nI (by omega)]
          omega
-- ===== wrong, lowest =====
theorem z4_wrong (hG : wv_G0 G) (M : zMf G B σ th L h) (x y : Int32) : wv_C G yX4_wrong [.ref (B 100 0 0), .int x, .int y] h 2 0 0 (fun r h' => r = .inl (some (.int (nI (zwr σ x y)))) ∧ h' = h) := by
  refine wk_X4_wrong (v0 := some (B 100 0 0)) hG (z_vI M.is (z4_isClass hG M x) (by omega) ?_)
  cases hk : zix x (zn σ) with
  | none =>
    rw [zix_none.mp hk, zwr_1 hk]
    exact ⟨fun q => absurd rfl q, fun _ => ⟨rfl, rfl⟩⟩
  | some k =>
    have e1 : zir x 0 (nI (zn σ) - 1) = true := by
      unfold zix at hk
      split at hk
      · assumption
      · cases hk
    rw [e1]
    refine ⟨fun _ => z_cI (z4_isMethod hG y) (by omega) ?_, fun q => absurd q (by decide)⟩
    rw [zir5]
    cases hm : zix y 6 with
    | none =>
      rw [zix_none.mp hm, zwr_2 hk hm]
      exact ⟨fun q => absurd rfl q, fun _ => ⟨rfl, rfl⟩⟩
    | some m =>
      rw [zir_of (n := 6) (by decide) hm, zwr_0 hk hm]
      exact ⟨fun _ => ⟨rfl, rfl⟩, fun q => absurd q (by decide)⟩
end ZT1
