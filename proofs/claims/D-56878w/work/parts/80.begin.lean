/-! THE COMPONENT: a run, from its begin to its end -/
section ZXB
variable {G : wv_G} {A A' : zA} {σ σ' : zS} {h h0 h1 h2 h' : wv_H} {w : wv_W} {fr fr' kc ks : Nat} {P : wv_R → wv_H → Prop} {KX : String → Nat → wv_W → Prop} {a b : Nat} {t ta tb : wv_T} {r : Nat} {tr : List zAc} {e : Bool × Int32 × Int32} {ch : List (Nat × zIn)} {th : Nat × Nat × Nat} {s s1 s2 : zR}
variable {act : Int32 → zM} {lam F : Nat} {c x y v : Int32} {i n j k m p d ty : Nat} {l : List Nat} {wov : Bool} {f : Nat → Nat → Nat} {L9 : zL9}
/-- a run at rest: what its last end was -/
def zRn (G : wv_G) (A : zA) (r : Nat) (L : zL9) (h : wv_H) : Prop := (∃ wov, zRo A r L.1 L.2.1 L.2.2.1 L.2.2.2.1 wov none h) ∧ zTr G A r L.2.2.2.2 h ∧ ∃ f, h (A 56 r 0) = some ((56, r, 0, 0), wo_q (wv_A G 6) 12 f)
abbrev zSB (r : Nat) : Nat → wv_T → Prop := fun _ t => (58 ≤ t.1 ∧ t.1 ≤ 60) ∨ (51 ≤ t.1 ∧ t.1 ≤ 56 ∧ t.2.1 = r)
theorem zRn.keep {S : Nat → wv_T → Prop} (R : zRn G A r L9 h) (k : kp S h h1) (hS : ∀ a t, S a t → ¬ (51 ≤ t.1 ∧ t.1 ≤ 56 ∧ t.2.1 = r)) : zRn G A r L9 h1 := by
  obtain ⟨⟨wov, r1⟩, r2, f, r3⟩ := R
  exact ⟨⟨wov, k _ _ r1 (fun q => hS _ _ q ⟨zle, zle, rfl⟩)⟩, r2.keep k (fun a t q x => hS a t q ⟨by omega, by omega, x.2.2⟩), f, k _ _ r3 (fun q => hS _ _ q ⟨zle, zle, rfl⟩)⟩
abbrev zRc (A : zA) (r : Nat) (c x : Int32) (p q : Nat) (wov : Bool) : wv_T × wv_O := ((51, r, 0, 0), wo_o ciX2 [va_rf (some (A 52 r 0)), va_rf (some (A 56 r 0)), .int c, .int x, .int (nI p), .int (nI q), .int (zbI wov), va_rf none, va_rf (some (A 2 0 0))])
/-- the object of the run written, at its end -/
theorem zRS.close (R : zRS G A σ r e [] th s h) (c x : Int32) : zCf G A σ (wv_up h (A 51 r 0) (zRc A r c x s.1 s.2.1 e.1)) ∧ zPls G A σ s.2.2.2.2.2 (wv_up h (A 51 r 0) (zRc A r c x s.1 s.2.1 e.1)) ∧ zRn G A r (c, x, s.1, s.2.1, s.2.2.1) (wv_up h (A 51 r 0) (zRc A r c x s.1 s.2.1 e.1)) ∧ kp (fun _ t => t = (51, r, 0, 0)) h (wv_up h (A 51 r 0) (zRc A r c x s.1 s.2.1 e.1)) := by
  obtain ⟨c1, c2, c3, c4, ⟨f, c5, c50⟩, c6, c7⟩ := R
  have k : kp (fun _ t => t = (51, r, 0, 0)) h (wv_up h (A 51 r 0) (zRc A r c x s.1 s.2.1 e.1)) := kp.put c3 rfl
  exact ⟨c1.keep k (fun _ t e => by rw [e]; show 50 ≤ 51; decide), c2.keep k (fun a t e => ⟨z51S 58 (by decide) a t e, z51S 59 (by decide) a t e⟩), ⟨⟨e.1, wv_up_self⟩, c4.keep k (fun _ t e q => by rw [e] at q; exact absurd q.1 (by show ¬ 52 ≤ 51; decide)), f, k _ _ c5 (fun q => by cases q)⟩, k⟩
theorem zfit_b (b : Bool) : wv_fit .boolean (zbI b) := by cases b <;> exact ⟨rfl, rfl⟩
/-- a run's object before its first point, its trace empty -/
theorem zRn.start (R : zRn G A r L9 h) (C : zCf G A σ h) (L : zPls G A σ f h) {h1 h2 : wv_H} {wov0 : Bool} (R0 : zRo A r L9.1 L9.2.1 L9.2.2.1 L9.2.2.2.1 wov0 none h) {z : wv_T × wv_O} (hz : z = ((52, r, 0, 0), wo_o ciX3 [va_rf (some (A 53 r 0)), va_rf (some (A 54 r 0)), va_rf (some (A 55 r 0)), .int 0])) (e1 : h1 = wv_up h (A 52 r 0) z) (e2 : h2 = wv_up h1 (A 51 r 0) (zRc A r c x 0 0 wov)) :
    zCf G A σ h2 ∧ zPls G A σ f h2 ∧ zRo A r c x 0 0 wov none h2 ∧ zTr G A r [] h2 ∧ zOr G A σ r [] h2 ∧ kp (zSB r) h h2 := by
  obtain ⟨-, ⟨t1, t2, t3, ⟨f4, t4, u4⟩, ⟨f5, t5, u5⟩, ⟨f6, t6, u6⟩⟩, fo, o1⟩ := R
  subst hz
  have k1 : kp (fun _ t => t = (52, r, 0, 0)) h h1 := by rw [e1]; exact kp.put t1 rfl
  have r1 := k1 _ _ R0 (fun q => by cases q)
  have k2 : kp (fun _ t => t = (51, r, 0, 0)) h1 h2 := by rw [e2]; exact kp.put r1 rfl
  have k : kp (fun _ t => t = (51, r, 0, 0) ∨ t = (52, r, 0, 0)) h h2 := (k1.mono (fun _ _ q => Or.inr q)).trans (k2.mono (fun _ _ q => Or.inl q))
  have hS : ∀ (q : Nat), q ≠ 51 → q ≠ 52 → ∀ (a : Nat) (t : wv_T), (t = (51, r, 0, 0) ∨ t = (52, r, 0, 0)) → t.1 ≠ q := fun q h5 h6 a t e => by
    rcases e with e | e
    · rw [e]; exact fun x => h5 x.symm
    · rw [e]; exact fun x => h6 x.symm
  refine ⟨C.keep k (fun _ t e => by rcases e with e | e <;> rw [e] <;> exact zle), L.keep k (fun a t e => ⟨hS 58 (by decide) (by decide) a t e, hS 59 (by decide) (by decide) a t e⟩), by rw [e2]; exact wv_up_self, ⟨?_, Nat.zero_le _, (fun y hy => (by cases hy)), ⟨f4, k _ _ t4 (fun q => by rcases q with q | q <;> cases q), (fun i y hy => (by cases hy))⟩, ⟨f5, k _ _ t5 (fun q => by rcases q with q | q <;> cases q), (fun i y hy => (by cases hy))⟩, ⟨f6, k _ _ t6 (fun q => by rcases q with q | q <;> cases q), (fun i y hy => (by cases hy))⟩⟩, ⟨fo, k _ _ o1 (fun q => by rcases q with q | q <;> cases q), (fun i n hn => (by cases hn))⟩, k.mono (fun _ t e => Or.inr ?_)⟩
  · refine k2 _ _ ?_ (fun q => by cases q)
    rw [e1]
    exact wv_up_self
  · rcases e with e | e <;> rw [e] <;> exact ⟨zle, zle, rfl⟩
theorem zrun_eq : zrun σ wov k m v f = zpoint σ wov 20 [] (99, nI m, k, none) v (zr0 f) := rfl
abbrev zBeP (G : wv_G) (A : zA) (σ : zS) (r : Nat) (Q : zX × zR) (h : wv_H) : wv_R → wv_H → Prop := fun y h' => y = .inl none ∧ zCf G A σ h' ∧ zPls G A σ Q.2.2.2.2.2.2 h' ∧ zRn G A r (zend Q) h' ∧ kp (zSB r) h h'
theorem z2_begin (hG : wv_G0 G) (hw : zwf σ) (hr : zring σ = false) (hk : k < zn σ) (hm : m < 6) (C : zCf G A σ h) (L : zPls G A σ f h) (R : zRn G A r L9 h) :
    wv_C G yX2_begin [.ref (A 51 r 0), .ref (A 4 k 0), .int (nI m), .int v, .int (zbI wov)] h 795 (6 + zcc σ (zr0 f) (zrun σ wov k m v f).2) (22 + zcs σ (zr0 f) (zrun σ wov k m v f).2) (zBeP G A σ r (zrun σ wov k m v f) h) := by
  obtain ⟨wov0, R0⟩ := R.1
  refine wk_X2_begin (v0 := some (A 51 r 0)) (v1 := some (A 4 k 0)) hG (z_gA R0 rfl (z_pt R.2.1.1 (Nat.succ_ne_zero _) (by simp) ?_))
  have r1 : (wv_up h (A 52 r 0) ((52, r, 0, 0), wo_o ciX3 ([va_rf (some (A 53 r 0)), va_rf (some (A 54 r 0)), va_rf (some (A 55 r 0)), .int (nI L9.2.2.2.2.length)].set 3 (.int 0)))) (A 51 r 0) = _ := (kp.put (S := fun _ t => t = (52, r, 0, 0)) R.2.1.1 rfl) _ _ R0 (fun q => by cases q)
  generalize he1 : wv_up h (A 52 r 0) ((52, r, 0, 0), wo_o ciX3 ([va_rf (some (A 53 r 0)), va_rf (some (A 54 r 0)), va_rf (some (A 55 r 0)), .int (nI L9.2.2.2.2.length)].set 3 (.int 0))) = h1 at r1 ⊢
  refine z_pt r1 (Nat.succ_ne_zero _) (by simp) (z_pt wv_up_self (Nat.succ_ne_zero _) (by simp) ⟨zfit_b wov, z_pt wv_up_self (Nat.succ_ne_zero _) (by simp) (z_pt wv_up_self (Nat.succ_ne_zero _) (by simp) (z_pt wv_up_self (Nat.succ_ne_zero _) (by simp) ?_))⟩)
  generalize he2 : (wv_up (wv_up (wv_up (wv_up (wv_up h1 (A 51 r 0) _) (A 51 r 0) _) (A 51 r 0) _) (A 51 r 0) _) (A 51 r 0) _) = h2
  have he3 : h2 = wv_up h1 (A 51 r 0) (zRc A r L9.1 0 0 0 wov) := by
    rw [← he2, z_uu, z_uu, z_uu, z_uu]
    rfl
  obtain ⟨C2, L2, R2, T2, O2, k2⟩ := R.start C L R0 rfl he1.symm he3
  clear he2 he1 r1
  refine ⟨A 51 r 0, rfl, z_is R2 ccX2, z_c (z2_order hG hw hr C2 R2 O2) (by omega) (by show 4 ≤ 6 + _; omega) (by show 16 ≤ 22 + _; omega) ?_⟩
  rintro y h3 ⟨rfl, O3, k3⟩
  refine Or.inl ⟨rfl, ?_⟩
  have hS : ∀ (q : Nat), q ≠ 56 → ∀ (a : Nat) (t : wv_T), t = (56, r, 0, 0) → t.1 ≠ q := fun q hq a t e => by rw [e]; exact fun x => hq x.symm
  have C3 := C2.keep k3 (fun _ t e => by rw [e]; show 50 ≤ 56; decide)
  have L3 := L2.keep k3 (fun a t e => ⟨hS 58 (by decide) a t e, hS 59 (by decide) a t e⟩)
  have R3 := R2.keep k3 (fun a t e q => hS 51 (by decide) a t e q.1)
  have T3 := T2.keep k3 (fun _ t e q => by rw [e] at q; exact absurd q.2.1 (by show ¬ 56 ≤ 55; decide))
  have k03 : kp (zSB r) h h3 := k2.trans (k3.mono (fun _ t e => Or.inr (by rw [e]; exact ⟨zle, zle, rfl⟩)))
  refine z_no (62, 0, 0, 0) (by show 1 ≤ 6 + _ - 4; omega) (by show 2 ≤ 22 + _ - 16; omega) (fun a ha _ => ?_)
  have ha : h3 a = none := ha
  refine ⟨a, rfl, z_c (z22_init hG ha) (by omega) (by show 1 ≤ 6 + _ - 4 - 1; omega) (by show 4 ≤ 22 + _ - 16 - 2; omega) ?_⟩
  rintro y h4 ⟨rfl, ar, hne, har, d1, d2, k4⟩
  refine Or.inl ⟨rfl, ?_⟩
  have R4 : zRS G A σ r (wov, L9.1, 0) [] (a, ar, k) (zr0 f) h4 := ⟨C3.keepn k4, L3.keep k4 (fun _ _ q => q.elim), R3.keep k4 (fun _ _ q => q.elim), T3.keep k4 (fun _ _ q => q.elim), O3.keep k4 (fun _ _ q => q.elim), trivial, ⟨hk, d1, d2⟩, Nat.zero_le _⟩
  have P4 : zPa σ wov none none h4 := by cases wov <;> rfl
  have hC := z2_call (v := v) hG hw hr (d := 20) (ch := []) (by rfl) hm (fun d' _ => (z2_deep hG hw hr d').1) R4 P4
  have hC : wv_C G yX2_call [.ref (A 51 r 0), .ref a, .int (nI m), .int v, .int (-1), va_rf none] h4 794 (zcc σ (zr0 f) (zrun σ wov k m v f).2) (zcs σ (zr0 f) (zrun σ wov k m v f).2) (zPo G A σ r (wov, L9.1, 0) [] (a, ar, k) (zrun σ wov k m v f) h4) := hC
  generalize zrun σ wov k m v f = Q at hC ⊢
  -- the end
  have fin : ∀ (c x : Int32) (h5 : wv_H), zRS G A σ r (wov, L9.1, 0) [] (a, ar, k) Q.2 h5 → kp (zSR r (a, ar, k)) h4 h5 → zend Q = (c, x, Q.2.1, Q.2.2.1, Q.2.2.2.1) → zBeP G A σ r Q h (.inl none) (wv_up h5 (A 51 r 0) (zRc A r c x Q.2.1 Q.2.2.1 wov)) := by
    intro c x h5 R5 k5 ee
    obtain ⟨f1, f2, f3, f4⟩ := R5.close c x
    refine ⟨rfl, f1, f2, by rw [ee]; exact f3, fun b z hb hn => ?_⟩
    have hb3 := k03 b z hb hn
    refine f4 b z (k5 b z (kn.at k4 hb3) (fun q => ?_)) (fun q => hn (Or.inr (by rw [q]; exact ⟨zle, zle, rfl⟩)))
    rcases q with q | q | q
    · exact hn (Or.inl q)
    · exact hn (Or.inr ⟨q.1, by omega, q.2.2⟩)
    · rw [q.2] at hb3
      have har : h3 ar = none := har
      have hb3 : h3 ar = some z := hb3
      rw [har] at hb3
      cases hb3
  refine ⟨A 51 r 0, rfl, z2_isR R4, z_cP hC (by omega) (by show zcc σ (zr0 f) Q.2 ≤ 6 + zcc σ (zr0 f) Q.2 - 4 - 1 - 1; omega) (by show zcs σ (zr0 f) Q.2 ≤ 22 + zcs σ (zr0 f) Q.2 - 16 - 2 - 4; omega) (fun v' h5 e1 R5 k5 => ?_) (fun o q h5 e1 R5 k5 ex5 => ?_)⟩
  · refine z_pt R5.2.2.1 (Nat.succ_ne_zero _) (by simp) ⟨⟨rfl, rfl⟩, z_pt wv_up_self (Nat.succ_ne_zero _) (by simp) ?_⟩
    rw [z_uu]
    exact fin 114 v' h5 R5 k5 (by unfold zend; rw [e1])
  · cases o with
    | some z =>
      obtain ⟨fs, x1, x2⟩ := id ex5
      refine ⟨fun _ => z_gI x1 x2 (z_pt R5.2.2.1 (Nat.succ_ne_zero _) (by simp) ⟨⟨rfl, rfl⟩, z_pt wv_up_self (Nat.succ_ne_zero _) (by simp) ?_⟩), fun q9 => absurd rfl q9⟩
      rw [z_uu]
      exact fin 120 z h5 R5 k5 (by unfold zend; rw [e1])
    | none =>
      refine ⟨fun q9 => absurd q9 (by decide), fun _ => ⟨zN_GT hG, fun _ => ⟨⟨rfl, rfl⟩, z_pt R5.2.2.1 (Nat.succ_ne_zero _) (by simp) ?_⟩, fun q9 => absurd rfl q9⟩⟩
      exact fin 108 0 h5 R5 k5 (by unfold zend; rw [e1])
end ZXB
