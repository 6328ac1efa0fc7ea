/-! THE COMPONENT: what points are; calls -/
section ZX3
variable {G : wv_G} {A A' : zA} {σ σ' : zS} {h h0 h1 h2 h' : wv_H} {w : wv_W} {fr fr' kc ks : Nat} {P : wv_R → wv_H → Prop} {KX : String → Nat → wv_W → Prop} {a b : Nat} {t ta tb : wv_T} {r : Nat} {tr : List zAc} {e : Bool × Int32 × Int32} {ch : List (Nat × zIn)} {th : Nat × Nat × Nat} {s s1 s2 : zR}
variable {act : Int32 → zM} {lam F : Nat} {c : Int32} {i n : Nat} {l : List Nat} {pt : zPF}
theorem zcc_0 : zcc σ s s = 0 := by unfold zcc; omega
theorem zcs_0 : zcs σ s s = 0 := by unfold zcs; omega
/-- a call that answers v and leaves the run -/
theorem zPo.pure {y : MethodName} {av : List Value} {v : Int32} (R : zRS G A σ r e ch th s h) (hC : wv_C G y av h F 0 0 (fun y h' => y = .inl (some (.int v)) ∧ h' = h)) : wv_C G y av h F (zcc σ s s) (zcs σ s s) (zPo G A σ r e ch th (.inl v, s) h) := by
  rw [zcc_0, zcs_0]
  refine hC.mono ?_
  rintro y h' ⟨rfl, rfl⟩
  exact ⟨R, kp.refl _, rfl⟩
theorem zact_o {wov : Bool} {q : zPi} (h1 : ¬ q.1 = 99) (h2 : ¬ q.1 = 101) (h3 : ¬ q.1 = 103) (h4 : ¬ q.1 = 115) (v : Int32) (s : zR) : zact σ wov pt q v s = (.inl v, s) := by
  unfold zact
  show (if _ then _ else if _ then _ else if _ then _ else if _ then _ else _ : zX × zR) = _
  rw [if_neg h1, if_neg h2, if_neg h3, if_neg h4]
theorem zact_g {wov : Bool} {q : zPi} (h3 : q.1 = 103) (v : Int32) (s : zR) : zact σ wov pt q v s = (.inl (v + s.2.2.2.1 (zAt q.2.1)), s) := by
  unfold zact
  show (if _ then _ else if _ then _ else if _ then _ else if _ then _ else _ : zX × zR) = _
  rw [if_neg (by rw [h3]; decide), if_neg (by rw [h3]; decide), if_pos h3]
theorem zact_s {wov : Bool} {q : zPi} (h3 : q.1 = 115) (v : Int32) (s : zR) : zact σ wov pt q v s = (.inl v, zRF (upd s.2.2.2.1 (zAt q.2.1) v) s) := by
  unfold zact
  show (if _ then _ else if _ then _ else if _ then _ else if _ then _ else _ : zX × zR) = _
  rw [if_neg (by rw [h3]; decide), if_neg (by rw [h3]; decide), if_neg (by rw [h3]; decide), if_pos h3]
theorem zac_m (hG : wv_G0 G) {wov : Bool} {q : zPi} (h1 : q.1 = 109 ∨ q.1 = 104) {j : Nat} (hj : j = 2 ∨ j = 5) : zAC G A σ r e ch th h0 (wv_lone G j) F (zact σ wov pt q) := by
  refine ⟨j, [], fun h s v R k => ⟨?_, ?_⟩⟩
  · rcases hj with rfl | rfl
    · exact Or.inr (Or.inr (Or.inl ⟨rfl, rfl, rfl⟩))
    · exact Or.inr (Or.inr (Or.inr (Or.inr (Or.inr ⟨rfl, rfl, rfl⟩))))
  · have e9 := zact_o (σ := σ) (wov := wov) (pt := pt) (q := q) (by rcases h1 with h1 | h1 <;> rw [h1] <;> decide) (by rcases h1 with h1 | h1 <;> rw [h1] <;> decide) (by rcases h1 with h1 | h1 <;> rw [h1] <;> decide) (by rcases h1 with h1 | h1 <;> rw [h1] <;> decide) v s
    rw [e9]
    refine zPo.pure R ?_
    rcases hj with rfl | rfl
    · exact wk_X2_lambda_done_2 hG ⟨rfl, rfl⟩
    · exact wk_X2_lambda_handled_5 hG ⟨rfl, rfl⟩
/-- a lambda's object stands in a run -/
theorem zlam_at {o : wv_O} (h1 : h0 lam = some ((63, 0, 0, 0), o)) (k : kp (zSR r th) h0 h) : h lam = some ((63, 0, 0, 0), o) := k _ _ h1 (fun q => by
  rcases q with q | q | q
  · exact absurd q.2 (show ¬ 63 ≤ 60 by decide)
  · exact absurd q.2.1 (show ¬ 63 ≤ 55 by decide)
  · exact absurd q.1 (show ¬ 63 = 61 by decide))
theorem zac_g (hG : wv_G0 G) {wov : Bool} {q : zPi} {j : Nat} (h1 : q.1 = 103) (h2 : q.2.1 = nI j) (hj : j < 4) {b : Nat} {tb : wv_T} {c y : Int32} (hl : h0 lam = some ((63, 0, 0, 0), wo_M 3 [.ref th.1, .ref b])) (hb : h0 b = some (tb, wo_o ciX7 [.int c, .int (nI j), .int y])) (ht : tb.1 < 50) : zAC G A σ r e ch th h0 lam F (zact σ wov pt q) := by
  refine ⟨3, [.ref th.1, .ref b], fun h s v R k => ?_⟩
  have hl1 := zlam_at hl k
  have hb1 : h b = some (tb, wo_o ciX7 [.int c, .int (nI j), .int y]) := k _ _ hb (fun q => by rcases q with q | q | q <;> have q1 := q.1 <;> have ht : tb.1 < 50 := ht <;> first | omega | (have q1 : 58 ≤ tb.1 := q1; omega) | (have q1 : 51 ≤ tb.1 := q1; omega) | (have q1 : tb.1 = 61 := q1; omega))
  refine ⟨Or.inr (Or.inr (Or.inr (Or.inl ⟨rfl, _, _, _, rfl, hl1⟩))), ?_⟩
  rw [zact_g h1, h2, zAt_nI (by omega)]
  obtain ⟨-, -, -, -, -, -, ⟨t1, t2, t3⟩, -⟩ := id R
  exact zPo.pure R (wk_X2_lambda_done_3 (v0 := some th.1) (v1 := some b) hG (z_gA t2 rfl (z_gI hb1 rfl (z_li t3 hj (by decide) ⟨rfl, rfl⟩))))
/-- the object's field written -/
theorem zRS.field (R : zRS G A σ r e ch th s h) {j : Nat} {v : Int32} : zRS G A σ r e ch th (zRF (upd s.2.2.2.1 j v) s) (wv_up h th.2.1 ((61, 0, 0, 0), wo_i (wv_A G 0) 4 (upd s.2.2.2.1 j v))) ∧ kp (zSR r th) h (wv_up h th.2.1 ((61, 0, 0, 0), wo_i (wv_A G 0) 4 (upd s.2.2.2.1 j v))) := by
  obtain ⟨c1, c2, c3, c4, c5, c6, ⟨t1, t2, t3⟩, c8⟩ := R
  have k : kp (fun b t => t = (61, 0, 0, 0) ∧ b = th.2.1) h (wv_up h th.2.1 ((61, 0, 0, 0), wo_i (wv_A G 0) 4 (upd s.2.2.2.1 j v))) := kp.put t3 ⟨rfl, rfl⟩
  have hS : ∀ (q : Nat), q ≠ 61 → ∀ (a : Nat) (t : wv_T), (t = (61, 0, 0, 0) ∧ a = th.2.1) → t.1 ≠ q := fun q hq a t e => by rw [e.1]; exact fun x => hq x.symm
  refine ⟨⟨c1.keep k (fun _ t e => by rw [e.1]; show 50 ≤ 61; decide), c2.keep k (fun a t e => ⟨hS 58 (by decide) a t e, hS 59 (by decide) a t e⟩), c3.keep k (fun a t e q => hS 51 (by decide) a t e q.1), c4.keep k (fun _ t e q => by rw [e.1] at q; exact absurd q.2.1 (by show ¬ 61 ≤ 55; decide)), c5.keep k (fun a t e q => hS 56 (by decide) a t e q.1), c6.keep k (hS 60 (by decide)), ⟨t1, k _ _ t2 (fun q => absurd q.1 (by intro x; cases x)), wv_up_self⟩, c8⟩, k.mono (fun _ t e => Or.inr (Or.inr ⟨by rw [e.1], e.2⟩))⟩
theorem zcc_F {f : Nat → Int32} : zcc σ s (zRF f s) = 0 := by unfold zcc zPc zRF; simp
theorem zcs_F {f : Nat → Int32} : zcs σ s (zRF f s) = 0 := by unfold zcs zPs zRF; simp
theorem zac_s (hG : wv_G0 G) {wov : Bool} {q : zPi} {j : Nat} (h1 : q.1 = 115) (h2 : q.2.1 = nI j) (hj : j < 4) {b : Nat} {tb : wv_T} {c y : Int32} (hl : h0 lam = some ((63, 0, 0, 0), wo_M 4 [.ref (A 51 r 0), .ref th.1, .ref b])) (hb : h0 b = some (tb, wo_o ciX7 [.int c, .int (nI j), .int y])) (ht : tb.1 < 50) (hF : 1 ≤ F) : zAC G A σ r e ch th h0 lam F (zact σ wov pt q) := by
  refine ⟨4, [.ref (A 51 r 0), .ref th.1, .ref b], fun h s v R k => ?_⟩
  have hl1 := zlam_at hl k
  have hb1 : h b = some (tb, wo_o ciX7 [.int c, .int (nI j), .int y]) := k _ _ hb (fun q => by rcases q with q | q | q <;> have q1 := q.1 <;> have ht : tb.1 < 50 := ht <;> first | omega | (have q1 : 58 ≤ tb.1 := q1; omega) | (have q1 : 51 ≤ tb.1 := q1; omega) | (have q1 : tb.1 = 61 := q1; omega))
  refine ⟨Or.inr (Or.inr (Or.inr (Or.inr (Or.inl ⟨rfl, _, _, _, _, rfl, hl1, z2_isR R⟩)))), ?_⟩
  rw [zact_s h1, h2, zAt_nI (by omega)]
  obtain ⟨-, -, -, -, -, -, ⟨t1, t2, t3⟩, -⟩ := id R
  obtain ⟨R2, k2⟩ := R.field (j := j) (v := v)
  have e1 : zcc σ s (zRF (upd s.2.2.2.1 j v) s) = 0 := zcc_F
  have e2 : zcs σ s (zRF (upd s.2.2.2.1 j v) s) = 0 := zcs_F
  show wv_C G yX2_lambda_done_4 _ h F (zcc σ s (zRF (upd s.2.2.2.1 j v) s)) (zcs σ s (zRF (upd s.2.2.2.1 j v) s)) _
  rw [e1, e2]
  have hp : wv_C G yX2_put [.ref (A 51 r 0), .ref th.1, .int (nI j), .int v] h 0 0 0 (fun y h' => y = .inl (some (.int v)) ∧ h' = wv_up h th.2.1 ((61, 0, 0, 0), wo_i (wv_A G 0) 4 (upd s.2.2.2.1 j v))) := wk_X2_put (v0 := some (A 51 r 0)) (v1 := some th.1) hG (z_gA t2 rfl (z_si t3 (by decide) hj (by decide) ⟨rfl, rfl⟩))
  refine wk_X2_lambda_done_4 (v0 := some (A 51 r 0)) (v1 := some th.1) (v2 := some b) hG (z_gI hb1 rfl ⟨A 51 r 0, rfl, z2_isR R, z_cW hp (by omega) ?_⟩)
  exact ⟨R2, k2, rfl⟩
-- ===== a new object =====
theorem z22_init (hG : wv_G0 G) {b : Nat} (ha : h a = none) : wv_C G yX22_init [.ref a, .ref b] (wv_up h a ((62, 0, 0, 0), wo_o ciX22 [va_rf none, va_rf none])) 1 1 4 (fun y h' => y = .inl none ∧ ∃ ar, ar ≠ a ∧ h ar = none ∧ h' a = some ((62, 0, 0, 0), wo_o ciX22 [va_rf (some b), va_rf (some ar)]) ∧ h' ar = some ((61, 0, 0, 0), wo_i (wv_A G 0) 4 (fun _ => 0)) ∧ kp kn h h') := by
  refine wk_X22_init (v0 := some a) (v1 := some b) hG ⟨⟨a, rfl⟩, Nat.le_refl _, 4, rfl, by decide, z_no (61, 0, 0, 0) zle zle (fun ar har _ => ?_)⟩
  have har : wv_up h a ((62, 0, 0, 0), wo_o ciX22 [va_rf none, va_rf none]) ar = none := har
  have hne : ar ≠ a := fun q => by rw [q, wv_up_self] at har; cases har
  have har0 : h ar = none := by rw [wv_up_ne hne] at har; exact har
  refine z_pt (z_upo (Ne.symm hne) wv_up_self) (by decide) (by simp) (z_pt wv_up_self (by decide) (by simp) ⟨rfl, ar, hne, har0, wv_up_self, ?_, ?_⟩)
  · exact z_upo hne (z_upo hne wv_up_self)
  · intro b9 x hb9 _
    have q1 : b9 ≠ a := z_nw ha hb9
    have q2 : b9 ≠ ar := z_nw har0 hb9
    simp only [wv_up_ne q1, wv_up_ne q2]
    exact hb9
/-- a run goes on with another object -/
theorem zRS.other (R : zRS G A σ r e ch th s h) {th' : Nat × Nat × Nat} {F' : Nat → Int32} (T : zThg G A σ th' F' h) : zRS G A σ r e ch th' (zRF F' s) h := by
  obtain ⟨c1, c2, c3, c4, c5, c6, c7, c8⟩ := R
  exact ⟨c1, c2, c3, c4, c5, c6, T, c8⟩
theorem zRS.mk (R : zRS G A σ r e ch th s h) : zRS G A σ r e ch th (zRm s) h := R
/-- what lies beside the new object stands -/
theorem zSR_other {th' : Nat × Nat × Nat} (h9 : h th'.2.1 = none) (k1 : kp kn h h1) (k2 : kp (zSR r th') h1 h2) : kp (zSR r th) h h2 := by
  intro b x hb hn
  refine k2 b x (kn.at k1 hb) (fun q => hn ?_)
  rcases q with q | q | q
  · exact Or.inl q
  · exact Or.inr (Or.inl q)
  · rw [q.2, h9] at hb
    cases hb
-- ===== costs of a point =====
theorem zpoint_cost (wov : Bool) (d : Nat) (li : List zIn) (q : zPi) (v : Int32) (s : zR) : 2 ≤ zcc σ s (zpoint σ wov d li q v s).2 ∧ 11 ≤ zcs σ s (zpoint σ wov d li q v s).2 := by
  have hup : 2 ≤ zcc σ s (zRe s) ∧ 11 ≤ zcs σ s (zRe s) := by
    unfold zcc zcs zPc zPs zRe
    simp
    omega
  cases d with
  | zero => exact hup
  | succ d =>
    rw [zpoint]
    show 2 ≤ zcc σ s (if s.1 = 120 then (zup, zRe s) else _ : zX × zR).2 ∧ 11 ≤ zcs σ s (if s.1 = 120 then (zup, zRe s) else _ : zX × zR).2
    by_cases h9 : s.1 = 120
    · rw [if_pos h9]
      exact hup
    · rw [if_neg h9]
      generalize hn : ((zoa σ).filter (zasks σ wov q.2.2.2)).length = n
      have m1 : zl9 σ s (zRq n (zRp s)) := ⟨Nat.le_succ _, Nat.le_refl _, Nat.le_refl _, Nat.le_refl _⟩
      have m2 := zgo_mon (σ := σ) (act := zact σ wov (zpoint σ wov d (zinfo q v :: li)) q) (fun v s => zact_mon (fun q v s => zpoint_mon wov d _ q v s) wov q v s) ((zoa σ).filter (ztakes σ wov q.2.2.2 (zinfo q v :: li))) v (zRq n (zRp s))
      have ec := zcc_add m1 m2
      have es := zcs_add m1 m2
      have hcc : zcc σ s (zRq n (zRp s)) = 2 := by unfold zcc zPc zRq zRp; first | (simp; done) | (simp; omega)
      have hcs : zcs σ s (zRq n (zRp s)) = 12 := by unfold zcs zPs zRq zRp; first | (simp; done) | (simp; omega)
      omega
-- ===== the two that go deeper, as hypotheses =====
/-- body at the open points ch, d more to open -/
def zBC (G : wv_G) (A : zA) (σ : zS) (r : Nat) (e : Bool × Int32 × Int32) (d : Nat) : Prop := ∀ (ch : List (Nat × zIn)) (th : Nat × Nat × Nat) (s : zR) (h : wv_H) (m : Nat) (v : Int32) (pl : Option (Nat × Nat × Nat)), d + ch.length = 20 → m < 6 → zRS G A σ r e ch th s h →
  wv_C G yX2_body [.ref (A 51 r 0), .ref th.1, .int (nI m), .int v] h (36 * d + 75) (zcc σ s (zact σ e.1 (zpoint σ e.1 d (ch.map (fun x => x.2))) (99, nI m, th.2.2, pl) v s).2) (zcs σ s (zact σ e.1 (zpoint σ e.1 d (ch.map (fun x => x.2))) (99, nI m, th.2.2, pl) v s).2) (zPo G A σ r e ch th (zact σ e.1 (zpoint σ e.1 d (ch.map (fun x => x.2))) (99, nI m, th.2.2, pl) v s) h)
/-- steps -/
def zSC (G : wv_G) (A : zA) (σ : zS) (r : Nat) (e : Bool × Int32 × Int32) (d : Nat) : Prop := ∀ (ch : List (Nat × zIn)) (th : Nat × Nat × Nat) (s : zR) (h : wv_H) (k m : Nat) (v : Int32), d + ch.length = 20 → k < zn σ → m < 6 → (zbody σ k m).isEmpty = false → zRS G A σ r e ch th s h →
  wv_C G yX2_steps [.ref (A 51 r 0), .ref th.1, .ref (A 4 k 0), .int (nI m), .int v] h (36 * d + 77) (zcc σ s (zstepsF σ e.1 (zpoint σ e.1 d (ch.map (fun x => x.2))) th.2.2 k m 0 (zbody σ k m) v s).2) (zcs σ s (zstepsF σ e.1 (zpoint σ e.1 d (ch.map (fun x => x.2))) th.2.2 k m 0 (zbody σ k m) v s).2) (zPo G A σ r e ch th (zstepsF σ e.1 (zpoint σ e.1 d (ch.map (fun x => x.2))) th.2.2 k m 0 (zbody σ k m) v s) h)
theorem zac_c (hG : wv_G0 G) {d m : Nat} (hd : d + ch.length = 20) (hm : m < 6) (hB : zBC G A σ r e d) {pl : Option (Nat × Nat × Nat)} (hl : h0 lam = some ((63, 0, 0, 0), wo_M 0 [.ref (A 51 r 0), .ref th.1, .int (nI m)])) : zAC G A σ r e ch th h0 lam (36 * d + 80) (zact σ e.1 (zpoint σ e.1 d (ch.map (fun x => x.2))) (99, nI m, th.2.2, pl)) := by
  refine ⟨0, [.ref (A 51 r 0), .ref th.1, .int (nI m)], fun h s v R k => ?_⟩
  have hl1 := zlam_at hl k
  refine ⟨Or.inl ⟨rfl, _, _, _, _, rfl, hl1, z2_isR R⟩, ?_⟩
  refine wk_X2_lambda_call_0 (v0 := some (A 51 r 0)) (v1 := some th.1) hG ⟨A 51 r 0, rfl, z2_isR R, z_cP (hB ch th s h m v pl hd hm R) (by omega) (Nat.le_refl _) (Nat.le_refl _) (fun v' h' e1 R' k' => ⟨R', k', ?_⟩) (fun o x h' e1 R' k' ex => ⟨R', k', ?_⟩)⟩
  · show zYr _ _ _
    rw [e1]
    rfl
  · show zYr _ _ _
    rw [e1]
    exact ⟨x, rfl, ex⟩
theorem zact_e {wov : Bool} {x : Int32} {ty k m p : Nat} (v : Int32) (s : zR) : zact σ wov pt (101, x, ty, some (k, m, p)) v s = zstepsF σ wov pt ty k m 0 (zbody σ k m) v s := by
  unfold zact
  show (if _ then _ else if _ then _ else _ : zX × zR) = _
  rw [if_neg (show ¬ (101:Int32)=99 by decide), if_pos rfl]
theorem zac_e (hG : wv_G0 G) {d k m p : Nat} (hd : d + ch.length = 20) (hk : k < zn σ) (hm : m < 6) (hne : (zbody σ k m).isEmpty = false) (hS : zSC G A σ r e d) {x : Int32} (hl : h0 lam = some ((63, 0, 0, 0), wo_M 1 [.ref (A 51 r 0), .ref th.1, .ref (A 4 k 0), .int (nI m)])) : zAC G A σ r e ch th h0 lam (36 * d + 80) (zact σ e.1 (zpoint σ e.1 d (ch.map (fun x => x.2))) (101, x, th.2.2, some (k, m, p))) := by
  refine ⟨1, [.ref (A 51 r 0), .ref th.1, .ref (A 4 k 0), .int (nI m)], fun h s v R k9 => ?_⟩
  have hl1 := zlam_at hl k9
  refine ⟨Or.inr (Or.inl ⟨rfl, _, _, _, _, _, rfl, hl1, z2_isR R⟩), ?_⟩
  rw [zact_e]
  refine wk_X2_lambda_body_1 (v0 := some (A 51 r 0)) (v1 := some th.1) (v2 := some (A 4 k 0)) hG ⟨A 51 r 0, rfl, z2_isR R, z_cP (hS ch th s h k m v hd hk hm hne R) (by omega) (Nat.le_refl _) (Nat.le_refl _) (fun v' h' e1 R' k' => ⟨R', k', ?_⟩) (fun o x h' e1 R' k' ex => ⟨R', k', ?_⟩)⟩
  · show zYr _ _ _
    rw [e1]
    rfl
  · show zYr _ _ _
    rw [e1]
    exact ⟨x, rfl, ex⟩
/-- the lambda is made, and then the point -/
theorem zRS.lamb (R : zRS G A σ r e ch th s h) (ha : h a = none) {o : wv_O} : zRS G A σ r e ch th s (wv_up h a ((63, 0, 0, 0), o)) := R.keepn (kp.new ha)
theorem z2_call (hG : wv_G0 G) (hw : zwf σ) (hr : zring σ = false) {d m : Nat} (hd : d + ch.length = 20) (hm : m < 6) (hB : ∀ d', d = d' + 1 → zBC G A σ r e d') {v : Int32} {pl : Option (Nat × Nat × Nat)} {dd : Option Nat} (R : zRS G A σ r e ch th s h) (hp : zPa σ e.1 pl dd h) :
    wv_C G yX2_call [.ref (A 51 r 0), .ref th.1, .int (nI m), .int v, .int (zinfo (99, nI m, th.2.2, pl) v).2.2.2.1, va_rf dd] h (36 * d + 74) (zcc σ s (zpoint σ e.1 d (ch.map (fun x => x.2)) (99, nI m, th.2.2, pl) v s).2) (zcs σ s (zpoint σ e.1 d (ch.map (fun x => x.2)) (99, nI m, th.2.2, pl) v s).2) (zPo G A σ r e ch th (zpoint σ e.1 d (ch.map (fun x => x.2)) (99, nI m, th.2.2, pl) v s) h) := by
  obtain ⟨b1, b2⟩ := zpoint_cost (σ := σ) e.1 d (ch.map (fun x => x.2)) (99, nI m, th.2.2, pl) v s
  obtain ⟨-, -, -, -, -, -, ⟨t1, t2, t3⟩, -⟩ := id R
  refine wk_X2_call (v0 := some (A 51 r 0)) (v1 := some th.1) (v5 := dd) hG (z_gA t2 rfl ⟨by omega, by show 1 ≤ zcc σ s _; omega, by show 3 ≤ zcs σ s _; omega, fun a ha _ => ⟨(63, 0, 0, 0), ?_⟩⟩)
  have ha : h a = none := ha
  have R1 := R.lamb ha (o := wo_M 0 [.ref (A 51 r 0), .ref th.1, .int (nI m)])
  have P1 := hp.keep (kp.new (S := kn) (x := ((63, 0, 0, 0), wo_M 0 [.ref (A 51 r 0), .ref th.1, .int (nI m)])) ha) (fun _ _ x => x.elim)
  have hC := z2_point (F := 36 * d + 44) (lam := a) hG hw hr hd (q := (99, nI m, th.2.2, pl)) (v := v) ⟨rfl, rfl⟩ t1 R1 P1 (by omega) (fun d' hdd a' => by
    have := zac_c (ch := (a', zinfo (99, nI m, th.2.2, pl) v) :: ch) (pl := pl) (h0 := wv_up h a ((63, 0, 0, 0), wo_M 0 [.ref (A 51 r 0), .ref th.1, .int (nI m)])) (lam := a) hG (d := d') (m := m) (by rw [List.length_cons]; omega) hm (hB d' hdd) wv_up_self
    rw [show 36 * d + 44 = 36 * d' + 80 by omega]
    exact this)
  refine ⟨A 51 r 0, rfl, z2_isR R1, z_cP hC (by omega) (Nat.le_refl _) (by show zcs σ s _ - 4 ≤ zcs σ s _ - 3; omega) (fun v' h' e1 R' k' => ⟨R', (kp.new ha).trans k', ?_⟩) (fun o x h' e1 R' k' ex => ⟨R', (kp.new ha).trans k', ?_⟩)⟩
  · show zYr _ _ _
    rw [e1]
    rfl
  · show zYr _ _ _
    rw [e1]
    exact ⟨x, rfl, ex⟩
end ZX3
