/-! THE REFERENCE: a run made, and run -/
section ZTZ2
variable {G : wv_G} {B B' : zA} {σ σ' : zS} {h h0 h1 h2 h' : wv_H} {w : wv_W} {fr fr' kc ks : Nat} {P : wv_R → wv_H → Prop} {KX : String → Nat → wv_W → Prop} {a b L : Nat} {t : wv_T} {n k m p i : Nat} {ps : List Nat} {l : List zIn} {th : Int32} {wov : Bool} {s s1 s2 s' : zR} {cp : Nat × Nat} {D : zD} {T : Nat × Nat × Nat} {v : Int32} {f : Nat → Nat → Nat}
theorem z5_init (hG : wv_G0 G) (ha : h a = none) : wv_C G yX5_init [.ref a] (wv_up h a ((130, 0, 0, 0), wo_o ciX5 [va_rf none, .int 0, .int 0, .int 0, .int 0])) 4 1 3 (fun y h' => y = .inl none ∧ ∃ tl, tl ≠ a ∧ h tl = none ∧ h' a = some ((130, 0, 0, 0), wo_o ciX5 [va_rf (some tl), .int 32, .int 0, .int 0, .int 0]) ∧ h' tl = some ((131, 0, 0, 0), wo_L 0 0 []) ∧ kp kn h h') := by
  refine wk_X5_init (v0 := some a) hG ⟨⟨a, rfl⟩, by omega, zlst hG (131, 0, 0, 0) (Nat.succ_ne_zero _) (by omega) (Nat.le_refl _) (Nat.le_refl _) (fun tl h1 f1 k1 d1 => ?_)⟩
  have f1 : wv_up h a ((130, 0, 0, 0), wo_o ciX5 [va_rf none, .int 0, .int 0, .int 0, .int 0]) tl = none := f1
  have k1 : kp kn (wv_up h a ((130, 0, 0, 0), wo_o ciX5 [va_rf none, .int 0, .int 0, .int 0, .int 0])) h1 := k1
  have hne : tl ≠ a := fun q => by rw [q, wv_up_self] at f1; cases f1
  have f0 : h tl = none := by rw [wv_up_ne hne] at f1; exact f1
  have a1 := kn.at k1 wv_up_self
  refine z_pt a1 (by decide) (by simp) ⟨⟨rfl, rfl⟩, z_pt wv_up_self (by decide) (by simp) (z_pt wv_up_self (by decide) (by simp) (z_pt wv_up_self (by decide) (by simp) (z_pt wv_up_self (by decide) (by simp) ⟨rfl, tl, hne, f0, wv_up_self, ?_, ?_⟩)))⟩
  · exact z_upo hne (z_upo hne (z_upo hne (z_upo hne (z_upo hne d1))))
  · intro c z hc _
    have q1 : c ≠ a := z_nw ha hc
    exact z_upo q1 (z_upo q1 (z_upo q1 (z_upo q1 (z_upo q1 (kn.at k1 (z_upo q1 hc))))))
/-- a run made: nothing done yet -/
def zD0 (G : wv_G) (B : zA) (σ : zS) (th : Int32) (L : Nat) (D : zD) (wov : Bool) (h : wv_H) : Prop := zMf G B σ th L h ∧ h D.1 = some ((140, 0, 0, 0), zDR D wov B) ∧ h D.2.1 = some ((130, 0, 0, 0), wo_o ciX5 [va_rf (some D.2.2.2.2), .int 32, .int 0, .int 0, .int 0]) ∧ zLy h D.2.2.1 (141, 0, 0, 0) [] ∧ zL h D.2.2.2.1 (142, 0, 0, 0) ((zord σ).map (wb G)) ∧ h D.2.2.2.2 = some ((131, 0, 0, 0), wo_L 0 0 [])
/-- what a run writes is new -/
def zDn (D : zD) (h : wv_H) : Prop := h D.2.1 = none ∧ h D.2.2.1 = none ∧ h D.2.2.2.2 = none
theorem zD0.keepn (R : zD0 G B σ th L D wov h) (k : kp kn h h1) : zD0 G B σ th L D wov h1 := by
  obtain ⟨r1, r2, r3, r4, r5, r6⟩ := R
  exact ⟨r1.keepn k, kn.at k r2, kn.at k r3, r4.keep k (fun q => q), r5.keep k (fun q => q), kn.at k r6⟩
theorem z26_init (hG : wv_G0 G) (M : zMf G B σ th L h) (ha : h a = none) (wov : Bool) : wv_C G yX26_init [.ref a, .ref (B 100 0 0), .int (zbI wov)] (wv_up h a ((140, 0, 0, 0), wo_o ciX26 [va_rf none, va_rf none, va_rf none, .int 0, va_rf none])) 8 8 54 (fun y h' => y = .inl none ∧ ∃ D : zD, D.1 = a ∧ zD0 G B σ th L D wov h' ∧ zDn D h ∧ kp kn h h') := by
  refine wk_X26_init (v0 := some a) (v1 := some (B 100 0 0)) hG (z_pt wv_up_self (by decide) (by simp) ⟨⟨a, rfl⟩, by omega, ?_⟩)
  have k1 : kp kn h (wv_up (wv_up h a ((140, 0, 0, 0), wo_o ciX26 [va_rf none, va_rf none, va_rf none, .int 0, va_rf none])) a ((140, 0, 0, 0), wo_o ciX26 ([va_rf none, va_rf none, va_rf none, .int 0, va_rf none].set 4 (va_rf (some (B 100 0 0)))))) := kp.fresh (kp.new ha) ha (fun c hc => wv_up_ne hc)
  have a1 : wv_up (wv_up h a ((140, 0, 0, 0), wo_o ciX26 [va_rf none, va_rf none, va_rf none, .int 0, va_rf none])) a ((140, 0, 0, 0), wo_o ciX26 ([va_rf none, va_rf none, va_rf none, .int 0, va_rf none].set 4 (va_rf (some (B 100 0 0))))) a = some ((140, 0, 0, 0), wo_o ciX26 [va_rf none, va_rf none, va_rf none, .int 0, va_rf (some (B 100 0 0))]) := wv_up_self
  generalize wv_up (wv_up h a ((140, 0, 0, 0), wo_o ciX26 [va_rf none, va_rf none, va_rf none, .int 0, va_rf none])) a ((140, 0, 0, 0), wo_o ciX26 ([va_rf none, va_rf none, va_rf none, .int 0, va_rf none].set 4 (va_rf (some (B 100 0 0))))) = h1 at k1 a1 ⊢
  refine z_no (130, 0, 0, 0) (by show 1 ≤ 8; decide) (by show 5 ≤ 54; decide) (fun r hr _ => ?_)
  have hr : h1 r = none := hr
  have hra : r ≠ a := fun q => by rw [q, a1] at hr; cases hr
  have hr0 : h r = none := by
    cases e : h r with
    | none => rfl
    | some z => rw [kn.at k1 e] at hr; cases hr
  refine ⟨r, rfl, z_c (z5_init hG hr) (by omega) (by show 1 ≤ 8 - 1; decide) (by show 3 ≤ 54 - 5; decide) ?_⟩
  rintro y h2 ⟨rfl, tl, hne, ht, e1, e2, k2⟩
  have ht : h1 tl = none := ht
  have hta : tl ≠ a := fun q => by rw [q, a1] at ht; cases ht
  have ht0 : h tl = none := by
    cases e : h tl with
    | none => rfl
    | some z => rw [kn.at k1 e] at ht; cases ht
  refine Or.inl ⟨rfl, z_pt (kn.at k2 a1) (by decide) (by simp) ?_⟩
  have k3 : kp kn h (wv_up h2 a ((140, 0, 0, 0), wo_o ciX26 ([va_rf none, va_rf none, va_rf none, .int 0, va_rf (some (B 100 0 0))].set 0 (va_rf (some r))))) := kp.fresh (k1.trans k2) ha (fun c hc => wv_up_ne hc)
  have a3 : wv_up h2 a ((140, 0, 0, 0), wo_o ciX26 ([va_rf none, va_rf none, va_rf none, .int 0, va_rf (some (B 100 0 0))].set 0 (va_rf (some r)))) a = some ((140, 0, 0, 0), wo_o ciX26 [va_rf (some r), va_rf none, va_rf none, .int 0, va_rf (some (B 100 0 0))]) := wv_up_self
  have r3 := z_upo (z := ((140, 0, 0, 0), wo_o ciX26 ([va_rf none, va_rf none, va_rf none, .int 0, va_rf (some (B 100 0 0))].set 0 (va_rf (some r))))) hra e1
  have t3 := z_upo (z := ((140, 0, 0, 0), wo_o ciX26 ([va_rf none, va_rf none, va_rf none, .int 0, va_rf (some (B 100 0 0))].set 0 (va_rf (some r))))) hta e2
  generalize wv_up h2 a ((140, 0, 0, 0), wo_o ciX26 ([va_rf none, va_rf none, va_rf none, .int 0, va_rf (some (B 100 0 0))].set 0 (va_rf (some r)))) = h3 at k3 a3 r3 t3 ⊢
  refine zlst hG (141, 0, 0, 0) (Nat.succ_ne_zero _) (by omega) (by show 1 ≤ 8 - 1 - 1; decide) (by show 3 ≤ 54 - 5 - 3; decide) (fun ol h4 f4 k4 d4 => ?_)
  have f4 : h3 ol = none := f4
  have k4 : kp kn h3 h4 := k4
  have hoa : ol ≠ a := fun q => by rw [q, a3] at f4; cases f4
  have ho0 : h ol = none := by
    cases e : h ol with
    | none => rfl
    | some z => rw [kn.at k3 e] at f4; cases f4
  refine z_pt (kn.at k4 a3) (by decide) (by simp) ?_
  have k5 : kp kn h (wv_up h4 a ((140, 0, 0, 0), wo_o ciX26 ([va_rf (some r), va_rf none, va_rf none, .int 0, va_rf (some (B 100 0 0))].set 1 (va_rf (some ol))))) := kp.fresh (k3.trans k4) ha (fun c hc => wv_up_ne hc)
  have a5 : wv_up h4 a ((140, 0, 0, 0), wo_o ciX26 ([va_rf (some r), va_rf none, va_rf none, .int 0, va_rf (some (B 100 0 0))].set 1 (va_rf (some ol)))) a = some ((140, 0, 0, 0), wo_o ciX26 [va_rf (some r), va_rf (some ol), va_rf none, .int 0, va_rf (some (B 100 0 0))]) := wv_up_self
  have r5 := z_upo (z := ((140, 0, 0, 0), wo_o ciX26 ([va_rf (some r), va_rf none, va_rf none, .int 0, va_rf (some (B 100 0 0))].set 1 (va_rf (some ol))))) hra (kn.at k4 r3)
  have t5 := z_upo (z := ((140, 0, 0, 0), wo_o ciX26 ([va_rf (some r), va_rf none, va_rf none, .int 0, va_rf (some (B 100 0 0))].set 1 (va_rf (some ol))))) hta (kn.at k4 t3)
  have d5 := z_upo (z := ((140, 0, 0, 0), wo_o ciX26 ([va_rf (some r), va_rf none, va_rf none, .int 0, va_rf (some (B 100 0 0))].set 1 (va_rf (some ol))))) hoa d4
  generalize wv_up h4 a ((140, 0, 0, 0), wo_o ciX26 ([va_rf (some r), va_rf none, va_rf none, .int 0, va_rf (some (B 100 0 0))].set 1 (va_rf (some ol)))) = h5 at k5 a5 r5 t5 d5 ⊢
  have M5 := M.keepn k5
  refine z_gA a5 rfl ⟨B 100 0 0, rfl, M5.is, z_c (z4_order hG M5) (by omega) (by show 5 ≤ 8 - 1 - 1 - 1; decide) (by show 43 ≤ 54 - 5 - 3 - 3; decide) ?_⟩
  rintro y h6 ⟨od, rfl, f6, l6, k6⟩
  have f6 : h5 od = none := f6
  have hda : od ≠ a := fun q => by rw [q, a5] at f6; cases f6
  refine Or.inl ⟨_, rfl, z_pt (kn.at k6 a5) (by decide) (by simp) ⟨⟨zbI_n _, by cases wov <;> rfl⟩, z_pt wv_up_self (by decide) (by simp) ⟨rfl, (a, r, ol, od, tl), rfl, ⟨?_, ?_, ?_, ?_, ?_, ?_⟩, ⟨hr0, ho0, ht0⟩, ?_⟩⟩⟩
  · exact M.keepn (kp.fresh (kp.fresh (k5.trans k6) ha (fun c hc => wv_up_ne hc)) ha (fun c hc => wv_up_ne hc))
  · exact wv_up_self
  · exact z_upo hra (z_upo hra (kn.at k6 r5))
  · exact zLy.nil (z_upo hoa (z_upo hoa (kn.at k6 d5)))
  · obtain ⟨md, cap, q1, q2⟩ := l6
    exact ⟨md, cap, q1, z_upo hda (z_upo hda q2)⟩
  · exact z_upo hta (z_upo hta (kn.at k6 t5))
  · exact kp.fresh (kp.fresh (k5.trans k6) ha (fun c hc => wv_up_ne hc)) ha (fun c hc => wv_up_ne hc)
theorem zcap_400 {n : Nat} (hn : n ≤ 400) : zcap n ≤ 60000 := by
  rcases Nat.lt_or_ge n 400 with h | h
  · have := (zcap_s h).2.2.2
    omega
  · have e : n = 400 := by omega
    subst e
    decide
theorem zDt.R {tl : Nat} {tr : List zAc} (g : zDt h tl tr) : ∃ (md : Int32) (cap : Nat) (xs : List Nat), cap ≤ 60000 ∧ h tl = some ((131, 0, 0, 0), wo_L md cap xs) ∧ xs.length = tr.length ∧ tr.length ≤ 400 ∧ ∀ (i : Nat) (a : zAc), tr[i]? = some a → ∃ b : Nat, xs[i]? = some b ∧ h b = some ((132, 0, 0, 0), wo_o ciX31 [.int a.1, .int a.2.1, .int (nI a.2.2)]) ∧ wv_fit .char a.1 ∧ a.2.2 < 100 := by
  obtain ⟨g0, xs, ⟨md, g1⟩, g2, g3⟩ := g
  exact ⟨md, _, xs, zcap_400 (by omega), g1, g2, g0, g3⟩
/-- what a run writes at its end, too -/
abbrev zSE (D : zD) : Nat → wv_T → Prop := fun b _ => b = D.2.1 ∨ b = D.2.2.2.2 ∨ b = D.2.2.1
theorem zDn.kp {h0 : wv_H} (n : zDn D h0) (k0 : kp kn h0 h) (k : kp (zSE D) h h1) : kp kn h0 h1 := by
  intro c z hc _
  refine k c z (kn.at k0 hc) (fun q => ?_)
  rcases q with q | q | q
  · exact z_nw n.1 hc q
  · exact z_nw n.2.2 hc q
  · exact z_nw n.2.1 hc q
theorem zN_rel (hG : wv_G0 G) : va_Nc "WeaversgateModel$GivenUp" "WeaversgateModel$Raised" G.2.1 := zN_GR hG
set_option maxHeartbeats 1000000 in
theorem z26_runs (hG : wv_G0 G) (hw : zwf σ) (ht : zwt σ) (hr : zring σ = false) (hcp : zcpo σ wov cp) (R : zD0 G B σ th L D wov h) (hk : k < zn σ) (hm : m < 6) (v : Int32) (f : Nat → Nat → Nat) : wv_C G yX26_runs [.ref D.1, .int (nI k), .int (nI m), .int v] h 666 (2 + zdc σ cp (zr0 f) (zrun σ wov k m v f).2) (6 + zds σ cp (zr0 f) (zrun σ wov k m v f).2) (fun y h' => y = .inl (some (va_rf (some D.2.1))) ∧ zMf G B σ th L h' ∧ zMR D.2.1 (zend (zrun σ wov k m v f)) h' ∧ kp (zSE D) h h') := by
  have h6 := hw.1
  obtain ⟨r1, r2, r3, r4, r5, r6⟩ := R
  refine wk_X26_runs (v0 := some D.1) hG (z_gA r2 rfl (z_no (144, 0, 0, 0) (by show 1 ≤ 2 + _; omega) (by show 2 ≤ 6 + _; omega) (fun a ha _ => ?_)))
  have ha : h a = none := ha
  refine ⟨a, rfl, z_c (z27_init hG ha) (by omega) (by show 1 ≤ 2 + zdc σ cp (zr0 f) (zrun σ wov k m v f).2 - 1; omega) (by show 4 ≤ 6 + zds σ cp (zr0 f) (zrun σ wov k m v f).2 - 2; omega) ?_⟩
  rintro y h2 ⟨rfl, ar, hne, har, d1, d2, k2⟩
  refine Or.inl ⟨rfl, ?_⟩
  have R2 : zTS G B σ th L D wov [] [] (a, ar, k) (zr0 f) h2 := by
    refine ⟨r1.keepn k2, kn.at k2 r2, ?_, r4.keep k2 (fun q => q), r5.keep k2 (fun q => q), ⟨Nat.zero_le _, [], zLx.nil (kn.at k2 r6), rfl, fun i x hi => by cases hi⟩, trivial, ⟨hk, d1, d2⟩, Nat.zero_le _⟩
    show h2 D.2.1 = some ((130, 0, 0, 0), wo_o ciX5 [va_rf (some D.2.2.2.2), .int 32, .int 0, .int (nI 0), .int (nI 0)])
    rw [nI_0]
    exact kn.at k2 r3
  have hC := z26_deep (th := th) (L := L) (D := D) (B := B) hG hw ht hr hcp 20 [] [] (a, ar, k) (zr0 f) h2 99 (nI m) v (-1) (-1) none rfl ⟨rfl, rfl⟩ rfl (Or.inl ⟨rfl, m, hm, rfl⟩) R2
  replace hC : wv_C G yX26_point [.ref D.1, .int 99, .int (nI m), .ref a, .int (-1), .int (-1), .int (-1), .int v] h2 665 (zdc σ cp (zr0 f) (zrun σ wov k m v f).2 - 1) (zds σ cp (zr0 f) (zrun σ wov k m v f).2 - 4) (zDo G B σ th L D wov [] [] (a, ar, k) (zrun σ wov k m v f) h2) := hC
  generalize zrun σ wov k m v f = Q at hC ⊢
  obtain ⟨X, S⟩ := Q
  have kE : ∀ {h9 h8 : wv_H}, kp (zSD D (a, ar, k)) h2 h9 → (∀ c, c ≠ D.2.1 → h8 c = h9 c) → kp (zSE D) h h8 := by
    intro h9 h8 k9 o c z hc hn
    rw [o c (fun q => hn (Or.inl q))]
    refine k9 c z (kn.at k2 hc) (fun q => ?_)
    rcases q with q | q | q | q
    · exact hn (Or.inl q.2)
    · exact hn (Or.inr (Or.inl q.2))
    · exact hn (Or.inr (Or.inr q.2))
    · exact z_nw har hc q.2
  -- the end: written into the result
  have fin : ∀ {h9 h8 : wv_H} {e num : Int32}, zTS G B σ th L D wov [] [] (a, ar, k) S h9 → kp (zSD D (a, ar, k)) h2 h9 → (∀ c, c ≠ D.2.1 → h8 c = h9 c) → h8 D.2.1 = some ((130, 0, 0, 0), wo_o ciX5 [va_rf (some D.2.2.2.2), .int e, .int num, .int (nI S.1), .int (nI S.2.1)]) → e = (zend (X, S)).1 → num = (zend (X, S)).2.1 → zMf G B σ th L h8 ∧ zMR D.2.1 (zend (X, S)) h8 ∧ kp (zSE D) h h8 ∧ h8 D.1 = some ((140, 0, 0, 0), zDR D wov B) := by
    intro h9 h8 e num R9 k9 o e8 he hnum
    obtain ⟨q1, q2, q3, q4, q5, q6, q7, q8, q9⟩ := R9
    have k8 : kp (fun b t => t.1 = 130 ∧ b = D.2.1) h9 h8 := kp.of q3 ⟨rfl, rfl⟩ o
    obtain ⟨md, cap, xs, x1, x2, x3, x4, x5⟩ := (q6.keep k8 (fun q => absurd q.1 (show ¬ 131 = 130 by decide)) (fun _ t q x => by have := q.1; omega)).R
    refine ⟨q1.keep k8 (fun _ t q => by have := q.1; omega), ⟨D.2.2.2.2, md, cap, xs, ?_, x1, x2, x3, x4, x5⟩, kE k9 o, k8 _ _ q2 (fun q => absurd q.1 (show ¬ 140 = 130 by decide))⟩
    rw [e8, he, hnum]
    rfl
  refine ⟨D.1, rfl, R2.is, z_dP hC (by omega) (by show zdc σ cp (zr0 f) S - 1 ≤ 2 + zdc σ cp (zr0 f) S - 1 - 1; omega) (by show zds σ cp (zr0 f) S - 4 ≤ 6 + zds σ cp (zr0 f) S - 2 - 4; omega) (fun v9 h9 e9 R9 k9 => ?_) (fun o x9 h9 e9 R9 k9 ex9 => ?_)⟩
  · have e9 : X = .inl v9 := e9
    subst e9
    have R9 : zTS G B σ th L D wov [] [] (a, ar, k) S h9 := R9
    have n1 : D.1 ≠ D.2.1 := z_ne R9.2.1 R9.2.2.1 (fun e => by cases e)
    refine z_pt R9.2.2.1 (by decide) (by simp) (z_gA (z_upo n1 R9.2.1) rfl ⟨⟨rfl, rfl⟩, z_pt wv_up_self (by decide) (by simp) ?_⟩)
    obtain ⟨g1, g2, g3, g4⟩ := fin (h8 := wv_up (wv_up h9 D.2.1 ((130, 0, 0, 0), wo_o ciX5 ([va_rf (some D.2.2.2.2), .int 32, .int 0, .int (nI S.1), .int (nI S.2.1)].set 2 (.int v9)))) D.2.1 ((130, 0, 0, 0), wo_o ciX5 (([va_rf (some D.2.2.2.2), .int 32, .int 0, .int (nI S.1), .int (nI S.2.1)].set 2 (.int v9)).set 1 (.int 114)))) R9 k9 (fun c hc => by rw [wv_up_ne hc, wv_up_ne hc]) wv_up_self rfl rfl
    exact z_gA g4 rfl ⟨rfl, g1, g2, g3⟩
  · have e9 : X = .inr o := e9
    subst e9
    have R9 : zTS G B σ th L D wov [] [] (a, ar, k) S h9 := R9
    have n1 : D.1 ≠ D.2.1 := z_ne R9.2.1 R9.2.2.1 (fun e => by cases e)
    cases o with
    | some z =>
      obtain ⟨fs, x1, x2⟩ := id ex9
      refine ⟨fun _ => z_gA R9.2.1 rfl (z_gI x1 x2 (z_pt R9.2.2.1 (by decide) (by simp) (z_gA (z_upo n1 R9.2.1) rfl ⟨⟨rfl, rfl⟩, z_pt wv_up_self (by decide) (by simp) ?_⟩))), fun q => absurd rfl q⟩
      obtain ⟨g1, g2, g3, g4⟩ := fin (h8 := wv_up (wv_up h9 D.2.1 ((130, 0, 0, 0), wo_o ciX5 ([va_rf (some D.2.2.2.2), .int 32, .int 0, .int (nI S.1), .int (nI S.2.1)].set 2 (.int z)))) D.2.1 ((130, 0, 0, 0), wo_o ciX5 (([va_rf (some D.2.2.2.2), .int 32, .int 0, .int (nI S.1), .int (nI S.2.1)].set 2 (.int z)).set 1 (.int 120)))) R9 k9 (fun c hc => by rw [wv_up_ne hc, wv_up_ne hc]) wv_up_self rfl rfl
      exact z_gA g4 rfl ⟨rfl, g1, g2, g3⟩
    | none =>
      refine ⟨fun q => absurd q (by decide), fun _ => ⟨zN_GR hG, fun _ => z_gA R9.2.1 rfl ⟨⟨rfl, rfl⟩, z_pt R9.2.2.1 (by decide) (by simp) ?_⟩, fun q => absurd rfl q⟩⟩
      obtain ⟨g1, g2, g3, g4⟩ := fin (h8 := wv_up h9 D.2.1 ((130, 0, 0, 0), wo_o ciX5 ([va_rf (some D.2.2.2.2), .int 32, .int 0, .int (nI S.1), .int (nI S.2.1)].set 1 (.int 108)))) R9 k9 (fun c hc => by rw [wv_up_ne hc]) wv_up_self rfl rfl
      exact z_gA g4 rfl ⟨rfl, g1, g2, g3⟩
end ZTZ2
