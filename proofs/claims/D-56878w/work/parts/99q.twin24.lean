/-! THE REFERENCE: a run's state; exceptions; advice writes its trace -/
section ZTU
variable {G : wv_G} {B B' : zA} {σ σ' : zS} {h h0 h1 h2 h' : wv_H} {w : wv_W} {fr fr' kc ks : Nat} {P : wv_R → wv_H → Prop} {KX : String → Nat → wv_W → Prop} {a b L : Nat} {t : wv_T} {n : Nat} {ps : List Nat} {l : List zIn} {th : Int32} {wov : Bool} {s s1 s2 s' : zR} {cp : Nat × Nat}
/-- a run's addresses: itself, its result, the open points, the order, the trace -/
abbrev zD : Type := Nat × Nat × Nat × Nat × Nat
variable {D : zD} {T : Nat × Nat × Nat} {tr : List zAc} {F : Nat → Int32}
abbrev zDR (D : zD) (wov : Bool) (B : zA) : wv_O := wo_o ciX26 [va_rf (some D.2.1), va_rf (some D.2.2.1), va_rf (some D.2.2.2.1), .int (zbI wov), va_rf (some (B 100 0 0))]
abbrev zDq (D : zD) (s : zR) : wv_O := wo_o ciX5 [va_rf (some D.2.2.2.2), .int 32, .int 0, .int (nI s.1), .int (nI s.2.1)]
/-- the trace, in a list -/
def zDt (h : wv_H) (tl : Nat) (tr : List zAc) : Prop := tr.length ≤ 400 ∧ ∃ xs : List Nat, zLx h tl (131, 0, 0, 0) xs ∧ xs.length = tr.length ∧ ∀ (i : Nat) (a : zAc), tr[i]? = some a → ∃ b : Nat, xs[i]? = some b ∧ h b = some ((132, 0, 0, 0), wo_o ciX31 [.int a.1, .int a.2.1, .int (nI a.2.2)]) ∧ wv_fit .char a.1 ∧ a.2.2 < 100
/-- the thing that steps work on: its address, its fields', its class -/
def zTg (G : wv_G) (σ : zS) (T : Nat × Nat × Nat) (F : Nat → Int32) (h : wv_H) : Prop := T.2.2 < zn σ ∧ h T.1 = some ((144, 0, 0, 0), wo_o ciX27 [.int (nI T.2.2), va_rf (some T.2.1)]) ∧ h T.2.1 = some ((145, 0, 0, 0), wo_i (wv_A G 0) 4 F)
/-- a run under way -/
def zTS (G : wv_G) (B : zA) (σ : zS) (th : Int32) (L : Nat) (D : zD) (wov : Bool) (ps : List Nat) (l : List zIn) (T : Nat × Nat × Nat) (s : zR) (h : wv_H) : Prop :=
  zMf G B σ th L h ∧ h D.1 = some ((140, 0, 0, 0), zDR D wov B) ∧ h D.2.1 = some ((130, 0, 0, 0), zDq D s) ∧ zLy h D.2.2.1 (141, 0, 0, 0) ps.reverse ∧ zL h D.2.2.2.1 (142, 0, 0, 0) ((zord σ).map (wb G)) ∧ zDt h D.2.2.2.2 s.2.2.1 ∧ zOpn σ h ps l ∧ zTg G σ T s.2.2.2.1 h ∧ s.1 ≤ 120
/-- what a call in a run writes -/
abbrev zSD (D : zD) (T : Nat × Nat × Nat) : Nat → wv_T → Prop := fun b t => (t.1 = 130 ∧ b = D.2.1) ∨ (t.1 = 131 ∧ b = D.2.2.2.2) ∨ (t.1 = 141 ∧ b = D.2.2.1) ∨ (t.1 = 145 ∧ b = T.2.1)
theorem zDt.keep {S : Nat → wv_T → Prop} {tl : Nat} (R : zDt h tl tr) (k : kp S h h1) (h1' : ¬ S tl (131, 0, 0, 0)) (h2' : ∀ a t, S a t → t.1 ≠ 132) : zDt h1 tl tr := by
  obtain ⟨r0, xs, r1, r2, r3⟩ := R
  refine ⟨r0, xs, r1.keep k h1', r2, fun i a hi => ?_⟩
  obtain ⟨b, b1, b2, b3⟩ := r3 i a hi
  exact ⟨b, b1, k _ _ b2 (fun q => h2' _ _ q rfl), b3⟩
theorem zTg.keep {S : Nat → wv_T → Prop} (R : zTg G σ T F h) (k : kp S h h1) (hS : ∀ a t, S a t → t.1 ≠ 144 ∧ (t.1 = 145 → a ≠ T.2.1)) : zTg G σ T F h1 := ⟨R.1, k _ _ R.2.1 (fun q => (hS _ _ q).1 rfl), k _ _ R.2.2 (fun q => (hS _ _ q).2 rfl rfl)⟩
theorem zTS.keepn (R : zTS G B σ th L D wov ps l T s h) (k : kp kn h h1) : zTS G B σ th L D wov ps l T s h1 := by
  obtain ⟨r1, r2, r3, r4, r5, r6, r7, r8, r9⟩ := R
  exact ⟨r1.keepn k, kn.at k r2, kn.at k r3, r4.keep k (fun q => q), r5.keep k (fun q => q), r6.keep k (fun q => q) (fun _ _ q => q.elim), r7.keep k (fun _ _ q => q.elim), r8.keep k (fun _ _ q => q.elim), r9⟩
theorem zTS.is (R : zTS G B σ th L D wov ps l T s h) : wv_is G h D.1 RX26 := z_is R.2.1 ccX26
theorem zTS.isM (R : zTS G B σ th L D wov ps l T s h) : wv_is G h (B 100 0 0) RX4 := R.1.is
/-- the result's numbers written -/
theorem zTS.res (R : zTS G B σ th L D wov ps l T s h) {s' : zR} (h2' : s'.2.2 = s.2.2) (h120 : s'.1 ≤ 120) : zTS G B σ th L D wov ps l T s' (wv_up h D.2.1 ((130, 0, 0, 0), zDq D s')) ∧ kp (zSD D T) h (wv_up h D.2.1 ((130, 0, 0, 0), zDq D s')) := by
  obtain ⟨r1, r2, r3, r4, r5, r6, r7, r8, r9⟩ := R
  have k : kp (fun b t => t.1 = 130 ∧ b = D.2.1) h (wv_up h D.2.1 ((130, 0, 0, 0), zDq D s')) := kp.put r3 ⟨rfl, rfl⟩
  refine ⟨⟨r1.keep k (fun _ t q => by have := q.1; omega), k _ _ r2 (fun q => absurd q.1 (show ¬ 140 = 130 by decide)), wv_up_self, r4.keep k (fun q => absurd q.1 (show ¬ 141 = 130 by decide)), r5.keep k (fun q => absurd q.1 (show ¬ 142 = 130 by decide)), ?_, r7.keep k (fun _ t q x => by have := q.1; omega), ?_, h120⟩, k.mono (fun _ _ q => Or.inl q)⟩
  · rw [h2']
    exact r6.keep k (fun q => absurd q.1 (show ¬ 131 = 130 by decide)) (fun _ t q x => by have := q.1; omega)
  · rw [h2']
    exact r8.keep k (fun _ t q => ⟨fun x => by have := q.1; omega, fun x => by have := q.1; omega⟩)
/-- a point opened -/
theorem zTS.push (R : zTS G B σ th L D wov ps l T s h) {i : zIn} (hl : zLy h1 D.2.2.1 (141, 0, 0, 0) (b :: ps).reverse) (ho : ∀ c, c ≠ D.2.2.1 → h1 c = h c) (hb : ∃ m ix hd : Int32, h b = some ((143, 0, 0, 0), zpnO i.1 i.2.1 (nI i.2.2.1) i.2.2.2.1 m ix i.2.2.2.2 hd) ∧ ∀ n, n < σ.2.1.length → zb hd n = zhold σ n (i :: l)) : zTS G B σ th L D wov (b :: ps) (i :: l) T s h1 ∧ kp (zSD D T) h h1 := by
  obtain ⟨r1, r2, r3, r4, r5, r6, r7, r8, r9⟩ := R
  obtain ⟨md, m, -, -, e3⟩ := id r4
  have k : kp (fun b t => t.1 = 141 ∧ b = D.2.2.1) h h1 := kp.of e3 ⟨rfl, rfl⟩ ho
  obtain ⟨m2, ix, hd, b1, b2⟩ := hb
  have k9 : kp (zSD D T) h h1 := k.mono (fun _ _ q => Or.inr (Or.inr (Or.inl q)))
  exact ⟨⟨r1.keep k (fun _ t q => by have := q.1; omega), k _ _ r2 (fun q => absurd q.1 (show ¬ 140 = 141 by decide)), k _ _ r3 (fun q => absurd q.1 (show ¬ 130 = 141 by decide)), hl, r5.keep k (fun q => absurd q.1 (show ¬ 142 = 141 by decide)), r6.keep k (fun q => absurd q.1 (show ¬ 131 = 141 by decide)) (fun _ t q x => by have := q.1; omega), ⟨⟨m2, ix, hd, k _ _ b1 (fun q => absurd q.1 (show ¬ 143 = 141 by decide)), b2⟩, r7.keep k (fun _ t q x => by have := q.1; omega)⟩, r8.keep k (fun _ t q => ⟨fun x => by have := q.1; omega, fun x => by have := q.1; omega⟩), r9⟩, k9⟩
/-- a point closed -/
theorem zTS.pop {i : zIn} (R : zTS G B σ th L D wov (b :: ps) (i :: l) T s h) (hl : zLy h1 D.2.2.1 (141, 0, 0, 0) ps.reverse) (ho : ∀ c, c ≠ D.2.2.1 → h1 c = h c) : zTS G B σ th L D wov ps l T s h1 ∧ kp (zSD D T) h h1 := by
  obtain ⟨r1, r2, r3, r4, r5, r6, ⟨-, r7⟩, r8, r9⟩ := R
  obtain ⟨md, m, -, -, e3⟩ := id r4
  have k : kp (fun b t => t.1 = 141 ∧ b = D.2.2.1) h h1 := kp.of e3 ⟨rfl, rfl⟩ ho
  have k9 : kp (zSD D T) h h1 := k.mono (fun _ _ q => Or.inr (Or.inr (Or.inl q)))
  exact ⟨⟨r1.keep k (fun _ t q => by have := q.1; omega), k _ _ r2 (fun q => absurd q.1 (show ¬ 140 = 141 by decide)), k _ _ r3 (fun q => absurd q.1 (show ¬ 130 = 141 by decide)), hl, r5.keep k (fun q => absurd q.1 (show ¬ 142 = 141 by decide)), r6.keep k (fun q => absurd q.1 (show ¬ 131 = 141 by decide)) (fun _ t q x => by have := q.1; omega), r7.keep k (fun _ t q x => by have := q.1; omega), r8.keep k (fun _ t q => ⟨fun x => by have := q.1; omega, fun x => by have := q.1; omega⟩), r9⟩, k9⟩
/-- the trace grown -/
theorem zTS.traced (R : zTS G B σ th L D wov ps l T s h) {x : zAc} (hl : zDt h1 D.2.2.2.2 (s.2.2.1 ++ [x])) (k : kp (fun b t => t.1 = 131 ∧ b = D.2.2.2.2) h h1) : zTS G B σ th L D wov ps l T (zRt x s) h1 ∧ kp (zSD D T) h h1 := by
  obtain ⟨r1, r2, r3, r4, r5, r6, r7, r8, r9⟩ := R
  have k9 : kp (zSD D T) h h1 := k.mono (fun _ _ q => Or.inr (Or.inl q))
  exact ⟨⟨r1.keep k (fun _ t q => by have := q.1; omega), k _ _ r2 (fun q => absurd q.1 (show ¬ 140 = 131 by decide)), k _ _ r3 (fun q => absurd q.1 (show ¬ 130 = 131 by decide)), r4.keep k (fun q => absurd q.1 (show ¬ 141 = 131 by decide)), r5.keep k (fun q => absurd q.1 (show ¬ 142 = 131 by decide)), hl, r7.keep k (fun _ t q x => by have := q.1; omega), r8.keep k (fun _ t q => ⟨fun x => by have := q.1; omega, fun x => by have := q.1; omega⟩), r9⟩, k9⟩
/-- the thing's fields written -/
theorem zTS.fields (R : zTS G B σ th L D wov ps l T s h) (F : Nat → Int32) : zTS G B σ th L D wov ps l T (zRF F s) (wv_up h T.2.1 ((145, 0, 0, 0), wo_i (wv_A G 0) 4 F)) ∧ kp (zSD D T) h (wv_up h T.2.1 ((145, 0, 0, 0), wo_i (wv_A G 0) 4 F)) := by
  obtain ⟨r1, r2, r3, r4, r5, r6, r7, ⟨t1, t2, t3⟩, r9⟩ := R
  have k : kp (fun b t => t.1 = 145 ∧ b = T.2.1) h (wv_up h T.2.1 ((145, 0, 0, 0), wo_i (wv_A G 0) 4 F)) := kp.put t3 ⟨rfl, rfl⟩
  have k9 : kp (zSD D T) h (wv_up h T.2.1 ((145, 0, 0, 0), wo_i (wv_A G 0) 4 F)) := k.mono (fun _ _ q => Or.inr (Or.inr (Or.inr q)))
  exact ⟨⟨r1.keep k (fun _ t q => by have := q.1; omega), k _ _ r2 (fun q => absurd q.1 (show ¬ 140 = 145 by decide)), k _ _ r3 (fun q => absurd q.1 (show ¬ 130 = 145 by decide)), r4.keep k (fun q => absurd q.1 (show ¬ 141 = 145 by decide)), r5.keep k (fun q => absurd q.1 (show ¬ 142 = 145 by decide)), r6.keep k (fun q => absurd q.1 (show ¬ 131 = 145 by decide)) (fun _ t q x => by have := q.1; omega), r7.keep k (fun _ t q x => by have := q.1; omega), ⟨t1, k _ _ t2 (fun q => absurd q.1 (show ¬ 144 = 145 by decide)), wv_up_self⟩, r9⟩, k9⟩
/-- another thing worked on -/
theorem zTS.other (R : zTS G B σ th L D wov ps l T s h) {T' : Nat × Nat × Nat} {F : Nat → Int32} (g : zTg G σ T' F h) : zTS G B σ th L D wov ps l T' (zRF F s) h := by
  obtain ⟨r1, r2, r3, r4, r5, r6, r7, r8, r9⟩ := R
  exact ⟨r1, r2, r3, r4, r5, r6, r7, g, r9⟩
/-- an older thing, behind calls that work on a newer -/
theorem zTg.old {T' : Nat × Nat × Nat} (R : zTg G σ T F h) (hT : h T'.2.1 = none) (k1 : kp kn h h1) (k2 : kp (zSD D T') h1 h2) : zTg G σ T F h2 := by
  obtain ⟨t1, t2, t3⟩ := R
  refine ⟨t1, k2 _ _ (kn.at k1 t2) (fun q => ?_), k2 _ _ (kn.at k1 t3) (fun q => ?_)⟩
  · rcases q with q | q | q | q
    · exact absurd q.1 (show ¬ 144 = 130 by decide)
    · exact absurd q.1 (show ¬ 144 = 131 by decide)
    · exact absurd q.1 (show ¬ 144 = 141 by decide)
    · exact absurd q.1 (show ¬ 144 = 145 by decide)
  · rcases q with q | q | q | q
    · exact absurd q.1 (show ¬ 145 = 130 by decide)
    · exact absurd q.1 (show ¬ 145 = 131 by decide)
    · exact absurd q.1 (show ¬ 145 = 141 by decide)
    · rw [q.2, hT] at t3
      cases t3
theorem zSD_old {T' : Nat × Nat × Nat} (hT : h T'.2.1 = none) (k1 : kp kn h h1) (k2 : kp (zSD D T') h1 h2) : kp (zSD D T) h h2 := by
  intro c x hc hn
  refine k2 c x (kn.at k1 hc) (fun q => ?_)
  rcases q with q | q | q | q
  · exact hn (Or.inl q)
  · exact hn (Or.inr (Or.inl q))
  · exact hn (Or.inr (Or.inr (Or.inl q)))
  · rw [q.2, hT] at hc
    cases hc
-- ===== ends =====
def zEx4 (h : wv_H) (q : Nat) (o : Option Int32) : Prop := match o with
  | some n => ∃ fs : List Value, h q = some ((150, 0, 0, 0), wo_o ciX30 fs) ∧ fs[6]? = some (.int n)
  | none => ∃ fs : List Value, h q = some ((150, 0, 0, 0), wo_o ciX28 fs)
def zEn4 (o : Option Int32) : String := match o with
  | some _ => "WeaversgateModel$Raised"
  | none => "WeaversgateModel$GivenUp"
theorem zEx4.keep {S : Nat → wv_T → Prop} {q : Nat} {o : Option Int32} (e : zEx4 h q o) (k : kp S h h1) (hS : ∀ a t, S a t → t.1 ≠ 150) : zEx4 h1 q o := by
  cases o with
  | none =>
    obtain ⟨fs, e1⟩ := e
    exact ⟨fs, k _ _ e1 (fun q => hS _ _ q rfl)⟩
  | some n =>
    obtain ⟨fs, e1, e2⟩ := e
    exact ⟨fs, k _ _ e1 (fun q => hS _ _ q rfl), e2⟩
theorem zSD_n (r : Nat) (hr : r ≠ 130 ∧ r ≠ 131 ∧ r ≠ 141 ∧ r ≠ 145) {a : Nat} {t : wv_T} (ht : t.1 = r) : ¬ zSD D T a t := fun q => by rcases q with q | q | q | q <;> have := q.1 <;> omega
theorem zSD_150 : ∀ (a : Nat) (t : wv_T), zSD D T a t → t.1 ≠ 150 := fun a t q x => by rcases q with q | q | q | q <;> have := q.1 <;> omega
theorem zEx4.at {q : Nat} {o : Option Int32} (e : zEx4 w.1 q o) (hK : KX (zEn4 o) q w) : wv_at w (some q) KX := by
  cases o with
  | none =>
    obtain ⟨fs, e1⟩ := e
    exact z_at e1 ccX28 hK
  | some n =>
    obtain ⟨fs, e1, e2⟩ := e
    exact z_at e1 ccX30 hK
def zYr4 (x : zX) (y : wv_R) (h' : wv_H) : Prop := match x with
  | .inl v => y = .inl (some (.int v))
  | .inr o => ∃ q, y = .inr (zEn4 o, q) ∧ zEx4 h' q o
/-- a call in a run comes to q -/
def zDo (G : wv_G) (B : zA) (σ : zS) (th : Int32) (L : Nat) (D : zD) (wov : Bool) (ps : List Nat) (l : List zIn) (T : Nat × Nat × Nat) (q : zX × zR) (h : wv_H) : wv_R → wv_H → Prop := fun y h' => zTS G B σ th L D wov ps l T q.2 h' ∧ kp (zSD D T) h h' ∧ zYr4 q.1 y h'
theorem z_dP {y : MethodName} {av : List Value} {q : zX × zR} {K : Int32 → wv_W → Prop} (hC : wv_C G y av w.1 fr' kc ks (zDo G B σ th L D wov ps l T q w.1)) (hf : fr' < fr) (hc : kc ≤ w.2.1) (hs : ks ≤ w.2.2)
    (hv : ∀ v h', q.1 = .inl v → zTS G B σ th L D wov ps l T q.2 h' → kp (zSD D T) w.1 h' → K v (h', w.2.1 - kc, w.2.2 - ks)) (hx : ∀ o x h', q.1 = .inr o → zTS G B σ th L D wov ps l T q.2 h' → kp (zSD D T) w.1 h' → zEx4 h' x o → KX (zEn4 o) x (h', w.2.1 - kc, w.2.2 - ks)) : wv_c0 G fr y av w (wv_rI K KX) := by
  refine z_c hC hf hc hs ?_
  rintro r h' ⟨h1, h2, h3⟩
  cases hq : q.1 with
  | inl v =>
    rw [hq] at h3
    exact Or.inl ⟨v, h3, hv v h' hq h1 h2⟩
  | inr o =>
    rw [hq] at h3
    obtain ⟨x, h3, h4⟩ := h3
    exact Or.inr ⟨_, x, h3, hx o x h' hq h1 h2 h4⟩
theorem z_dPl {y : MethodName} {av : List Value} {v : Int32} {S : zR} {K : Int32 → wv_W → Prop} (hC : wv_C G y av w.1 fr' kc ks (zDo G B σ th L D wov ps l T (.inl v, S) w.1)) (hf : fr' < fr) (hc : kc ≤ w.2.1) (hs : ks ≤ w.2.2)
    (hv : ∀ h', zTS G B σ th L D wov ps l T S h' → kp (zSD D T) w.1 h' → K v (h', w.2.1 - kc, w.2.2 - ks)) : wv_c0 G fr y av w (wv_rI K KX) :=
  z_dP hC hf hc hs (fun v' h' e r k => by cases e; exact hv h' r k) (fun o x h' e => by cases e)
theorem z_dPr {y : MethodName} {av : List Value} {o : Option Int32} {S : zR} {K : Int32 → wv_W → Prop} (hC : wv_C G y av w.1 fr' kc ks (zDo G B σ th L D wov ps l T (.inr o, S) w.1)) (hf : fr' < fr) (hc : kc ≤ w.2.1) (hs : ks ≤ w.2.2)
    (hx : ∀ x h', zTS G B σ th L D wov ps l T S h' → kp (zSD D T) w.1 h' → zEx4 h' x o → KX (zEn4 o) x (h', w.2.1 - kc, w.2.2 - ks)) : wv_c0 G fr y av w (wv_rI K KX) :=
  z_dP hC hf hc hs (fun v' h' e => by cases e) (fun o' x h' e r k ex => by cases e; exact hx x h' r k ex)
/-- the last call's end is this one's -/
theorem z_dPo {y : MethodName} {av : List Value} {q : zX × zR} (hC : wv_C G y av w.1 fr' kc ks (zDo G B σ th L D wov ps l T q w.1)) (hf : fr' < fr) (hc : kc ≤ w.2.1) (hs : ks ≤ w.2.2) (k0 : kp (zSD D T) h w.1) :
    wv_c0 G fr y av w (wv_rI (fun x w => zDo G B σ th L D wov ps l T q h (.inl (some (.int x))) w.1) (wv_pr (zDo G B σ th L D wov ps l T q h))) := by
  refine z_dP hC hf hc hs (fun v h' e r k => ⟨r, k0.trans k, ?_⟩) (fun o x h' e r k ex => ⟨r, k0.trans k, ?_⟩)
  · rw [e]
    rfl
  · rw [e]
    exact ⟨x, rfl, ex⟩
theorem zN_GR (hG : wv_G0 G) : va_Nc "WeaversgateModel$GivenUp" "WeaversgateModel$Raised" G.2.1 := by
  obtain ⟨-, -, -, b0, hn, -⟩ := hG
  exact va_Nc.of (flat_of_before _ hn (Cond.not (.castable "WeaversgateModel$GivenUp" "WeaversgateModel$Raised")) (by decide +kernel))
theorem zup4 (hG : wv_G0 G) (hfr : 5 < fr) (hc : 1 ≤ w.2.1) (hs : 6 ≤ w.2.2) (hK : ∀ a h', kp kn w.1 h' → zEx4 h' a none → KX "WeaversgateModel$GivenUp" a (h', w.2.1 - 1, w.2.2 - 6)) :
    wv_no G w (wo_o ciX28 [va_rf none, va_rf none, va_rf none, va_rf none, va_rf none, .int 0]) 6 (fun a4 w4 => wv_cI G fr yX28_init (some a4) [] w4 (wv_rV (fun w8 => wv_at w8 (some a4) KX) KX)) := by
  refine z_no (150, 0, 0, 0) hc hs (fun a ha hb => ?_)
  refine ⟨a, rfl, z_c (z28_init hG wv_up_self (by decide) wv_excX28 rfl) hfr (Nat.zero_le _) (Nat.zero_le _) ?_⟩
  rintro r h' ⟨rfl, fs', h1, rfl⟩
  refine Or.inl ⟨rfl, z_at wv_up_self ccX28 ?_⟩
  refine hK a _ ?_ ⟨fs', wv_up_self⟩
  rw [z_uu]
  exact kp.new ha
theorem zraise4 (hG : wv_G0 G) {n : Int32} (hf : 5 < fr) (hc : 1 ≤ w.2.1) (hs : 7 ≤ w.2.2) (hK : ∀ a h', kp kn w.1 h' → zEx4 h' a (some n) → KX "WeaversgateModel$Raised" a (h', w.2.1 - 1, w.2.2 - 7)) :
    wv_no G w (wo_o ciX30 [va_rf none, va_rf none, va_rf none, va_rf none, va_rf none, .int 0, .int 0]) 7 (fun a15 w15 => wv_cI G fr yX30_init (some a15) [.int n] w15 (wv_rV (fun w20 => wv_at w20 (some a15) KX) KX)) := by
  refine z_no (150, 0, 0, 0) hc hs (fun a ha hb => ?_)
  refine ⟨a, rfl, z_c (z30_init hG (by decide)) hf (Nat.zero_le _) (Nat.zero_le _) ?_⟩
  rintro y h' ⟨rfl, fs, f1, f2, rfl⟩
  have k : kp kn w.1 (wv_up w.1 a ((150, 0, 0, 0), wo_o ciX30 fs)) := kp.new ha
  exact Or.inl ⟨rfl, z_at wv_up_self ccX30 (hK a _ k ⟨fs, wv_up_self, f2⟩)⟩
-- ===== acts =====
theorem zOpn_len : ∀ {ps : List Nat} {l : List zIn}, zOpn σ h ps l → ps.length = l.length
  | [], [], _ => rfl
  | b :: ps, i :: l, ⟨_, r⟩ => by
    rw [List.length_cons, List.length_cons, zOpn_len r]
theorem zOpn_mem : ∀ {ps : List Nat} {l : List zIn}, zOpn σ h ps l → ∀ b ∈ ps, ∃ fs : List Value, h b = some ((143, 0, 0, 0), wo_o ciX29 fs)
  | [], [], _, b, hb => by cases hb
  | c :: ps, i :: l, ⟨⟨m, ix, hd, e1, _⟩, r⟩, b, hb => by
    rcases List.mem_cons.mp hb with q | q
    · exact ⟨_, by rw [q]; exact e1⟩
    · exact zOpn_mem r b q
theorem z26_actsUp (hG : wv_G0 G) (R : zTS G B σ th L D wov ps l T s h) (hl : s.2.2.1.length = 400) (n v : Int32) : wv_C G yX26_acts [.ref D.1, .int n, .int v] h 6 1 6 (fun y h' => ∃ q, y = .inr ("WeaversgateModel$GivenUp", q) ∧ kp kn h h' ∧ zEx4 h' q none) := by
  obtain ⟨r1, r2, r3, r4, r5, ⟨r60, xs, r61, r62, r63⟩, r7, r8, r9⟩ := R
  refine wk_X26_acts (v0 := some D.1) hG (z_gA r2 rfl (z_gA r3 rfl (r61.vsize hG (by omega) ?_)))
  rw [r62, hl]
  exact ⟨fun q => absurd (show nI 400 = (400 : Int32) by decide) q, fun _ => zup4 hG (by omega) (Nat.le_refl _) (Nat.le_refl _) (fun a h' k ex => ⟨a, rfl, k, ex⟩)⟩
theorem z26_actsOk (hG : wv_G0 G) (hw : zwf σ) (R : zTS G B σ th L D wov ps l T s h) {n : Nat} (hn : n < σ.2.2.1.length) (hl : ¬ s.2.2.1.length = 400) (v : Int32) : wv_C G yX26_acts [.ref D.1, .int (nI n), .int v] h 7 (1 + (zgc (s.2.2.1.length + 1) - zgc s.2.2.1.length)) (3 + (zgs (s.2.2.1.length + 1) - zgs s.2.2.1.length)) (fun y h' => y = .inl none ∧ zTS G B σ th L D wov ps l T (zRt ((zadv σ n).2.1, v, n) s) h' ∧ kp (zSD D T) h h') := by
  have h12 := hw.2.2.2.2.1
  have hfit : wv_fit .char (zadv σ n).2.1 := by
    rcases (zadv_ok hw hn).2.1 with e | e | e | e | e <;> rw [e] <;> exact ⟨rfl, rfl⟩
  obtain ⟨r1, r2, r3, r4, r5, ⟨r60, xs, r61, r62, r63⟩, r7, r8, r9⟩ := id R
  have hlt : s.2.2.1.length < 400 := by omega
  refine wk_X26_acts (v0 := some D.1) hG (z_gA r2 rfl (z_gA r3 rfl (r61.vsize hG (by omega) ?_)))
  rw [r62]
  refine ⟨fun _ => ?_, fun q => absurd ((nI_eq (a := s.2.2.1.length) (b := 400) (by omega) (by decide)).mp q) hl⟩
  refine z_gA r2 rfl (z_gA r3 rfl (z_no (132, 0, 0, 0) (Nat.le_add_right _ _) (Nat.le_add_right _ _) (fun a ha _ => ?_)))
  have ha : h a = none := ha
  have k1 : kp kn h (wv_up h a ((132, 0, 0, 0), wo_o ciX31 [.int 0, .int 0, .int 0])) := kp.new ha
  have R1 := R.keepn k1
  obtain ⟨f9, m9, u9⟩ := id R1.1.2.2.2.2.2.2.2.2.2.2.2.1
  refine z_gA R1.2.1 rfl (z_gA R1.1.1 rfl (z_li m9 (by omega) (by decide) ?_))
  rw [u9 n _ (zadv_get hn)]
  refine z_iV (z31_init hG (by decide) hfit) (by omega) ?_
  have k2 : kp kn h (wv_up h a ((132, 0, 0, 0), wo_o ciX31 [.int (zadv σ n).2.1, .int v, .int (nI n)])) := kp.new ha
  have e2 : wv_up h a ((132, 0, 0, 0), wo_o ciX31 [.int (zadv σ n).2.1, .int v, .int (nI n)]) a = some ((132, 0, 0, 0), wo_o ciX31 [.int (zadv σ n).2.1, .int v, .int (nI n)]) := wv_up_self
  show wv_cV G 7 yJ2_add (some D.2.2.2.2) [va_rf (some a)] (wv_up h a ((132, 0, 0, 0), wo_o ciX31 [.int (zadv σ n).2.1, .int v, .int (nI n)]), 1 + (zgc (s.2.2.1.length + 1) - zgc s.2.2.1.length) - 1, 3 + (zgs (s.2.2.1.length + 1) - zgs s.2.2.1.length) - 3) _
  generalize wv_up h a ((132, 0, 0, 0), wo_o ciX31 [.int (zadv σ n).2.1, .int v, .int (nI n)]) = h2 at k2 e2 ⊢
  have R2 := R.keepn k2
  obtain ⟨q1, q2, q3, q4, q5, ⟨q60, ys, q61, q62, q63⟩, q7, q8, q9⟩ := id R2
  have el : ∀ x ∈ ys, wl_el G h2 x := by
    intro x hx
    obtain ⟨i, hi⟩ := List.mem_iff_getElem?.mp hx
    have hi2 := (List.getElem?_eq_some_iff.mp hi).1
    obtain ⟨b, b1, b2, -⟩ := q63 i _ (List.getElem?_eq_getElem (by omega))
    rw [hi] at b1
    cases b1
    exact z_el (z_is b2 ccX31) q2640
  refine q61.cadd hG (z_el (z_is e2 ccX31) q2640) el (by omega) (by omega) (by rw [q62]; show _ ≤ 1 + _ - 1; omega) (by rw [q62]; show _ ≤ 3 + _ - 3; omega) (fun h3 l3 o3 => ?_)
  obtain ⟨md, q91⟩ := id q61
  have k3 : kp (fun b t => t.1 = 131 ∧ b = D.2.2.2.2) h2 h3 := kp.of q91 ⟨rfl, rfl⟩ o3
  have T3 : zDt h3 D.2.2.2.2 (s.2.2.1 ++ [((zadv σ n).2.1, v, n)]) := by
    refine ⟨by rw [List.length_append]; show s.2.2.1.length + 1 ≤ 400; omega, ys ++ [a], l3, by rw [List.length_append, List.length_append, q62]; rfl, fun i x hi => ?_⟩
    rcases z_app hi with hi | ⟨p1, p2⟩
    · obtain ⟨b, b1, b2, b3⟩ := q63 i x hi
      exact ⟨b, by rw [List.getElem?_append_left (List.getElem?_eq_some_iff.mp b1).1]; exact b1, k3 _ _ b2 (fun q => absurd q.1 (show ¬ 132 = 131 by decide)), b3⟩
    · subst p2
      refine ⟨a, ?_, k3 _ _ e2 (fun q => absurd q.1 (show ¬ 132 = 131 by decide)), hfit, by show n < 100; omega⟩
      rw [p1, ← q62, List.getElem?_append_right (Nat.le_refl _), Nat.sub_self]
      rfl
  obtain ⟨R3, k9⟩ := R2.traced T3 k3
  exact ⟨rfl, R3, (kn.to k2).trans k9⟩
/-- acts, as a word -/
theorem z26_acts (hG : wv_G0 G) (hw : zwf σ) {n : Nat} (hn : n < σ.2.2.1.length) (R : zTS G B σ th L D wov ps l T s w.1) {v : Int32} {K : wv_W → Prop} (hf : 7 < fr)
    (hok : ¬ s.2.2.1.length = 400 → zdc σ cp s (zRt ((zadv σ n).2.1, v, n) s) ≤ w.2.1 ∧ zds σ cp s (zRt ((zadv σ n).2.1, v, n) s) ≤ w.2.2 ∧ ∀ h', zTS G B σ th L D wov ps l T (zRt ((zadv σ n).2.1, v, n) s) h' → kp (zSD D T) w.1 h' → K (h', w.2.1 - zdc σ cp s (zRt ((zadv σ n).2.1, v, n) s), w.2.2 - zds σ cp s (zRt ((zadv σ n).2.1, v, n) s)))
    (hup : s.2.2.1.length = 400 → 1 ≤ w.2.1 ∧ 6 ≤ w.2.2 ∧ ∀ q h', zTS G B σ th L D wov ps l T s h' → kp (zSD D T) w.1 h' → zEx4 h' q none → KX "WeaversgateModel$GivenUp" q (h', w.2.1 - 1, w.2.2 - 6)) : wv_cV G fr yX26_acts (some D.1) [.int (nI n), .int v] w (wv_rV K KX) := by
  by_cases hl : s.2.2.1.length = 400
  · obtain ⟨c1, c2, c3⟩ := hup hl
    refine ⟨D.1, rfl, R.is, z_c (z26_actsUp hG R hl (nI n) v) (by omega) c1 c2 ?_⟩
    rintro y h' ⟨q, rfl, k, ex⟩
    exact Or.inr ⟨_, q, rfl, c3 q h' (R.keepn k) (kn.to k) ex⟩
  · obtain ⟨c1, c2, c3⟩ := hok hl
    have hlt : s.2.2.1.length < 400 := by
      have := R.2.2.2.2.2.1.1
      omega
    obtain ⟨-, d1, d2⟩ := zdl_t (σ := σ) (cp := cp) ((zadv σ n).2.1, v, n) s hlt
    rw [d1] at c1 c3
    rw [d2] at c2 c3
    refine ⟨D.1, rfl, R.is, z_c (z26_actsOk hG hw R hn hl v) hf c1 c2 ?_⟩
    rintro y h' ⟨rfl, R2, k2⟩
    exact Or.inl ⟨rfl, c3 h' R2 k2⟩
end ZTU
