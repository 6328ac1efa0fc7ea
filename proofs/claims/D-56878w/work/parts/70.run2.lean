/-! THE COMPONENT: a point's advices, one after another -/
section ZW
variable {G : wv_G} {A A' : zA} {σ σ' : zS} {h h0 h1 h2 h' : wv_H} {w : wv_W} {fr fr' kc ks : Nat} {P : wv_R → wv_H → Prop} {KX : String → Nat → wv_W → Prop} {a b : Nat} {t ta tb : wv_T} {r : Nat} {tr : List zAc} {e : Bool × Int32 × Int32} {ch : List (Nat × zIn)} {th : Nat × Nat × Nat} {s s1 s2 : zR}
-- ===== what a run costs =====
def zPc (s : zR) : Nat := 2 * s.1 + 2 * s.2.2.2.2.1.2.1 + 2 * s.2.2.2.2.1.2.2
def zPs (s : zR) : Nat := 12 * s.1 + 11 * s.2.2.2.2.1.2.1 + 6 * s.2.2.2.2.1.2.2
def zcc (σ : zS) (s s' : zR) : Nat := zPc s' - zPc s + 2 * (zrem σ s.2.2.2.2.2 - zrem σ s'.2.2.2.2.2)
def zcs (σ : zS) (s s' : zR) : Nat := zPs s' - zPs s + 31 * (zrem σ s.2.2.2.2.2 - zrem σ s'.2.2.2.2.2)
/-- later in a run -/
def zl9 (σ : zS) (s s' : zR) : Prop := s.1 ≤ s'.1 ∧ s.2.2.2.2.1.2.1 ≤ s'.2.2.2.2.1.2.1 ∧ s.2.2.2.2.1.2.2 ≤ s'.2.2.2.2.1.2.2 ∧ zrem σ s'.2.2.2.2.2 ≤ zrem σ s.2.2.2.2.2
theorem zl9.refl (s : zR) : zl9 σ s s := ⟨Nat.le_refl _, Nat.le_refl _, Nat.le_refl _, Nat.le_refl _⟩
theorem zl9.trans (k1 : zl9 σ s s1) (k2 : zl9 σ s1 s2) : zl9 σ s s2 := ⟨Nat.le_trans k1.1 k2.1, Nat.le_trans k1.2.1 k2.2.1, Nat.le_trans k1.2.2.1 k2.2.2.1, Nat.le_trans k2.2.2.2 k1.2.2.2⟩
theorem zcc_add (k1 : zl9 σ s s1) (k2 : zl9 σ s1 s2) : zcc σ s s1 + zcc σ s1 s2 = zcc σ s s2 := by
  obtain ⟨a1, a2, a3, a4⟩ := k1
  obtain ⟨b1, b2, b3, b4⟩ := k2
  unfold zcc zPc
  omega
theorem zcs_add (k1 : zl9 σ s s1) (k2 : zl9 σ s1 s2) : zcs σ s s1 + zcs σ s1 s2 = zcs σ s s2 := by
  obtain ⟨a1, a2, a3, a4⟩ := k1
  obtain ⟨b1, b2, b3, b4⟩ := k2
  unfold zcs zPs
  omega
theorem zl9_re (s : zR) : zl9 σ s (zRe s) := ⟨Nat.le_refl _, Nat.le_succ _, Nat.le_refl _, Nat.le_refl _⟩
theorem zl9_rt (x : zAc) (s : zR) : zl9 σ s (zRt x s) := zl9.refl s
theorem zadd_cases (n : Nat) (v : Int32) (s : zR) : (s.2.2.1.length = 400 ∧ zadd σ n v s = none) ∨ (¬ s.2.2.1.length = 400 ∧ zadd σ n v s = some (zRt ((zadv σ n).2.1, v, n) s)) := by
  unfold zadd
  by_cases hl : s.2.2.1.length = 400
  · exact Or.inl ⟨hl, if_pos hl⟩
  · exact Or.inr ⟨hl, if_neg hl⟩
/-- behind a point's rest: the advice that sees its end -/
def zbeh (σ : zS) (n : Nat) (q : zX × zR) : zX × zR := match q with
  | (.inl v', s') => if (zadv σ n).2.1 = 120 then (.inl v', s') else match zadd σ n v' s' with
    | none => (zup, zRe s')
    | some s1 => (.inl v', s1)
  | (.inr (some x), s') => if (zadv σ n).2.1 = 97 then (zraise x, s') else match zadd σ n x s' with
    | none => (zup, zRe s')
    | some s1 => (zraise x, s1)
  | (.inr none, s') => (zup, s')
variable {act : Int32 → zM}
theorem zgo_r {n : Nat} {l : List Nat} {v : Int32} (hk : (zadv σ n).2.1 = 114) : zgo σ act (n :: l) v s = match zadd σ n v s with | none => (zup, zRe s) | some s1 => zrep (zgo σ act l) (zadv σ n).2.2.2.1 (zadv σ n).2.2.2.2.1 v s1 := by
  rw [zgo]
  show (if _ then _ else _) = _
  rw [if_pos hk]
  cases zadd σ n v s <;> rfl
theorem zgo_b {n : Nat} {l : List Nat} {v : Int32} (hk : (zadv σ n).2.1 = 98) : zgo σ act (n :: l) v s = match zadd σ n v s with | none => (zup, zRe s) | some s1 => zgo σ act l v s1 := by
  rw [zgo]
  show (if _ then _ else if _ then _ else _) = _
  rw [if_neg (by rw [hk]; decide), if_pos hk]
  cases zadd σ n v s <;> rfl
theorem zgo_o {n : Nat} {l : List Nat} {v : Int32} (h1 : ¬ (zadv σ n).2.1 = 114) (h2 : ¬ (zadv σ n).2.1 = 98) : zgo σ act (n :: l) v s = zbeh σ n (zgo σ act l v s) := by
  rw [zgo]
  show (if _ then _ else if _ then _ else _) = _
  rw [if_neg h1, if_neg h2]
  cases zgo σ act l v s with
  | mk x s' =>
    cases x with
    | inl v' =>
      unfold zbeh
      by_cases hk : (zadv σ n).2.1 = 120
      · simp only [hk, if_true]
      · simp only [hk, if_false]
        cases zadd σ n v' s' <;> rfl
    | inr o =>
      cases o with
      | none => rfl
      | some x =>
        unfold zbeh
        by_cases hk : (zadv σ n).2.1 = 97
        · simp only [hk, if_true]
        · simp only [hk, if_false]
          cases zadd σ n x s' <;> rfl
theorem zbeh_mon (n : Nat) (q : zX × zR) : zl9 σ q.2 (zbeh σ n q).2 := by
  obtain ⟨x, s'⟩ := q
  cases x with
  | inl v' =>
    unfold zbeh
    show zl9 σ s' (if _ then _ else _ : zX × zR).2
    split
    · exact zl9.refl _
    · rcases zadd_cases (σ := σ) n v' s' with ⟨-, e⟩ | ⟨-, e⟩ <;> rw [e]
      · exact zl9_re _
      · exact zl9.refl _
  | inr o =>
    cases o with
    | none => exact zl9.refl _
    | some x =>
      unfold zbeh
      show zl9 σ s' (if _ then _ else _ : zX × zR).2
      split
      · exact zl9.refl _
      · rcases zadd_cases (σ := σ) n x s' with ⟨-, e⟩ | ⟨-, e⟩ <;> rw [e]
        · exact zl9_re _
        · exact zl9.refl _
theorem zrep_mon {g : Int32 → zM} (hg : ∀ v s, zl9 σ s (g v s).2) (more : Int32) : ∀ t v s, zl9 σ s (zrep g more t v s).2
  | 0, v, s => zl9.refl s
  | t + 1, v, s => by
    rw [zrep]
    have h1 := hg (v + more) s
    cases hq : g (v + more) s with
    | mk x s' =>
      rw [hq] at h1
      show zl9 σ s (match g (v + more) s with | (.inl v', s') => zrep g more t v' s' | e => e).2
      rw [hq]
      cases x with
      | inl v' => exact h1.trans (zrep_mon hg more t v' s')
      | inr o => exact h1
theorem zgo_mon (ha : ∀ v s, zl9 σ s (act v s).2) : ∀ l v s, zl9 σ s (zgo σ act l v s).2
  | [], v, s => ha v (zRa s)
  | n :: l, v, s => by
    by_cases h1 : (zadv σ n).2.1 = 114
    · rw [zgo_r h1]
      rcases zadd_cases (σ := σ) n v s with ⟨-, e⟩ | ⟨-, e⟩ <;> rw [e]
      · exact zl9_re _
      · exact (zl9_rt _ s).trans (zrep_mon (fun v s => zgo_mon ha l v s) _ _ _ _)
    · by_cases h2 : (zadv σ n).2.1 = 98
      · rw [zgo_b h2]
        rcases zadd_cases (σ := σ) n v s with ⟨-, e⟩ | ⟨-, e⟩ <;> rw [e]
        · exact zl9_re _
        · exact (zl9_rt _ s).trans (zgo_mon ha l v _)
      · rw [zgo_o h1 h2]
        exact (zgo_mon ha l v s).trans (zbeh_mon n _)
-- ===== ends =====
def zYr (x : zX) (y : wv_R) (h' : wv_H) : Prop := match x with
  | .inl v => y = .inl (some (.int v))
  | .inr o => ∃ q, y = .inr (zEn o, q) ∧ zEx h' q o
/-- a call in a run comes to q -/
def zPo (G : wv_G) (A : zA) (σ : zS) (r : Nat) (e : Bool × Int32 × Int32) (ch : List (Nat × zIn)) (th : Nat × Nat × Nat) (q : zX × zR) (h : wv_H) : wv_R → wv_H → Prop := fun y h' => zRS G A σ r e ch th q.2 h' ∧ kp (zSR r th) h h' ∧ zYr q.1 y h'
theorem z_cP {y : MethodName} {av : List Value} {q : zX × zR} {K : Int32 → wv_W → Prop} (hC : wv_C G y av w.1 fr' kc ks (zPo G A σ r e ch th q w.1)) (hf : fr' < fr) (hc : kc ≤ w.2.1) (hs : ks ≤ w.2.2)
    (hv : ∀ v h', q.1 = .inl v → zRS G A σ r e ch th q.2 h' → kp (zSR r th) w.1 h' → K v (h', w.2.1 - kc, w.2.2 - ks)) (hx : ∀ o x h', q.1 = .inr o → zRS G A σ r e ch th q.2 h' → kp (zSR r th) w.1 h' → zEx h' x o → KX (zEn o) x (h', w.2.1 - kc, w.2.2 - ks)) : wv_c0 G fr y av w (wv_rI K KX) := by
  refine z_c hC hf hc hs ?_
  rintro r h' ⟨h1, h2, h3⟩
  cases hq : q.1 with
  | inl v =>
    rw [hq] at h3
    exact Or.inl ⟨v, h3, hv v h' hq h1 h2⟩
  | inr o =>
    rw [hq] at h3
    obtain ⟨x, h3, h4⟩ := h3
    exact Or.inr ⟨_, x, h3, hx o x h' hq h1 h2 h4⟩
theorem zN_GT (hG : wv_G0 G) : va_Nc "Weaversgate$GivenUp" "Weaversgate$Thrown" G.2.1 := by
  obtain ⟨-, -, -, b0, hn, -⟩ := hG
  exact va_Nc.of (flat_of_before _ hn (Cond.not (.castable "Weaversgate$GivenUp" "Weaversgate$Thrown")) (by decide +kernel))
theorem zRS.traced {x : zAc} (R : zRS G A σ r e ch th s h) (T : zTr G A r (s.2.2.1 ++ [x]) h1) (k : kp (zSw r) h h1) : zRS G A σ r e ch th (zRt x s) h1 := by
  obtain ⟨c1, c2, c3, c4, c5, c6, c7⟩ := R
  exact ⟨c1.keep k (fun _ t q => Nat.le_trans (by decide) q.1), c2.keep k (fun _ t q => ⟨fun x => absurd q.2.1 (by rw [x]; decide), fun x => absurd q.2.1 (by rw [x]; decide)⟩), c3.keep k (fun _ t q x => absurd q.1 (by rw [x.1]; decide)), T, c5.keep k (fun _ t q x => absurd q.2.1 (by rw [x.1]; decide)), c6.keep k (fun _ t q x => absurd q.2.1 (by rw [x]; decide)), c7.1.keep k (fun _ t q => ⟨fun x => absurd q.2.1 (by rw [x]; decide), fun x => absurd q.2.1 (by rw [x]; decide)⟩), c7.2⟩
theorem zSw_R : ∀ a t, zSw r a t → zSR r th a t := fun _ t q => Or.inr (Or.inl ⟨Nat.le_trans (by decide) q.1, q.2.1, q.2.2⟩)
theorem zRS.re (R : zRS G A σ r e ch th s h) : zRS G A σ r e ch th (zRe s) h := R
/-- advice writes its trace, in a run -/
theorem z2_add (hG : wv_G0 G) (hw : zwf σ) {n : Nat} (hn : n < σ.2.2.1.length) (R : zRS G A σ r e ch th s w.1) {v : Int32} {K : wv_W → Prop} (hf : 7 < fr)
    (hok : ¬ s.2.2.1.length = 400 → ∀ h', zRS G A σ r e ch th (zRt ((zadv σ n).2.1, v, n) s) h' → kp (zSR r th) w.1 h' → K (h', w.2))
    (hb1 : s.2.2.1.length = 400 → 1 ≤ w.2.1) (hb2 : s.2.2.1.length = 400 → 6 ≤ w.2.2)
    (hup : s.2.2.1.length = 400 → ∀ q h', zRS G A σ r e ch th s h' → kp (zSR r th) w.1 h' → zEx h' q none → KX "Weaversgate$GivenUp" q (h', w.2.1 - 1, w.2.2 - 6)) : wv_cV G fr yX3_add (some (A 52 r 0)) [va_rf (some (A 14 n 0)), .int v] w (wv_rV K KX) := by
  obtain ⟨C, L, o1, T, O, H, Th⟩ := id R
  have h12 := hw.2.2.2.2.1
  by_cases hl : s.2.2.1.length = 400
  · refine ⟨A 52 r 0, rfl, z3_is T, z_c (z3_addUp hG T hl v) hf (hb1 hl) (hb2 hl) ?_⟩
    rintro y h' ⟨q, rfl, k, ex⟩
    exact Or.inr ⟨_, q, rfl, hup hl q h' (R.keepn k) (kn.to k) ex⟩
  · have hfit : wv_fit .char (zadv σ n).2.1 := by
      rcases (zadv_ok hw hn).2.1 with e | e | e | e | e <;> rw [e] <;> exact ⟨rfl, rfl⟩
    refine ⟨A 52 r 0, rfl, z3_is T, z_c (z3_add hG T (C.ca (zadv_get hn)) (by omega) hfit (by have := T.2.1; omega) v) (by omega) (Nat.zero_le _) (Nat.zero_le _) ?_⟩
    rintro y h' ⟨rfl, T2, k⟩
    exact Or.inl ⟨rfl, hok hl h' (R.traced T2 k) (k.mono zSw_R)⟩
-- ===== the bits of chosen advices =====
def zsel (c : Int32) : Nat → List Nat → List Nat
  | _, [] => []
  | i, n :: l => if zb c i = true then n :: zsel c (i + 1) l else zsel c (i + 1) l
theorem zsel_drop {l : List Nat} {c : Int32} {i n : Nat} (hi : l[i]? = some n) : zsel c i (l.drop i) = if zb c i = true then n :: zsel c (i + 1) (l.drop (i + 1)) else zsel c (i + 1) (l.drop (i + 1)) := by
  have hlt := (List.getElem?_eq_some_iff.mp hi).1
  have he := (List.getElem?_eq_some_iff.mp hi).2
  rw [List.drop_eq_getElem_cons hlt, he]
  rfl
theorem zsel_filter (p : Nat → Bool) {c : Int32} : ∀ (l : List Nat) (i : Nat), (∀ j n, l[j]? = some n → zb c (i + j) = p n) → zsel c i l = l.filter p
  | [], _, _ => rfl
  | n :: l, i, hp => by
    have h0 := hp 0 n rfl
    rw [Nat.add_zero] at h0
    have ih := zsel_filter p l (i + 1) (fun j m hj => by rw [show i + 1 + j = i + (j + 1) by omega]; exact hp (j + 1) m hj)
    show (if zb c i = true then n :: zsel c (i + 1) l else zsel c (i + 1) l) = _
    rw [h0, ih]
    by_cases hq : p n = true
    · rw [if_pos hq, List.filter_cons_of_pos hq]
    · rw [if_neg hq, List.filter_cons_of_neg hq]
/-- what a point is, as a lambda's object: calls of it come to act -/
def zAC (G : wv_G) (A : zA) (σ : zS) (r : Nat) (e : Bool × Int32 × Int32) (ch : List (Nat × zIn)) (th : Nat × Nat × Nat) (h0 : wv_H) (lam F : Nat) (act : Int32 → zM) : Prop := ∃ (j : Nat) (vs : List Value), ∀ (h : wv_H) (s : zR) (v : Int32), zRS G A σ r e ch th s h → kp (zSR r th) h0 h → wv_lok G h lam j vs ∧ wv_C G (wv_ly j) (vs ++ [.int v]) h F (zcc σ s (act v s).2) (zcs σ s (act v s).2) (zPo G A σ r e ch th (act v s) h)
/-- goOn from a place on, with rest for the advices left -/
def zGO (G : wv_G) (A : zA) (σ : zS) (r : Nat) (e : Bool × Int32 × Int32) (ch : List (Nat × zIn)) (th : Nat × Nat × Nat) (h0 : wv_H) (lam F : Nat) (act : Int32 → zM) (c : Int32) (i : Nat) (l : List Nat) : Prop := ∀ (v : Int32) (s : zR) (h : wv_H), zRS G A σ r e ch th s h → kp (zSR r th) h0 h → wv_C G yX2_goOn [.ref (A 51 r 0), .int c, .int (nI i), .int v, .ref lam] h F (zcc σ s (zgo σ act l v s).2) (zcs σ s (zgo σ act l v s).2) (zPo G A σ r e ch th (zgo σ act l v s) h)
variable {lam F : Nat} {c : Int32} {i n : Nat} {l : List Nat}
theorem z2_isR (R : zRS G A σ r e ch th s h) : wv_is G h (A 51 r 0) RX2 := z_is R.2.2.1 ccX2
theorem z2_behind (hG : wv_G0 G) (hw : zwf σ) (hn : n < σ.2.2.1.length) (h1 : ¬ (zadv σ n).2.1 = 114) (h2 : ¬ (zadv σ n).2.1 = 98) (hF : 7 < F) (hm : ∀ v s, zl9 σ s (act v s).2) (hgo : zGO G A σ r e ch th h0 lam F act c (i + 1) l) (v : Int32) (R : zRS G A σ r e ch th s h) (k0 : kp (zSR r th) h0 h) :
    wv_C G yX2_behind [.ref (A 51 r 0), .ref (A 14 n 0), .int c, .int (nI i), .int v, .ref lam] h (F + 1) (zcc σ s (zgo σ act (n :: l) v s).2) (zcs σ s (zgo σ act (n :: l) v s).2) (zPo G A σ r e ch th (zgo σ act (n :: l) v s) h) := by
  rw [zgo_o h1 h2]
  have m1 := zgo_mon hm l v s
  have m2 := zbeh_mon (σ := σ) n (zgo σ act l v s)
  have ec := zcc_add m1 m2
  have es := zcs_add m1 m2
  refine wk_X2_behind (v0 := some (A 51 r 0)) (v1 := some (A 14 n 0)) (v5 := some lam) hG ?_
  have hC := hgo v s h R k0
  rw [nI_succ] at hC
  generalize hq : zgo σ act l v s = q at hC ec es m1 m2 ⊢
  refine ⟨A 51 r 0, rfl, z2_isR R, z_cP hC (by omega) (by show _ ≤ zcc _ _ _; omega) (by show _ ≤ zcs _ _ _; omega) (fun v' h' e1 R' k' => ?_) (fun o x h' e1 R' k' ex => ?_)⟩
  · obtain ⟨C, L, o1, T, O, H, Th⟩ := id R'
    have hadv := C.adv (zadv_get hn)
    refine z_gI hadv rfl ⟨fun q9 => ?_, fun q9 => ?_⟩
    · have eb : zbeh σ n q = (.inl v', q.2) := by
        rw [show q = (.inl v', q.2) from Prod.ext e1 rfl]
        exact if_pos q9
      rw [eb]
      exact ⟨R', k', rfl⟩
    · have eb : zbeh σ n q = match zadd σ n v' q.2 with | none => (zup, zRe q.2) | some s1 => (.inl v', s1) := by
        rw [show q = (.inl v', q.2) from Prod.ext e1 rfl]
        show (if _ then _ else _) = _
        rw [if_neg q9]
      rcases zadd_cases (σ := σ) n v' q.2 with ⟨hl, ea⟩ | ⟨hl, ea⟩
      · rw [ea] at eb
        have eb : zbeh σ n q = (zup, zRe q.2) := eb
        have hcc : zcc σ q.2 (zbeh σ n q).2 = 2 := by rw [eb]; unfold zcc zPc zRe; first | (simp; done) | (simp; omega)
        have hcs : zcs σ q.2 (zbeh σ n q).2 = 11 := by rw [eb]; unfold zcs zPs zRe; first | (simp; done) | (simp; omega)
        refine z_gA o1 rfl (z2_add hG hw hn R' (by omega) (fun hl2 => absurd hl hl2) (fun _ => ?_) (fun _ => ?_) (fun _ q3 h3 R3 k3 ex3 => ?_))
        · show 1 ≤ zcc σ s (zbeh σ n q).2 - zcc σ s q.2
          omega
        · show 6 ≤ zcs σ s (zbeh σ n q).2 - zcs σ s q.2
          omega
        · show zPo G A σ r e ch th (zbeh σ n q) h _ h3
          rw [eb]
          exact ⟨R3, k'.trans k3, q3, rfl, ex3⟩
      · rw [ea] at eb
        have eb : zbeh σ n q = (.inl v', zRt ((zadv σ n).2.1, v', n) q.2) := eb
        refine z_gA o1 rfl (z2_add hG hw hn R' (by omega) (fun _ h3 R3 k3 => ?_) (fun hl2 => absurd hl2 hl) (fun hl2 => absurd hl2 hl) (fun hl2 => absurd hl2 hl))
        show zPo G A σ r e ch th (zbeh σ n q) h _ h3
        rw [eb]
        exact ⟨R3, k'.trans k3, rfl⟩
  · cases o with
    | none =>
      have eb : zbeh σ n q = (zup, q.2) := by
        rw [show q = (.inr none, q.2) from Prod.ext e1 rfl]
        rfl
      refine ⟨fun q9 => absurd q9 (by decide), fun _ => ⟨zN_GT hG, ?_⟩⟩
      show zPo G A σ r e ch th (zbeh σ n q) h _ h'
      rw [eb]
      exact ⟨R', k', x, rfl, ex⟩
    | some z =>
      obtain ⟨C, L, o1, T, O, H, Th⟩ := id R'
      have hadv := C.adv (zadv_get hn)
      obtain ⟨fs, x1, x2⟩ := id ex
      refine ⟨fun _ => z_gI hadv rfl ⟨fun q9 => ?_, fun q9 => ?_⟩, fun q9 => absurd rfl q9⟩
      · have eb : zbeh σ n q = (zraise z, q.2) := by
          rw [show q = (.inr (some z), q.2) from Prod.ext e1 rfl]
          exact if_pos q9
        refine ex.at ?_
        show zPo G A σ r e ch th (zbeh σ n q) h _ h'
        rw [eb]
        exact ⟨R', k', x, rfl, ex⟩
      · have eb : zbeh σ n q = match zadd σ n z q.2 with | none => (zup, zRe q.2) | some s1 => (zraise z, s1) := by
          rw [show q = (.inr (some z), q.2) from Prod.ext e1 rfl]
          show (if _ then _ else _) = _
          rw [if_neg q9]
        rcases zadd_cases (σ := σ) n z q.2 with ⟨hl, ea⟩ | ⟨hl, ea⟩
        · rw [ea] at eb
          have eb : zbeh σ n q = (zup, zRe q.2) := eb
          have hcc : zcc σ q.2 (zbeh σ n q).2 = 2 := by rw [eb]; unfold zcc zPc zRe; first | (simp; done) | (simp; omega)
          have hcs : zcs σ q.2 (zbeh σ n q).2 = 11 := by rw [eb]; unfold zcs zPs zRe; first | (simp; done) | (simp; omega)
          refine z_gA o1 rfl (z_gI x1 x2 (z2_add hG hw hn R' (by omega) (fun hl2 => absurd hl hl2) (fun _ => ?_) (fun _ => ?_) (fun _ q3 h3 R3 k3 ex3 => ?_)))
          · show 1 ≤ zcc σ s (zbeh σ n q).2 - zcc σ s q.2
            omega
          · show 6 ≤ zcs σ s (zbeh σ n q).2 - zcs σ s q.2
            omega
          · show zPo G A σ r e ch th (zbeh σ n q) h _ h3
            rw [eb]
            exact ⟨R3, k'.trans k3, q3, rfl, ex3⟩
        · rw [ea] at eb
          have eb : zbeh σ n q = (zraise z, zRt ((zadv σ n).2.1, z, n) q.2) := eb
          refine z_gA o1 rfl (z_gI x1 x2 (z2_add hG hw hn R' (by omega) (fun _ h3 R3 k3 => ?_) (fun hl2 => absurd hl2 hl) (fun hl2 => absurd hl2 hl) (fun hl2 => absurd hl2 hl)))
          have ex3 : zEx h3 x (some z) := ex.keep k3 (fun _ t q x => by rcases q with q | q | q <;> omega)
          refine ex3.at ?_
          show zPo G A σ r e ch th (zbeh σ n q) h _ h3
          rw [eb]
          exact ⟨R3, k'.trans k3, x, rfl, ex3⟩
end ZW
