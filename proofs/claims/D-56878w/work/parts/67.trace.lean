/-! THE COMPONENT: traces, and what is asked of the last run -/
section ZTR
variable {G : wv_G} {A A' : zA} {σ σ' : zS} {h h1 h2 h' : wv_H} {w : wv_W} {fr fr' kc ks : Nat} {P : wv_R → wv_H → Prop} {KX : String → Nat → wv_W → Prop} {a b : Nat} {t ta tb : wv_T} {r : Nat} {tr : List zAc}
/-- the r-th run's trace -/
def zTr (G : wv_G) (A : zA) (r : Nat) (tr : List zAc) (h : wv_H) : Prop :=
  h (A 52 r 0) = some ((52, r, 0, 0), wo_o ciX3 [va_rf (some (A 53 r 0)), va_rf (some (A 54 r 0)), va_rf (some (A 55 r 0)), .int (nI tr.length)]) ∧ tr.length ≤ 400 ∧ (∀ x ∈ tr, x.2.2 < 100 ∧ wv_fit .char x.1) ∧
  (∃ f, h (A 53 r 0) = some ((53, r, 0, 0), wo_i (wv_A G 1) 400 f) ∧ ∀ i x, tr[i]? = some x → f i = x.1) ∧
  (∃ f, h (A 54 r 0) = some ((54, r, 0, 0), wo_i (wv_A G 0) 400 f) ∧ ∀ i x, tr[i]? = some x → f i = x.2.1) ∧
  (∃ f, h (A 55 r 0) = some ((55, r, 0, 0), wo_i (wv_A G 0) 400 f) ∧ ∀ i x, tr[i]? = some x → f i = nI x.2.2)
abbrev zSw (r : Nat) : Nat → wv_T → Prop := fun _ t => 52 ≤ t.1 ∧ t.1 ≤ 55 ∧ t.2.1 = r
theorem zTr.keep {S : Nat → wv_T → Prop} (T : zTr G A r tr h) (k : kp S h h1) (hS : ∀ a t, S a t → ¬ (52 ≤ t.1 ∧ t.1 ≤ 55 ∧ t.2.1 = r)) : zTr G A r tr h1 := by
  obtain ⟨t1, t2, t3, ⟨f4, t4, u4⟩, ⟨f5, t5, u5⟩, ⟨f6, t6, u6⟩⟩ := T
  exact ⟨k _ _ t1 (fun q => hS _ _ q ⟨zle, zle, rfl⟩), t2, t3, ⟨f4, k _ _ t4 (fun q => hS _ _ q ⟨zle, zle, rfl⟩), u4⟩, ⟨f5, k _ _ t5 (fun q => hS _ _ q ⟨zle, zle, rfl⟩), u5⟩, ⟨f6, k _ _ t6 (fun q => hS _ _ q ⟨zle, zle, rfl⟩), u6⟩⟩
/-- a thrown object: of the language's exceptions with a number, or given up -/
def zEx (h : wv_H) (q : Nat) (o : Option Int32) : Prop := match o with
  | some n => ∃ fs : List Value, h q = some ((64, 0, 0, 0), wo_o ciX23 fs) ∧ fs[6]? = some (.int n)
  | none => ∃ fs : List Value, h q = some ((64, 0, 0, 0), wo_o ciX24 fs)
def zEn (o : Option Int32) : String := match o with
  | some _ => "Weaversgate$Thrown"
  | none => "Weaversgate$GivenUp"
theorem zEx.keep {S : Nat → wv_T → Prop} {q : Nat} {o : Option Int32} (e : zEx h q o) (k : kp S h h1) (hS : ∀ a t, S a t → t.1 ≠ 64) : zEx h1 q o := by
  cases o with
  | none =>
    obtain ⟨fs, e1⟩ := e
    exact ⟨fs, k _ _ e1 (fun x => hS _ _ x rfl)⟩
  | some n =>
    obtain ⟨fs, e1, e2⟩ := e
    exact ⟨fs, k _ _ e1 (fun x => hS _ _ x rfl), e2⟩
theorem zEx.at {q : Nat} {o : Option Int32} (e : zEx w.1 q o) (hK : KX (zEn o) q w) : wv_at w (some q) KX := by
  cases o with
  | none =>
    obtain ⟨fs, e1⟩ := e
    exact z_at e1 ccX24 hK
  | some n =>
    obtain ⟨fs, e1, e2⟩ := e
    exact z_at e1 ccX23 hK
theorem z24_init (hG : wv_G0 G) {ci : Nat} {fs : List Value} (ha : h a = some (t, wo_o ci fs)) (ht : t.1 ≠ 0) (he : wv_exc ci fs.length) (h4 : fs[4]? = some (va_rf none)) : wv_C G yX24_init [.ref a] h 6 0 0 (fun r h' => r = .inl none ∧ ∃ fs' : List Value, fs'.length = fs.length ∧ h' = wv_up h a (t, wo_o ci fs')) :=
  wk_X24_init (v0 := some a) hG ⟨a, rfl, 5, 0, 0, _, z_J5 hG ha ht he h4, by omega, Nat.zero_le _, Nat.zero_le _, by rintro r h' ⟨rfl, h1⟩; exact Or.inl ⟨rfl, rfl, h1⟩⟩
/-- given up -/
theorem z_up (hG : wv_G0 G) (hfr : 6 < fr) (hc : 1 ≤ w.2.1) (hs : 6 ≤ w.2.2) (hK : ∀ a h', kp kn w.1 h' → zEx h' a none → KX "Weaversgate$GivenUp" a (h', w.2.1 - 1, w.2.2 - 6)) :
    wv_no G w (wo_o ciX24 [va_rf none, va_rf none, va_rf none, va_rf none, va_rf none, .int 0]) 6 (fun a4 w4 => wv_cI G fr yX24_init (some a4) [] w4 (wv_rV (fun w8 => wv_at w8 (some a4) KX) KX)) := by
  refine z_no (64, 0, 0, 0) hc hs (fun a ha hb => ?_)
  refine ⟨a, rfl, z_c (z24_init hG wv_up_self (by decide) wv_excX24 rfl) hfr (Nat.zero_le _) (Nat.zero_le _) ?_⟩
  rintro r h' ⟨rfl, fs', h1, rfl⟩
  refine Or.inl ⟨rfl, z_at wv_up_self ccX24 ?_⟩
  refine hK a _ ?_ ⟨fs', wv_up_self⟩
  rw [z_uu]
  exact kp.new ha
theorem z3_add (hG : wv_G0 G) {n : Nat} {x : zAd} (T : zTr G A r tr h) (ha : zca A h n x) (hn : n < 100) (hf : wv_fit .char x.2.1) (hl : tr.length < 400) (v : Int32) : wv_C G yX3_add [.ref (A 52 r 0), .ref (A 14 n 0), .int v] h 0 0 0 (fun y h' => y = .inl none ∧ zTr G A r (tr ++ [(x.2.1, v, n)]) h' ∧ kp (zSw r) h h') := by
  obtain ⟨t1, t2, t3, ⟨f4, t4, u4⟩, ⟨f5, t5, u5⟩, ⟨f6, t6, u6⟩⟩ := T
  have h1400 : ¬ nI tr.length = 400 := fun q => by
    have := (nI_eq (a := tr.length) (b := 400) (by omega) (by omega)).mp q
    omega
  have hch : vp_nar .char x.2.1 = x.2.1 := Value.int.inj hf.1
  have n4 : A 52 r 0 ≠ A 53 r 0 := z_ne t1 t4 (fun q => by cases q)
  have n5 : A 52 r 0 ≠ A 54 r 0 := z_ne t1 t5 (fun q => by cases q)
  have n6 : A 52 r 0 ≠ A 55 r 0 := z_ne t1 t6 (fun q => by cases q)
  have n45 : A 53 r 0 ≠ A 54 r 0 := z_ne t4 t5 (fun q => by cases q)
  have n46 : A 53 r 0 ≠ A 55 r 0 := z_ne t4 t6 (fun q => by cases q)
  have n56 : A 54 r 0 ≠ A 55 r 0 := z_ne t5 t6 (fun q => by cases q)
  have na4 : A 14 n 0 ≠ A 53 r 0 := z_ne ha t4 (fun q => by cases q)
  have na5 : A 14 n 0 ≠ A 54 r 0 := z_ne ha t5 (fun q => by cases q)
  have na6 : A 14 n 0 ≠ A 55 r 0 := z_ne ha t6 (fun q => by cases q)
  refine wk_X3_add (v0 := some (A 52 r 0)) (v1 := some (A 14 n 0)) hG (z_gI t1 rfl ⟨fun _ => ?_, fun q => absurd q h1400⟩)
  refine z_gA t1 rfl (z_gI t1 rfl (z_gI ha rfl (z_si t4 (Nat.succ_ne_zero _) hl (by decide) ?_)))
  rw [hch]
  refine z_gA (z_upo n4 t1) rfl (z_gI (z_upo n4 t1) rfl (z_si (z_upo (Ne.symm n45) t5) (Nat.succ_ne_zero _) hl (by decide) ?_))
  refine z_gA (z_upo n5 (z_upo n4 t1)) rfl (z_gI (z_upo n5 (z_upo n4 t1)) rfl (z_gI (z_upo na5 (z_upo na4 ha)) rfl (z_si (z_upo (Ne.symm n56) (z_upo (Ne.symm n46) t6)) (Nat.succ_ne_zero _) hl (by decide) ?_)))
  refine z_gI (z_upo n6 (z_upo n5 (z_upo n4 t1))) rfl (z_pt (z_upo n6 (z_upo n5 (z_upo n4 t1))) (Nat.succ_ne_zero _) (by simp) ?_)
  have step : ∀ (f : Nat → Int32) (pr : zAc → Int32) (y : Int32), (∀ i x, tr[i]? = some x → f i = pr x) → pr (x.2.1, v, n) = y → ∀ i z, (tr ++ [(x.2.1, v, n)])[i]? = some z → upd f tr.length y i = pr z := by
    intro f pr y hfp hy i z hz
    rcases z_app hz with hz | ⟨rfl, rfl⟩
    · rw [pk_un (Nat.ne_of_lt (List.getElem?_eq_some_iff.mp hz).1)]
      exact hfp i z hz
    · rw [pk_us, hy]
  refine ⟨rfl, ⟨?_, by rw [List.length_append]; exact hl, fun z hz => ?_, ⟨upd f4 tr.length x.2.1, ?_, step f4 (fun z => z.1) _ u4 rfl⟩, ⟨upd f5 tr.length v, ?_, step f5 (fun z => z.2.1) _ u5 rfl⟩, ⟨upd f6 tr.length (nI n), ?_, step f6 (fun z => nI z.2.2) _ u6 rfl⟩⟩, ?_⟩
  · show wv_up _ (A 52 r 0) _ (A 52 r 0) = _
    rw [wv_up_self, List.length_append]
    show some ((52, r, 0, 0), wo_o ciX3 [va_rf (some (A 53 r 0)), va_rf (some (A 54 r 0)), va_rf (some (A 55 r 0)), .int (nI tr.length + 1)]) = _
    rw [← nI_succ]
    rfl
  · rcases List.mem_append.mp hz with hz | hz
    · exact t3 z hz
    · rw [List.mem_singleton] at hz
      subst hz
      exact ⟨hn, hf⟩
  · exact z_upo (Ne.symm n4) (z_upo n46 (z_upo n45 wv_up_self))
  · exact z_upo (Ne.symm n5) (z_upo n56 wv_up_self)
  · exact z_upo (Ne.symm n6) wv_up_self
  · refine kp.trans (kp.trans (kp.trans (kp.put t4 ⟨zle, zle, rfl⟩) (kp.put (z_upo (Ne.symm n45) t5) ⟨zle, zle, rfl⟩)) (kp.put (z_upo (Ne.symm n56) (z_upo (Ne.symm n46) t6)) ⟨zle, zle, rfl⟩)) (kp.put (z_upo n6 (z_upo n5 (z_upo n4 t1))) ⟨zle, zle, rfl⟩)
theorem z3_addUp (hG : wv_G0 G) {b : Nat} (T : zTr G A r tr h) (hl : tr.length = 400) (v : Int32) : wv_C G yX3_add [.ref (A 52 r 0), .ref b, .int v] h 7 1 6 (fun y h' => ∃ q, y = .inr ("Weaversgate$GivenUp", q) ∧ kp kn h h' ∧ zEx h' q none) := by
  obtain ⟨t1, t2, -⟩ := T
  rw [hl] at t1
  exact wk_X3_add (v0 := some (A 52 r 0)) (v1 := some b) hG (z_gI t1 rfl ⟨fun q => absurd rfl q, fun _ => z_up hG (by decide) zle zle (fun a h' k e => ⟨a, rfl, k, e⟩)⟩)
theorem z3_length (hG : wv_G0 G) (T : zTr G A r tr h) : wv_C G yX3_length [.ref (A 52 r 0)] h 0 0 0 (fun y h' => y = .inl (some (.int (nI tr.length))) ∧ h' = h) := wk_X3_length (v0 := some (A 52 r 0)) hG (z_gI T.1 rfl ⟨rfl, rfl⟩)
theorem z3_charAt (hG : wv_G0 G) (T : zTr G A r tr h) {i : Nat} {x : zAc} (hx : tr[i]? = some x) : wv_C G yX3_charAt [.ref (A 52 r 0), .int (nI i)] h 0 0 0 (fun y h' => y = .inl (some (.int x.1)) ∧ h' = h) := by
  obtain ⟨t1, t2, t3, ⟨f4, t4, u4⟩, -, -⟩ := T
  have hi := (List.getElem?_eq_some_iff.mp hx).1
  refine wk_X3_charAt (v0 := some (A 52 r 0)) hG (z_gA t1 rfl (z_li t4 (by omega) (by decide) ?_))
  rw [u4 i x hx]
  exact ⟨(t3 x (List.mem_of_getElem? hx)).2.1, rfl, rfl⟩
theorem z3_is (T : zTr G A r tr h) : wv_is G h (A 52 r 0) RX3 := z_is T.1 ccX3
-- ===== two traces =====
theorem z3_isLike (hG : wv_G0 G) {r2 : Nat} {tr2 : List zAc} (T : zTr G A r tr h) (T2 : zTr G A r2 tr2 h) : wv_C G yX3_isLike [.ref (A 52 r 0), .ref (A 52 r2 0)] h 0 0 0 (fun y h' => y = .inl (some (.int (zbI (decide (tr = tr2))))) ∧ h' = h) := by
  obtain ⟨t1, t2, t3, ⟨f4, t4, u4⟩, ⟨f5, t5, u5⟩, ⟨f6, t6, u6⟩⟩ := T
  obtain ⟨s1, s2, s3, ⟨g4, s4, v4⟩, ⟨g5, s5, v5⟩, ⟨g6, s6, v6⟩⟩ := T2
  let e : Nat → Bool := fun i => decide (tr.length = tr2.length ∧ tr.take i = tr2.take i)
  have loop : vc_X3_isLike_16 G 0 (fun y h' => y = .inl (some (.int (zbI (decide (tr = tr2))))) ∧ h' = h) (some (A 52 r 0)) (some (A 52 r2 0)) (zbI (e 0)) (h, 0, 0) := by
    refine z_loopV tr.length (by omega) (fun v => v.2.2.2) (fun i => (some (A 52 r 0), some (A 52 r2 0), zbI (e i), nI i)) (fun _ => rfl) rfl (fun K i hi hK => ?_)
    refine z_gI t1 rfl (pk_le tr.length i (fun hle => ?_) (fun hlt => ?_))
    · have e9 : i = tr.length := by omega
      refine ⟨zbI_n _, ?_, rfl⟩
      have e8 : e i = decide (tr = tr2) := by
        show decide _ = _
        rw [Bool.eq_iff_iff, decide_eq_true_eq, decide_eq_true_eq, e9]
        constructor
        · rintro ⟨h1, h2⟩
          rw [List.take_length, h1, List.take_length] at h2
          exact h2
        · intro h1
          rw [h1]
          exact ⟨rfl, rfl⟩
      show Sum.inl (some (Value.int (zbI (e i)))) = _
      rw [e8]
    · refine ⟨fun q => ?_, fun q => ?_⟩
      · refine ⟨zbI_n _, ?_, rfl⟩
        have q := zbI_e0 q
        have e8 : decide (tr = tr2) = false := by
          rw [decide_eq_false_iff_not]
          intro h1
          have q : decide (tr.length = tr2.length ∧ tr.take i = tr2.take i) = false := q
          rw [h1] at q
          simp at q
        show Sum.inl (some (Value.int (zbI (e i)))) = _
        rw [q, e8]
      · have q := zbI_n0 q
        have q : decide (tr.length = tr2.length ∧ tr.take i = tr2.take i) = true := q
        rw [decide_eq_true_eq] at q
        obtain ⟨q1, q2⟩ := q
        have hx : tr[i]? = some tr[i] := List.getElem?_eq_getElem hlt
        have hlt2 : i < tr2.length := by omega
        have hy : tr2[i]? = some tr2[i] := List.getElem?_eq_getElem hlt2
        have en : e (i + 1) = decide (tr[i] = tr2[i]) := by
          show decide _ = _
          rw [Bool.eq_iff_iff, decide_eq_true_eq, decide_eq_true_eq, List.take_succ_eq_append_getElem hlt, List.take_succ_eq_append_getElem hlt2, q2]
          constructor
          · rintro ⟨-, h2⟩
            have := List.append_cancel_left h2
            injection this
          · intro h2
            rw [h2]
            exact ⟨q1, rfl⟩
        have step : ∀ b : Bool, b = decide (tr[i] = tr2[i]) → K (some (A 52 r 0), some (A 52 r2 0), zbI b, nI i + 1) (h, 0, 0) := by
          intro b hb
          have k9 := hK hlt
          rw [nI_succ] at k9
          have k9 : K (some (A 52 r 0), some (A 52 r2 0), zbI (e (i + 1)), nI i + 1) (h, 0, 0) := k9
          rw [en, ← hb] at k9
          exact k9
        refine z_gA t1 rfl (z_li t4 (by omega) (by decide) (z_gA s1 rfl (z_li s4 (by omega) (by decide) ?_)))
        rw [u4 i _ hx, v4 i _ hy]
        refine ⟨fun d => ?_, fun d => ?_⟩
        · exact step false (decide_eq_false (fun d2 => d (by rw [d2]))).symm
        · refine z_gA t1 rfl (z_li t5 (by omega) (by decide) (z_gA s1 rfl (z_li s5 (by omega) (by decide) ?_)))
          rw [u5 i _ hx, v5 i _ hy]
          refine ⟨fun d' => ?_, fun d' => ?_⟩
          · exact step false (decide_eq_false (fun d2 => d' (by rw [d2]))).symm
          · refine z_gA t1 rfl (z_li t6 (by omega) (by decide) (z_gA s1 rfl (z_li s6 (by omega) (by decide) ?_)))
            rw [u6 i _ hx, v6 i _ hy]
            have b1 := (t3 _ (List.getElem_mem hlt)).1
            have b2 := (s3 _ (List.getElem_mem hlt2)).1
            refine ⟨fun d'' => ?_, fun d'' => ?_⟩
            · exact step false (decide_eq_false (fun d2 => d'' (by rw [d2]))).symm
            · refine step true (decide_eq_true ?_).symm
              have d3 := (nI_eq (by omega) (by omega)).mp d''
              exact Prod.ext d (Prod.ext d' d3)
  have e0 : e 0 = decide (tr.length = tr2.length) := by
    show decide (tr.length = tr2.length ∧ tr.take 0 = tr2.take 0) = _
    simp
  rw [e0] at loop
  refine wk_X3_isLike (v0 := some (A 52 r 0)) (v1 := some (A 52 r2 0)) hG (z_gI t1 rfl (z_gI s1 rfl ⟨fun q => ?_, fun q => ?_⟩))
  · have e1 : decide (tr.length = tr2.length) = false := decide_eq_false (fun d => q (by rw [d]))
    rw [e1] at loop
    exact loop
  · have e1 : decide (tr.length = tr2.length) = true := decide_eq_true ((nI_eq (by omega) (by omega)).mp q)
    rw [e1] at loop
    exact loop

theorem zfC_len : wv_face "Weaversgate$Trace" (⟨"java/lang/CharSequence", "length", "()I"⟩ : MethodName) yX3_length := ⟨q1677, q927, q65, ⟨_, _, _, q929⟩, ⟨by decide +kernel, by decide +kernel⟩, q1675, q1674, q1679, q1678, q1676⟩
theorem zfC_chr : wv_face "Weaversgate$Trace" (⟨"java/lang/CharSequence", "charAt", "(I)C"⟩ : MethodName) yX3_charAt := ⟨q1692, q1645, q65, ⟨_, _, _, q1647⟩, ⟨by decide +kernel, by decide +kernel⟩, q1691, q1690, q1694, q1693, q1676⟩
-- ===== count =====
def zkn (c : Int32) (x : zAc) : Nat := if x.1 = c then 1 else 0
def zcn (tr : List zAc) (c : Int32) (i : Nat) : Nat := zsm (fun j => zkn c (tr.getD j (0, 0, 0))) i
theorem z1_count (hG : wv_G0 G) (T : zTr G A r tr h) (c : Int32) : wv_C G yX1_count [.ref (A 52 r 0), .int c] h 1 0 0 (fun y h' => y = .inl (some (.int (nI (zcn tr c tr.length)))) ∧ h' = h) := by
  have h400 := T.2.1
  refine wk_X1_count (v0 := some (A 52 r 0)) hG ?_
  refine z_loopV tr.length (by omega) (fun v => v.2.2.2) (fun i => (some (A 52 r 0), c, nI (zcn tr c i), nI i)) (fun _ => rfl) rfl (fun K i hi hK => ?_)
  refine z_fI (z3_is T) zfC_len (z3_length hG T) (by omega) (pk_le tr.length i (fun hle => ?_) (fun hlt => ?_))
  · have e9 : i = tr.length := by omega
    subst e9
    exact ⟨rfl, rfl⟩
  · have hx : tr[i]? = some tr[i] := List.getElem?_eq_getElem hlt
    have hd : tr.getD i (0, 0, 0) = tr[i] := by rw [List.getD_eq_getElem?_getD, hx]; rfl
    have k9 := hK hlt
    simp only [zcn, zsm, nI_succ] at k9
    rw [hd, ← nI_add] at k9
    refine z_fI (z3_is T) zfC_chr (z3_charAt hG T hx) (by omega) ⟨fun q => ?_, fun q => ?_⟩
    · rw [show zkn c tr[i] = 0 from if_neg q] at k9
      exact k9
    · rw [show zkn c tr[i] = 1 from if_pos q] at k9
      exact k9
-- ===== a run's object =====
def zRo (A : zA) (r : Nat) (how res : Int32) (pts asked : Nat) (wov : Bool) (pres : Option Nat) (h : wv_H) : Prop :=
  h (A 51 r 0) = some ((51, r, 0, 0), wo_o ciX2 [va_rf (some (A 52 r 0)), va_rf (some (A 56 r 0)), .int how, .int res, .int (nI pts), .int (nI asked), .int (zbI wov), va_rf pres, va_rf (some (A 2 0 0))])
variable {how res : Int32} {pts asked : Nat} {wov : Bool} {pres : Option Nat}
theorem z1_points (hG : wv_G0 G) (C : zCf G A σ h) (R : zRo A 0 how res pts asked wov pres h) : wv_C G yX1_points [.ref (A 2 0 0)] h 0 0 0 (fun y h' => y = .inl (some (.int (nI pts))) ∧ h' = h) := wk_X1_points (v0 := some (A 2 0 0)) hG (z_gA C.comp rfl (z_gI R rfl ⟨rfl, rfl⟩))
theorem z1_asked (hG : wv_G0 G) (C : zCf G A σ h) (R : zRo A 0 how res pts asked wov pres h) : wv_C G yX1_asked [.ref (A 2 0 0)] h 0 0 0 (fun y h' => y = .inl (some (.int (nI asked))) ∧ h' = h) := wk_X1_asked (v0 := some (A 2 0 0)) hG (z_gA C.comp rfl (z_gI R rfl ⟨rfl, rfl⟩))
theorem z1_traceLength (hG : wv_G0 G) (C : zCf G A σ h) (R : zRo A 0 how res pts asked wov pres h) (T : zTr G A 0 tr h) : wv_C G yX1_traceLength [.ref (A 2 0 0)] h 1 0 0 (fun y h' => y = .inl (some (.int (nI tr.length))) ∧ h' = h) := wk_X1_traceLength (v0 := some (A 2 0 0)) hG (z_gA C.comp rfl (z_gA R rfl (z_vI (z3_is T) (z3_length hG T) (by omega) ⟨rfl, rfl⟩)))
def zeRs (how : Int32) : Nat := if how = 114 ∨ how = 120 then 0 else 1
theorem z1_result (hG : wv_G0 G) (C : zCf G A σ h) (R : zRo A 0 how res pts asked wov pres h) : wv_C G yX1_result [.ref (A 2 0 0)] h 8 1 6 (zRes h (zeRs how) [zISE] (fun y h' => y = .inl (some (.int res)) ∧ h' = h)) := by
  refine wk_X1_result (v0 := some (A 2 0 0)) hG (z_gA C.comp rfl (z_gI R rfl ⟨fun q => ?_, fun q => z_gA C.comp rfl (z_gI R rfl ⟨fun q2 => ?_, fun q2 => ?_⟩)⟩))
  · exact z_cV (z1_ckS hG) (by omega) (z_gA C.comp rfl (z_gI R rfl (zRes.ok (if_pos (Or.inl q)) ⟨rfl, rfl⟩)))
  · exact z_tV (z1_ckS0 hG) (by omega) zle zle (fun x h' k => zRes.err 1 (if_neg (fun e => e.elim q q2)) (by decide) rfl k)
  · exact z_cV (z1_ckS hG) (by omega) (z_gA C.comp rfl (z_gI R rfl (zRes.ok (if_pos (Or.inr q2)) ⟨rfl, rfl⟩)))
theorem z1_checkIndex (hG : wv_G0 G) (C : zCf G A σ h) (R : zRo A 0 how res pts asked wov pres h) (T : zTr G A 0 tr h) {x : Int32} {i : Nat} (hx : zix x tr.length = some i) : wv_C G yX1_checkIndex [.ref (A 2 0 0), .int x] h 1 0 0 (fun y h' => y = .inl none ∧ h' = h) := by
  have h400 := T.2.1
  refine wk_X1_checkIndex (v0 := some (A 2 0 0)) hG (z_gA C.comp rfl (z_gA R rfl (z_vI (z3_is T) (z3_length hG T) (by omega) (z_cI (z1_inRange hG _ _ _) (by omega) ?_))))
  rw [zir_of (by omega) hx]
  exact z_cV (z1_ckP hG) (by omega) ⟨rfl, rfl⟩
theorem z1_checkIndex0 (hG : wv_G0 G) (C : zCf G A σ h) (R : zRo A 0 how res pts asked wov pres h) (T : zTr G A 0 tr h) {x : Int32} (hx : zix x tr.length = none) : wv_C G yX1_checkIndex [.ref (A 2 0 0), .int x] h 8 1 6 (zTh zIOOB h) := by
  refine wk_X1_checkIndex (v0 := some (A 2 0 0)) hG (z_gA C.comp rfl (z_gA R rfl (z_vI (z3_is T) (z3_length hG T) (by omega) (z_cI (z1_inRange hG _ _ _) (by omega) ?_))))
  rw [zix_none.mp hx]
  exact z_tV (z1_ckP0 hG) (by omega) zle zle (fun q h' k => ⟨⟨q, rfl⟩, k⟩)
def zeX (tr : List zAc) (x : Int32) : Nat := if zix x tr.length = none then 1 else 0
def zac (tr : List zAc) (x : Int32) : zAc := tr.getD (zAt x) (0, 0, 0)
theorem zac_of {x : Int32} {i : Nat} (hx : zix x tr.length = some i) (hl : tr.length ≤ 400) : tr[i]? = some (zac tr x) ∧ i < tr.length ∧ x = nI i := by
  obtain ⟨h1, h2⟩ := (zix_some (by omega)).mp hx
  refine ⟨?_, h1, h2⟩
  unfold zac
  rw [zix_at hx, List.getD_eq_getElem?_getD, List.getElem?_eq_getElem h1]
  rfl
theorem z1_traceKind (hG : wv_G0 G) (C : zCf G A σ h) (R : zRo A 0 how res pts asked wov pres h) (T : zTr G A 0 tr h) (x : Int32) : wv_C G yX1_traceKind [.ref (A 2 0 0), .int x] h 9 1 6 (zRes h (zeX tr x) [zIOOB] (fun y h' => y = .inl (some (.int (zac tr x).1)) ∧ h' = h)) := by
  refine wk_X1_traceKind (v0 := some (A 2 0 0)) hG ?_
  cases hx : zix x tr.length with
  | none => exact ⟨A 2 0 0, rfl, z_isC C, z_tV (z1_checkIndex0 hG C R T hx) (by omega) zle zle (fun q h' k => zRes.err 1 (if_pos hx) (by decide) rfl k)⟩
  | some i =>
    obtain ⟨h1, h2, h3⟩ := zac_of hx T.2.1
    refine z_vV (z_isC C) (z1_checkIndex hG C R T hx) (by omega) (z_gA C.comp rfl (z_gA R rfl ?_))
    have h0 : zeX tr x = 0 := if_neg (by rw [hx]; simp)
    have hm := (T.2.2.1 _ (List.mem_of_getElem? h1)).2.1
    generalize zac tr x = z at h1 hm ⊢
    rw [h3] at h0 ⊢
    exact z_vI (z3_is T) (z3_charAt hG T h1) (by omega) ⟨hm, zRes.ok h0 ⟨rfl, rfl⟩⟩
theorem z1_traceValue (hG : wv_G0 G) (C : zCf G A σ h) (R : zRo A 0 how res pts asked wov pres h) (T : zTr G A 0 tr h) (x : Int32) : wv_C G yX1_traceValue [.ref (A 2 0 0), .int x] h 9 1 6 (zRes h (zeX tr x) [zIOOB] (fun y h' => y = .inl (some (.int (zac tr x).2.1)) ∧ h' = h)) := by
  refine wk_X1_traceValue (v0 := some (A 2 0 0)) hG ?_
  cases hx : zix x tr.length with
  | none => exact ⟨A 2 0 0, rfl, z_isC C, z_tV (z1_checkIndex0 hG C R T hx) (by omega) zle zle (fun q h' k => zRes.err 1 (if_pos hx) (by decide) rfl k)⟩
  | some i =>
    obtain ⟨h1, h2, h3⟩ := zac_of hx T.2.1
    obtain ⟨t1, t2, -, -, ⟨f5, t5, u5⟩, -⟩ := id T
    refine z_vV (z_isC C) (z1_checkIndex hG C R T hx) (by omega) (z_gA C.comp rfl (z_gA R rfl (z_gA t1 rfl ?_)))
    have h0 : zeX tr x = 0 := if_neg (by rw [hx]; simp)
    generalize zac tr x = z at h1 ⊢
    rw [h3] at h0 ⊢
    refine z_li t5 (by omega) (by decide) ?_
    rw [u5 i z h1]
    exact zRes.ok h0 ⟨rfl, rfl⟩
theorem z1_traceAdvice (hG : wv_G0 G) (C : zCf G A σ h) (R : zRo A 0 how res pts asked wov pres h) (T : zTr G A 0 tr h) (x : Int32) : wv_C G yX1_traceAdvice [.ref (A 2 0 0), .int x] h 9 1 6 (zRes h (zeX tr x) [zIOOB] (fun y h' => y = .inl (some (.int (nI (zac tr x).2.2))) ∧ h' = h)) := by
  refine wk_X1_traceAdvice (v0 := some (A 2 0 0)) hG ?_
  cases hx : zix x tr.length with
  | none => exact ⟨A 2 0 0, rfl, z_isC C, z_tV (z1_checkIndex0 hG C R T hx) (by omega) zle zle (fun q h' k => zRes.err 1 (if_pos hx) (by decide) rfl k)⟩
  | some i =>
    obtain ⟨h1, h2, h3⟩ := zac_of hx T.2.1
    obtain ⟨t1, t2, -, -, -, ⟨f6, t6, u6⟩⟩ := id T
    refine z_vV (z_isC C) (z1_checkIndex hG C R T hx) (by omega) (z_gA C.comp rfl (z_gA R rfl (z_gA t1 rfl ?_)))
    have h0 : zeX tr x = 0 := if_neg (by rw [hx]; simp)
    generalize zac tr x = z at h1 ⊢
    rw [h3] at h0 ⊢
    refine z_li t6 (by omega) (by decide) ?_
    rw [u6 i z h1]
    exact zRes.ok h0 ⟨rfl, rfl⟩
/-- the sum over a trace -/
def zts (tr : List zAc) : Nat → Int64
  | 0 => 0
  | i + 1 => zts tr i + ((Int32.toInt64 (nI i) + 1) * (Int32.toInt64 (tr.getD i (0, 0, 0)).2.1 + (131 * Int32.toInt64 (nI (tr.getD i (0, 0, 0)).2.2))))
theorem z1_traceSum (hG : wv_G0 G) (C : zCf G A σ h) (R : zRo A 0 how res pts asked wov pres h) (T : zTr G A 0 tr h) : wv_C G yX1_traceSum [.ref (A 2 0 0)] h 1 0 0 (fun y h' => y = .inl (some (.long (zts tr tr.length))) ∧ h' = h) := by
  obtain ⟨t1, t2, -, -, ⟨f5, t5, u5⟩, ⟨f6, t6, u6⟩⟩ := id T
  refine wk_X1_traceSum (v0 := some (A 2 0 0)) hG ?_
  refine z_loopV tr.length (by omega) (fun v => v.2.2) (fun i => (some (A 2 0 0), zts tr i, nI i)) (fun _ => rfl) rfl (fun K i hi hK => ?_)
  refine z_gA C.comp rfl (z_gA R rfl (z_vI (z3_is T) (z3_length hG T) (by omega) (pk_le tr.length i (fun hle => ?_) (fun hlt => ?_))))
  · have e9 : i = tr.length := by omega
    subst e9
    exact ⟨rfl, rfl⟩
  · have hx : tr[i]? = some tr[i] := List.getElem?_eq_getElem hlt
    have hd : tr.getD i (0, 0, 0) = tr[i] := by rw [List.getD_eq_getElem?_getD, hx]; rfl
    refine z_gA C.comp rfl (z_gA R rfl (z_gA t1 rfl (z_li t5 (by omega) (by decide) (z_gA C.comp rfl (z_gA R rfl (z_gA t1 rfl (z_li t6 (by omega) (by decide) ?_)))))))
    rw [u5 i _ hx, u6 i _ hx]
    have k9 := hK hlt
    simp only [zts, nI_succ] at k9
    rw [hd] at k9
    exact k9
def zeAc (c : Int32) : Nat := if zisA c = true then 0 else 1
theorem z1_acted (hG : wv_G0 G) (C : zCf G A σ h) (R : zRo A 0 how res pts asked wov pres h) (T : zTr G A 0 tr h) (c : Int32) : wv_C G yX1_acted [.ref (A 2 0 0), .int c] h 8 1 6 (zRes h (zeAc c) [zIAE] (fun y h' => y = .inl (some (.int (nI (zcn tr c tr.length)))) ∧ h' = h)) := by
  refine wk_X1_acted (v0 := some (A 2 0 0)) hG (z_cI (z1_isAdvice hG c) (by omega) ?_)
  cases hb : zisA c with
  | false => exact z_tV (z1_ckA0 hG) (by omega) zle zle (fun q h' k => zRes.err 1 (if_neg (by rw [hb]; decide)) (by decide) rfl k)
  | true => exact z_cV (z1_ckA hG) (by omega) (z_gA C.comp rfl (z_gA R rfl (z_cI (z1_count hG T c) (by omega) (zRes.ok (if_pos hb) ⟨rfl, rfl⟩))))
end ZTR
