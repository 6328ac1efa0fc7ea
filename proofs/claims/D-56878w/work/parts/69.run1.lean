/-! THE COMPONENT: a run's state; advice chosen at a point -/
section ZV
variable {G : wv_G} {A A' : zA} {σ σ' : zS} {h h1 h2 h' : wv_H} {w : wv_W} {fr fr' kc ks : Nat} {P : wv_R → wv_H → Prop} {KX : String → Nat → wv_W → Prop} {a b : Nat} {t ta tb : wv_T} {r : Nat} {tr : List zAc}
/-- the object that steps work on: its address, its fields', its class -/
def zThg (G : wv_G) (A : zA) (σ : zS) (th : Nat × Nat × Nat) (F : Nat → Int32) (h : wv_H) : Prop := th.2.2 < zn σ ∧ h th.1 = some ((62, 0, 0, 0), wo_o ciX22 [va_rf (some (A 4 th.2.2 0)), va_rf (some th.2.1)]) ∧ h th.2.1 = some ((61, 0, 0, 0), wo_i (wv_A G 0) 4 F)
/-- a run under way: e says whether it is woven, and what how and result hold -/
def zRS (G : wv_G) (A : zA) (σ : zS) (r : Nat) (e : Bool × Int32 × Int32) (ch : List (Nat × zIn)) (th : Nat × Nat × Nat) (s : zR) (h : wv_H) : Prop :=
  zCf G A σ h ∧ zPls G A σ s.2.2.2.2.2 h ∧ zRo A r e.2.1 e.2.2 s.1 s.2.1 e.1 (ch.head?.map (fun q => q.1)) h ∧ zTr G A r s.2.2.1 h ∧ zOr G A σ r (zoa σ) h ∧ zCh A σ h ch ∧ zThg G A σ th s.2.2.2.1 h ∧ s.1 ≤ 120
abbrev zSR (r : Nat) (th : Nat × Nat × Nat) : Nat → wv_T → Prop := fun b t => (58 ≤ t.1 ∧ t.1 ≤ 60) ∨ (51 ≤ t.1 ∧ t.1 ≤ 55 ∧ t.2.1 = r) ∨ (t.1 = 61 ∧ b = th.2.1)
variable {e : Bool × Int32 × Int32} {ch : List (Nat × zIn)} {th : Nat × Nat × Nat} {s s1 s2 : zR}
theorem zThg.keep {S : Nat → wv_T → Prop} {F : Nat → Int32} (T : zThg G A σ th F h) (k : kp S h h1) (hS : ∀ a t, S a t → t.1 ≠ 61 ∧ t.1 ≠ 62) : zThg G A σ th F h1 := ⟨T.1, k _ _ T.2.1 (fun q => (hS _ _ q).2 rfl), k _ _ T.2.2 (fun q => (hS _ _ q).1 rfl)⟩
theorem zRS.keepn (R : zRS G A σ r e ch th s h) (k : kp kn h h1) : zRS G A σ r e ch th s h1 := by
  obtain ⟨c1, c2, c3, c4, c5, c6, c7⟩ := R
  exact ⟨c1.keepn k, c2.keep k (fun _ _ q => q.elim), c3.keep k (fun _ _ q => q.elim), c4.keep k (fun _ _ q => q.elim), c5.keep k (fun _ _ q => q.elim), c6.keep k (fun _ _ q => q.elim), c7.1.keep k (fun _ _ q => q.elim), c7.2⟩
/-- the place of a point, as it is given -/
def zPa (σ : zS) (wov : Bool) (pl : Option (Nat × Nat × Nat)) (d : Option Nat) (h : wv_H) : Prop := match wov, pl with
  | true, some (k, m, p) => ∃ b, d = some b ∧ zPlA σ h b (zpl σ k m p)
  | _, _ => d = none
theorem zPa.keep {S : Nat → wv_T → Prop} {wov : Bool} {pl : Option (Nat × Nat × Nat)} {d : Option Nat} (p : zPa σ wov pl d h) (k : kp S h h1) (hS : ∀ a t, S a t → t.1 ≠ 59) : zPa σ wov pl d h1 := by
  cases wov with
  | false => exact p
  | true =>
    cases pl with
    | none => exact p
    | some q =>
      obtain ⟨x, y, z⟩ := q
      obtain ⟨b, e1, e2⟩ := p
      exact ⟨b, e1, e2.keep k hS⟩
/-- the asked advices among the first -/
def zasn (σ : zS) (wov : Bool) (pl : Option (Nat × Nat × Nat)) (l : List Nat) : Nat := (l.filter (zasks σ wov pl)).length
theorem zasn_succ (wov : Bool) (pl : Option (Nat × Nat × Nat)) {l : List Nat} {i n : Nat} (hi : l[i]? = some n) : zasn σ wov pl (l.take (i + 1)) = zasn σ wov pl (l.take i) + (if zasks σ wov pl n = true then 1 else 0) := by
  have hlt := (List.getElem?_eq_some_iff.mp hi).1
  have he := (List.getElem?_eq_some_iff.mp hi).2
  unfold zasn
  rw [List.take_succ_eq_append_getElem hlt, List.filter_append, List.length_append, he]
  by_cases h : zasks σ wov pl n = true
  · rw [if_pos h, List.filter_cons_of_pos h]
    rfl
  · rw [if_neg h, List.filter_cons_of_neg h]
    rfl
/-- the asked one counted -/
theorem zRS.ask (R : zRS G A σ r e ch th s h) (n : Nat) : zRS G A σ r e ch th (zRq n s) (wv_up h (A 51 r 0) ((51, r, 0, 0), wo_o ciX2 [va_rf (some (A 52 r 0)), va_rf (some (A 56 r 0)), .int e.2.1, .int e.2.2, .int (nI s.1), .int (nI (s.2.1 + n)), .int (zbI e.1), va_rf (ch.head?.map (fun q => q.1)), va_rf (some (A 2 0 0))])) ∧ kp (fun _ t => t = (51, r, 0, 0)) h (wv_up h (A 51 r 0) ((51, r, 0, 0), wo_o ciX2 [va_rf (some (A 52 r 0)), va_rf (some (A 56 r 0)), .int e.2.1, .int e.2.2, .int (nI s.1), .int (nI (s.2.1 + n)), .int (zbI e.1), va_rf (ch.head?.map (fun q => q.1)), va_rf (some (A 2 0 0))])) := by
  obtain ⟨c1, c2, c3, c4, c5, c6, c7⟩ := R
  have k : kp (fun _ t => t = (51, r, 0, 0)) h (wv_up h (A 51 r 0) ((51, r, 0, 0), wo_o ciX2 [va_rf (some (A 52 r 0)), va_rf (some (A 56 r 0)), .int e.2.1, .int e.2.2, .int (nI s.1), .int (nI (s.2.1 + n)), .int (zbI e.1), va_rf (ch.head?.map (fun q => q.1)), va_rf (some (A 2 0 0))])) := kp.put c3 rfl
  have hS : ∀ (q : Nat), q ≠ 51 → ∀ (a : Nat) (t : wv_T), t = (51, r, 0, 0) → t.1 ≠ q := fun q hq a t e => by rw [e]; exact fun x => hq x.symm
  refine ⟨⟨c1.keep k (fun _ t e => by rw [e]; show 50 ≤ 51; decide), c2.keep k (fun a t e => ⟨hS 58 (by decide) a t e, hS 59 (by decide) a t e⟩), wv_up_self, c4.keep k (fun _ t e q => by rw [e] at q; exact absurd q.1 (by show ¬ 52 ≤ 51; decide)), c5.keep k (fun _ t e q => by rw [e] at q; exact absurd q.1 (by show ¬ (51 : Nat) = 56; decide)), c6.keep k (hS 60 (by decide)), ⟨c7.1.keep k (fun a t e => ⟨hS 61 (by decide) a t e, hS 62 (by decide) a t e⟩), c7.2⟩⟩, k⟩
/-- a place keeps more -/
theorem zRS.place (hn : zn σ ≤ 32) (R : zRS G A σ r e ch th s h) {q : zPl} {x1 x2 x3 y1 y2 y3 : Int32} (ha : h a = some ((59, 0, 0, 0), zPlo σ q x1 x2 x3)) (hv : zPv σ q y1 y2 y3) : zRS G A σ r e ch th s (wv_up h a ((59, 0, 0, 0), zPlo σ q y1 y2 y3)) := by
  obtain ⟨c1, c2, c3, c4, c5, c6, c7⟩ := R
  have k : kp (fun _ t => t = (59, 0, 0, 0)) h (wv_up h a ((59, 0, 0, 0), zPlo σ q y1 y2 y3)) := kp.put ha rfl
  have hS : ∀ (q : Nat), q ≠ 59 → ∀ (a : Nat) (t : wv_T), t = (59, 0, 0, 0) → t.1 ≠ q := fun q hq a t e => by rw [e]; exact fun x => hq x.symm
  exact ⟨c1.pl ha, c2.up hn ha hv, c3.keep k (fun a t e q => hS 51 (by decide) a t e q.1), c4.keep k (fun _ t e q => by rw [e] at q; exact absurd q.2.1 (by show ¬ 59 ≤ 55; decide)), c5.keep k (fun a t e q => hS 56 (by decide) a t e q.1), c6.keep k (hS 60 (by decide)), c7.1.keep k (fun a t e => ⟨hS 61 (by decide) a t e, hS 62 (by decide) a t e⟩), c7.2⟩
theorem zPa.place (hn : zn σ ≤ 32) {wov : Bool} {pl : Option (Nat × Nat × Nat)} {d : Option Nat} (p : zPa σ wov pl d h) {q : zPl} {x1 x2 x3 y1 y2 y3 : Int32} (ha : h a = some ((59, 0, 0, 0), zPlo σ q x1 x2 x3)) (hv : zPv σ q y1 y2 y3) : zPa σ wov pl d (wv_up h a ((59, 0, 0, 0), zPlo σ q y1 y2 y3)) := by
  cases wov with
  | false => exact p
  | true =>
    cases pl with
    | none => exact p
    | some q =>
      obtain ⟨x, y, z⟩ := q
      obtain ⟨b, e1, e2⟩ := p
      exact ⟨b, e1, e2.up hn ha hv⟩
/-- the open points keep more -/
theorem zRS.held (R : zRS G A σ r e ch th s h) (hc : zCh A σ h1 ch) (he : ∀ b, b ∉ ch.map (fun q => q.1) → h1 b = h b) : zRS G A σ r e ch th s h1 ∧ kp zS6 h h1 := by
  obtain ⟨c1, c2, c3, c4, c5, c6, c7⟩ := R
  have k := zCh_kp c6 he
  have hS : ∀ (q : Nat), q ≠ 60 → ∀ (a : Nat) (t : wv_T), zS6 a t → t.1 ≠ q := fun q hq a t e => by rw [show t.1 = 60 from e]; exact fun x => hq x.symm
  exact ⟨⟨c1.keep k zS6_50, c2.keep k (fun a t e => ⟨hS 58 (by decide) a t e, hS 59 (by decide) a t e⟩), c3.keep k (fun a t e q => hS 51 (by decide) a t e q.1), c4.keep k (fun _ t e q => absurd q.2.1 (by rw [show t.1 = 60 from e]; decide)), c5.keep k (fun a t e q => hS 56 (by decide) a t e q.1), hc, ⟨c7.1.keep k (fun a t e => ⟨hS 61 (by decide) a t e, hS 62 (by decide) a t e⟩), c7.2⟩⟩, k⟩
theorem ztold_none {wov : Bool} {pl : Option (Nat × Nat × Nat)} {n : Nat} (hd : ¬ ∃ k m p, wov = true ∧ pl = some (k, m, p)) : ztold σ wov pl n = none := by
  cases wov with
  | false => rfl
  | true =>
    cases pl with
    | none => rfl
    | some q => exact absurd ⟨q.1, q.2.1, q.2.2, rfl, rfl⟩ hd
def zaskv (σ : zS) (pl : Option (Nat × Nat × Nat)) (n : Nat) : Int32 := match pl with
  | none => 1
  | some (k, m, p) => zbI (decide (zat σ (zpl σ k m p) n = 109))
/-- isAsked of a numbered pattern: no place, or a place that says maybe -/
theorem z14_isAsked (hG : wv_G0 G) (hw : zwf σ) {n : Nat} (hn : n < σ.2.1.length) {wov : Bool} {pl : Option (Nat × Nat × Nat)} {d : Option Nat} (R : zRS G A σ r e ch th s h) (hp : zPa σ true pl d h) : wv_C G yX14_isAsked [.ref (A 11 n 0), va_rf d] h 61 0 0 (fun y h' => y = .inl (some (.int (zaskv σ pl n))) ∧ zRS G A σ r e ch th s h' ∧ zPa σ true pl d h' ∧ kp zSq h h') := by
  have h24 := hw.2.2.1
  have hn6 := hw.1
  refine wk_X14_isAsked (v0 := some (A 11 n 0)) (v1 := d) hG ?_
  cases pl with
  | none =>
    have hp : d = none := hp
    subst hp
    exact ⟨fun _ => ⟨rfl, rfl, R, rfl, kp.refl h⟩, fun q => absurd rfl q⟩
  | some q =>
    obtain ⟨k, m, p⟩ := q
    obtain ⟨b, rfl, hb⟩ := hp
    obtain ⟨x1, x2, x3, e1, e2⟩ := id hb
    have C := R.1
    have hpt := List.getElem?_eq_getElem (l := σ.2.1) hn
    refine ⟨fun q => (by cases q), fun _ => zAtP.call (z_is (C.pat hpt) ccX18) zfA_X18 (z18_at hG hw n hn _ x1 x2 x3 C e1 e2) (by omega) (fun y1 y2 y3 hy => ?_)⟩
    have R2 := R.place (by omega) e1 hy
    have P2 : zPa σ true (some (k, m, p)) (some b) (wv_up h b ((59, 0, 0, 0), zPlo σ (zpl σ k m p) y1 y2 y3)) := ⟨b, rfl, hb.up (by omega) e1 hy⟩
    refine ⟨fun q => ?_, fun q => ?_⟩
    · exact ⟨rfl, by show _ = Sum.inl (some (Value.int (zbI (decide (zat σ (zpl σ k m p) n = 109))))); rw [decide_eq_false q]; rfl, R2, P2, kp.put e1 (Or.inr rfl)⟩
    · exact ⟨rfl, by show _ = Sum.inl (some (Value.int (zbI (decide (zat σ (zpl σ k m p) n = 109))))); rw [decide_eq_true q]; rfl, R2, P2, kp.put e1 (Or.inr rfl)⟩
theorem zSq_R : ∀ a t, zSq a t → zSR r th a t := fun _ t e => Or.inl (by rcases e with e | e <;> rw [e] <;> decide)
theorem zS6_R : ∀ a t, zS6 a t → zSR r th a t := fun _ t e => Or.inl (by rw [show t.1 = 60 from e]; decide)
theorem z51_R : ∀ (a : Nat) (t : wv_T), t = (51, r, 0, 0) → zSR r th a t := fun _ t e => Or.inr (Or.inl (by rw [e]; exact ⟨zle, zle, rfl⟩))
theorem z2_chosen (hG : wv_G0 G) (hw : zwf σ) (hr : zring σ = false) {i : zIn} {l : List (Nat × zIn)} (R : zRS G A σ r e ((a, i) :: l) th s h) {pl : Option (Nat × Nat × Nat)} {d : Option Nat} (hp : zPa σ e.1 pl d h) :
    wv_C G yX2_chosen [.ref (A 51 r 0), .ref a, va_rf d] h 62 0 0 (fun y h' => y = .inl (some (.int (zm (fun j => ztakes σ e.1 pl (i :: l.map (fun q => q.2)) ((zoa σ).getD j 0)) σ.2.2.1.length))) ∧ zRS G A σ r e ((a, i) :: l) th (zRq (zasn σ e.1 pl (zoa σ)) s) h' ∧ kp (zSR r th) h h') := by
  have h12 := hw.2.2.2.2.1
  have h24 := hw.2.2.1
  have hn6 := hw.1
  have hlen := zoa_len hw hr
  let tk : Nat → Bool := fun j => ztakes σ e.1 pl (i :: l.map (fun q => q.2)) ((zoa σ).getD j 0)
  refine wk_X2_chosen (v0 := some (A 51 r 0)) (v1 := some a) (v2 := d) hG ?_
  refine z_loopW σ.2.2.1.length (by omega) (fun v => v.2.2.2.2) (fun j => (some (A 51 r 0), some a, d, zm tk j, nI j)) (fun j w => zRS G A σ r e ((a, i) :: l) th (zRq (zasn σ e.1 pl ((zoa σ).take j)) s) w.1 ∧ zPa σ e.1 pl d w.1 ∧ kp (zSR r th) h w.1) (fun _ => rfl) rfl ⟨R, hp, kp.refl h⟩ (fun K j w hj hI hK => ?_)
  obtain ⟨R1, P1, k1⟩ := hI
  obtain ⟨C1, L1, o1, T1, ⟨f, O1, O2⟩, H1, G1⟩ := id R1
  refine z_gA o1 rfl (z_gA C1.comp rfl (C1.advs.vsizeR hG (by omega) (pk_le σ.2.2.1.length j (fun hle => ?_) (fun hlt => ?_))))
  · have e9 : j = σ.2.2.1.length := by omega
    subst e9
    rw [← hlen, List.take_length] at R1
    exact ⟨rfl, R1, k1⟩
  obtain ⟨n, hn⟩ : ∃ n, (zoa σ)[j]? = some n := ⟨_, List.getElem?_eq_getElem (by omega)⟩
  have hnl := zoa_lt n (List.mem_of_getElem? hn)
  have hok := zadv_ok hw hnl
  have hpl := hok.2.2.1
  have etk : tk j = ztakes σ e.1 pl (i :: l.map (fun q => q.2)) n := by
    show ztakes _ _ _ _ ((zoa σ).getD j 0) = _
    rw [List.getD_eq_getElem?_getD, hn]
    rfl
  have hpt := List.getElem?_eq_getElem (l := σ.2.1) hpl
  -- what follows the choice
  have last : ∀ (w' : wv_W) (b : Bool), b = tk j → zRS G A σ r e ((a, i) :: l) th (zRq (zasn σ e.1 pl ((zoa σ).take (j + 1))) s) w'.1 → zPa σ e.1 pl d w'.1 → kp (zSR r th) h w'.1 → vc_X2_chosen_135 G 62 (fun y h' => y = .inl (some (.int (zm tk σ.2.2.1.length))) ∧ zRS G A σ r e ((a, i) :: l) th (zRq (zasn σ e.1 pl (zoa σ)) s) h' ∧ kp (zSR r th) h h') K (some (A 51 r 0)) (some a) d (zm tk j) (nI j) (zbI b) w' := by
    intro w' b hb R2 P2 k2
    have k9 := hK w' hlt ⟨R2, P2, k2⟩
    simp only [zm, nI_succ] at k9
    refine ⟨fun q => ?_, fun q => ?_⟩
    · have q := zbI_e0 q
      rw [if_neg (by rw [← hb, q]; decide)] at k9
      exact k9
    · have q := zbI_n0 q
      rw [if_pos (by rw [← hb, q]), ← zb_sh (by omega)] at k9
      exact k9
  -- the counting, and the choice
  have mid : ∀ (w' : wv_W) (told : Bool), told = (ztold σ e.1 pl n).isSome → zRS G A σ r e ((a, i) :: l) th (zRq (zasn σ e.1 pl ((zoa σ).take j)) s) w'.1 → zPa σ e.1 pl d w'.1 → kp (zSR r th) h w'.1 → vc_X2_chosen_55 G 62 (fun y h' => y = .inl (some (.int (zm tk σ.2.2.1.length))) ∧ zRS G A σ r e ((a, i) :: l) th (zRq (zasn σ e.1 pl (zoa σ)) s) h' ∧ kp (zSR r th) h h') K (some (A 51 r 0)) (some a) d (zm tk j) (nI j) (some (A 14 n 0)) (zbI told) w' := by
    intro w' told htold R2 P2 k2
    obtain ⟨C2, L2, o2, T2, O3, H2, G2⟩ := id R2
    have hadv := C2.adv (zadv_get hnl)
    -- after the counter is written
    have fin : ∀ (c : Bool), c = zasks σ e.1 pl n → vc_X2_chosen_80 G 62 (fun y h' => y = .inl (some (.int (zm tk σ.2.2.1.length))) ∧ zRS G A σ r e ((a, i) :: l) th (zRq (zasn σ e.1 pl (zoa σ)) s) h' ∧ kp (zSR r th) h h') K (some (A 51 r 0)) (some a) d (zm tk j) (nI j) (some (A 14 n 0)) (zbI told) (zbI c) (nI (s.2.1 + zasn σ e.1 pl ((zoa σ).take j))) (some (A 51 r 0)) w' := by
      intro c hc
      refine z_pt o2 (Nat.succ_ne_zero _) (by simp) ?_
      obtain ⟨R3, k3⟩ := R2.ask (if c = true then 1 else 0)
      have ecnt : zasn σ e.1 pl ((zoa σ).take (j + 1)) = zasn σ e.1 pl ((zoa σ).take j) + (if c = true then 1 else 0) := by rw [zasn_succ e.1 pl hn, hc]
      have eobj : nI (s.2.1 + zasn σ e.1 pl ((zoa σ).take j)) + zbI c = nI (s.2.1 + zasn σ e.1 pl ((zoa σ).take j) + (if c = true then 1 else 0)) := by
        cases c
        · rw [if_neg (by decide), Nat.add_zero]
          exact Int32.add_zero _
        · rw [if_pos rfl, nI_succ]
          rfl
      have R4 : zRS G A σ r e ((a, i) :: l) th (zRq (zasn σ e.1 pl ((zoa σ).take (j + 1))) s) (wv_up w'.1 (A 51 r 0) ((51, r, 0, 0), wo_o ciX2 ([va_rf (some (A 52 r 0)), va_rf (some (A 56 r 0)), .int e.2.1, .int e.2.2, .int (nI (zRq (zasn σ e.1 pl ((zoa σ).take j)) s).1), .int (nI (zRq (zasn σ e.1 pl ((zoa σ).take j)) s).2.1), .int (zbI e.1), va_rf (((a, i) :: l).head?.map (fun q => q.1)), va_rf (some (A 2 0 0))].set 5 (.int (nI (s.2.1 + zasn σ e.1 pl ((zoa σ).take j)) + zbI c))))) := by
        rw [eobj, ecnt]
        have := R3
        unfold zRq at this ⊢
        rw [← Nat.add_assoc]
        exact this
      have k4 : kp (zSR r th) h (wv_up w'.1 (A 51 r 0) ((51, r, 0, 0), wo_o ciX2 ([va_rf (some (A 52 r 0)), va_rf (some (A 56 r 0)), .int e.2.1, .int e.2.2, .int (nI (zRq (zasn σ e.1 pl ((zoa σ).take j)) s).1), .int (nI (zRq (zasn σ e.1 pl ((zoa σ).take j)) s).2.1), .int (zbI e.1), va_rf (((a, i) :: l).head?.map (fun q => q.1)), va_rf (some (A 2 0 0))].set 5 (.int (nI (s.2.1 + zasn σ e.1 pl ((zoa σ).take j)) + zbI c))))) := k2.trans (kp.put o2 (z51_R _ _ rfl))
      have P4 := P2.keep (S := fun _ t => t = (51, r, 0, 0)) (kp.put (z := ((51, r, 0, 0), wo_o ciX2 ([va_rf (some (A 52 r 0)), va_rf (some (A 56 r 0)), .int e.2.1, .int e.2.2, .int (nI (zRq (zasn σ e.1 pl ((zoa σ).take j)) s).1), .int (nI (zRq (zasn σ e.1 pl ((zoa σ).take j)) s).2.1), .int (zbI e.1), va_rf (((a, i) :: l).head?.map (fun q => q.1)), va_rf (some (A 2 0 0))].set 5 (.int (nI (s.2.1 + zasn σ e.1 pl ((zoa σ).take j)) + zbI c))))) o2 rfl) (fun _ t e => by rw [e]; show (51 : Nat) ≠ 59; decide)
      generalize wv_up w'.1 (A 51 r 0) ((51, r, 0, 0), wo_o ciX2 ([va_rf (some (A 52 r 0)), va_rf (some (A 56 r 0)), .int e.2.1, .int e.2.2, .int (nI (zRq (zasn σ e.1 pl ((zoa σ).take j)) s).1), .int (nI (zRq (zasn σ e.1 pl ((zoa σ).take j)) s).2.1), .int (zbI e.1), va_rf (((a, i) :: l).head?.map (fun q => q.1)), va_rf (some (A 2 0 0))].set 5 (.int (nI (s.2.1 + zasn σ e.1 pl ((zoa σ).take j)) + zbI c)))) = h4 at R4 k4 P4 ⊢
      obtain ⟨C4, -, -, -, -, H4, -⟩ := id R4
      have hadv4 := C4.adv (zadv_get hnl)
      refine z_gI hadv4 rfl ⟨fun q => ?_, fun q => ⟨fun q2 => ?_, fun q2 => ?_⟩⟩
      · refine last (h4, w'.2) false ?_ R4 P4 k4
        rw [etk]
        unfold ztakes
        rw [zbI_e0 q]
        rfl
      · have q2 := zbI_e0 q2
        have hnone : ztold σ e.1 pl n = none := by
          rw [q2] at htold
          cases ht : ztold σ e.1 pl n with
          | none => rfl
          | some x => rw [ht] at htold; cases htold
        have etk2 : tk j = zhold σ (zadv σ n).2.2.1 (i :: l.map (fun q => q.2)) := by
          rw [etk]
          unfold ztakes
          rw [zbI_n0 q, hnone]
          rfl
        refine z_gA hadv4 rfl (zHoP.call (z_is (C4.pat hpt) ccX18) zfH_X18 (z18_holds hG hw _ hpl h4 a i l C4 H4) (by omega) (fun h5 H5 he5 => ?_))
        obtain ⟨R5, k5⟩ := R4.held H5 he5
        have P5 := P4.keep k5 (fun _ t e => by rw [show t.1 = 60 from e]; decide)
        refine ⟨fun q3 => ?_, fun q3 => ?_⟩
        · exact last (h5, w'.2) false (by rw [etk2, zbI_e0 q3]) R5 P5 (k4.trans (k5.mono zS6_R))
        · exact last (h5, w'.2) true (by rw [etk2, zbI_n0 q3]) R5 P5 (k4.trans (k5.mono zS6_R))
      · have q2 := zbI_n0 q2
        obtain ⟨k, m, p, hwv, hpp⟩ : ∃ k m p, e.1 = true ∧ pl = some (k, m, p) := by
          cases Classical.em (∃ k m p, e.1 = true ∧ pl = some (k, m, p)) with
          | inl h => exact h
          | inr h =>
            rw [q2, ztold_none h] at htold
            cases htold
        subst hpp
        have P4 : zPa σ true (some (k, m, p)) d h4 := hwv ▸ P4
        obtain ⟨b, hdb, hb⟩ := id P4
        subst hdb
        obtain ⟨x1, x2, x3, f1, f2⟩ := id hb
        have hnot : ¬ zat σ (zpl σ k m p) (zadv σ n).2.2.1 = 109 := by
          intro h9
          rw [q2, hwv] at htold
          have : ztold σ true (some (k, m, p)) n = none := if_pos h9
          rw [this] at htold
          cases htold
        have etk2 : tk j = decide (zat σ (zpl σ k m p) (zadv σ n).2.2.1 = 121) := by
          rw [etk, hwv]
          unfold ztakes
          rw [zbI_n0 q, show ztold σ true (some (k, m, p)) n = some (decide (zat σ (zpl σ k m p) (zadv σ n).2.2.1 = 121)) from if_neg hnot]
          rfl
        refine z_gA hadv4 rfl (zAtP.call (z_is (C4.pat hpt) ccX18) zfA_X18 (z18_at hG hw _ hpl h4 x1 x2 x3 C4 f1 f2) (by omega) (fun y1 y2 y3 hy => ?_))
        have R5 := R4.place (by omega) f1 hy
        have P5 : zPa σ e.1 (some (k, m, p)) (some b) (wv_up h4 b ((59, 0, 0, 0), zPlo σ (zpl σ k m p) y1 y2 y3)) := by
          rw [hwv]
          exact P4.place (by omega) f1 hy
        have k5 : kp (zSR r th) h (wv_up h4 b ((59, 0, 0, 0), zPlo σ (zpl σ k m p) y1 y2 y3)) := k4.trans (kp.put f1 (Or.inl ⟨zle, zle⟩))
        refine ⟨fun q3 => ?_, fun q3 => ?_⟩
        · exact last (_, w'.2) false (by rw [etk2, decide_eq_false q3]) R5 P5 k5
        · exact last (_, w'.2) true (by rw [etk2, decide_eq_true q3]) R5 P5 k5
    refine z_gI o2 rfl (z_gI hadv rfl ⟨fun q => ?_, fun q => ⟨fun q2 => ?_, fun q2 => ?_⟩⟩)
    · exact fin false (by unfold zasks; rw [zbI_e0 q]; rfl)
    · refine fin false ?_
      have q2 := zbI_n0 q2
      unfold zasks
      rw [zbI_n0 q]
      cases ht : ztold σ e.1 pl n with
      | none => rw [q2, ht] at htold; cases htold
      | some x => rfl
    · refine fin true ?_
      have q2 := zbI_e0 q2
      unfold zasks
      rw [zbI_n0 q]
      cases ht : ztold σ e.1 pl n with
      | none => rfl
      | some x => rw [q2, ht] at htold; cases htold
  refine z_gA o1 rfl (z_lq O1 (by omega) (by decide) ?_)
  rw [O2 j n hn]
  refine z_gI o1 rfl ⟨fun q => ?_, fun q => ?_⟩
  · refine mid w false ?_ R1 P1 k1
    have q := zbI_e0 q
    rw [ztold_none (fun ⟨k, m, p, h1, h2⟩ => by rw [q] at h1; cases h1)]
    rfl
  · have q := zbI_n0 q
    have hadv1 := C1.adv (zadv_get hnl)
    refine z_gA hadv1 rfl ⟨A 11 (zadv σ n).2.2.1 0, _, _, rfl, z_is (C1.pat hpt) ccX18, wv_faceAsk, z_c (z14_isAsked hG hw hpl (wov := true) R1 (q ▸ P1)) (by omega) (Nat.zero_le _) (Nat.zero_le _) ?_⟩
    rintro y h5 ⟨hy, R5, P5, k5⟩
    have P5 : zPa σ e.1 pl d h5 := by rw [q]; exact P5
    have k6 : kp (zSR r th) h h5 := k1.trans (k5.mono zSq_R)
    cases pl with
    | none =>
      subst hy
      refine Or.inl ⟨_, rfl, fun _ => ?_, fun q2 => absurd q2 (show ¬ (1 : Int32) = 0 by decide)⟩
      exact mid (h5, w.2) false (by rw [ztold_none (fun ⟨k, m, p, h1, h2⟩ => by cases h2)]; rfl) R5 P5 k6
    | some x =>
      obtain ⟨k, m, p⟩ := x
      subst hy
      refine Or.inl ⟨_, rfl, fun q2 => ?_, fun q2 => ?_⟩
      · refine mid (h5, w.2) false ?_ R5 P5 k6
        have q2 := of_decide_eq_true (zbI_n0 q2)
        rw [q, show ztold σ true (some (k, m, p)) n = none from if_pos q2]
        rfl
      · refine mid (h5, w.2) true ?_ R5 P5 k6
        have q2 := of_decide_eq_false (zbI_e0 q2)
        rw [q, show ztold σ true (some (k, m, p)) n = some _ from if_neg q2]
        rfl
end ZV
