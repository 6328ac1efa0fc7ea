/-! THE COMPONENT: advice in its order, advice chosen -/
section ZU
variable {G : wv_G} {A A' : zA} {σ σ' : zS} {h h1 h2 h' : wv_H} {w : wv_W} {fr fr' kc ks : Nat} {P : wv_R → wv_H → Prop} {KX : String → Nat → wv_W → Prop} {a b : Nat} {t ta tb : wv_T} {r : Nat} {tr : List zAc}
-- ===== the order of advice =====
theorem zT_nodup (i : Nat) : (zT σ i).Nodup := by
  induction i with
  | zero => exact List.nodup_nil
  | succ i ih =>
    rw [zT_succ]
    cases hz : znext σ (zT σ i) with
    | none => exact ih
    | some j =>
      have hf := List.find?_some hz
      unfold zfree at hf
      rw [Bool.and_eq_true, Bool.not_eq_true', ← Bool.not_eq_true, List.contains_iff_mem] at hf
      show ((zT σ i) ++ [j]).Nodup
      rw [List.nodup_append]
      refine ⟨ih, by simp, fun x hx y hy => ?_⟩
      rw [List.mem_singleton] at hy
      subst hy
      intro e
      rw [e] at hx
      exact hf.1 hx
theorem zperm : ∀ a, a < 4 → ∀ b, b < 4 → ∀ c, c < 4 → ∀ d, d < 4 → (a ≠ b ∧ a ≠ c ∧ a ≠ d ∧ b ≠ c ∧ b ≠ d ∧ c ≠ d) → ∀ x, x < 4 → [a, b, c, d].count x = 1 := by
  intro a ha b hb c hc d hd hne x hx
  simp only [List.count_cons, List.count_nil, beq_iff_eq]
  split <;> split <;> split <;> split <;> omega
theorem zord_count (hr : zring σ = false) {x : Nat} (hx : x < 4) : (zord σ).count x = 1 := by
  have h4 : (zT σ 4).length = 4 := by
    cases Decidable.em ((zT σ 4).length = 4) with
    | inl e => exact e
    | inr e => rw [zring_T.mpr e] at hr; cases hr
  have hn := zT_nodup (σ := σ) 4
  have hl := zT_lt (σ := σ) 4
  show (zT σ 4).count x = 1
  match he : zT σ 4, h4, hn, hl with
  | [a, b, c, d], _, hn, hl =>
    simp at hn
    refine zperm a (hl a (by simp)) b (hl b (by simp)) c (hl c (by simp)) d (hl d (by simp)) ?_ x hx
    omega
theorem zofA_app (j : Nat) : ∀ (l1 l2 : List zAd) (i : Nat), zofA j i (l1 ++ l2) = zofA j i l1 ++ zofA j (i + l1.length) l2
  | [], l2, i => rfl
  | a :: l1, l2, i => by
    have e : i + (a :: l1).length = (i + 1) + l1.length := by simp; omega
    rw [e]
    show (if a.1 = j then i :: zofA j (i + 1) (l1 ++ l2) else zofA j (i + 1) (l1 ++ l2)) = (if a.1 = j then i :: zofA j (i + 1) l1 else zofA j (i + 1) l1) ++ _
    rw [zofA_app j l1 l2 (i + 1)]
    split <;> rfl
theorem zofA_mem (j : Nat) : ∀ (l : List zAd) (i n : Nat), n ∈ zofA j i l → i ≤ n ∧ n < i + l.length
  | [], i, n, hn => by cases hn
  | a :: l, i, n, hn => by
    unfold zofA at hn
    rw [List.length_cons]
    split at hn
    · rcases List.mem_cons.mp hn with rfl | hn
      · omega
      · have := zofA_mem j l (i + 1) n hn
        omega
    · have := zofA_mem j l (i + 1) n hn
      omega
theorem zofA_0 (L : List Nat) (i : Nat) : (L.flatMap (fun j => zofA j i [])).length = 0 := by
  induction L with
  | nil => rfl
  | cons j L ih => rw [List.flatMap_cons, List.length_append, ih]; rfl
theorem zofA_sum (L : List Nat) : ∀ (l : List zAd) (i : Nat), (∀ a ∈ l, L.count a.1 = 1) → (L.flatMap (fun j => zofA j i l)).length = l.length
  | [], i, _ => zofA_0 L i
  | a :: l, i, hl => by
    have ih := zofA_sum L l (i + 1) (fun x hx => hl x (List.mem_cons_of_mem _ hx))
    have h1 := hl a List.mem_cons_self
    have key : ∀ L : List Nat, (L.flatMap (fun j => zofA j i (a :: l))).length = (L.flatMap (fun j => zofA j (i + 1) l)).length + L.count a.1 := by
      intro L
      induction L with
      | nil => rfl
      | cons j L ih2 =>
        rw [List.flatMap_cons, List.length_append, ih2, List.flatMap_cons, List.length_append, List.count_cons]
        show (if a.1 = j then i :: zofA j (i + 1) l else zofA j (i + 1) l).length + _ = _
        by_cases e : a.1 = j
        · rw [if_pos e, if_pos (by simp [e]), List.length_cons]
          omega
        · rw [if_neg e, if_neg (by simp; exact fun q => e q.symm)]
          omega
    rw [key, ih, h1]
    rfl
theorem zoa_len (hw : zwf σ) (hr : zring σ = false) : (zoa σ).length = σ.2.2.1.length := zofA_sum (zord σ) σ.2.2.1 0 (fun a ha => zord_count hr (hw.2.2.2.2.2.1 a ha).1)
theorem zoa_lt : ∀ n ∈ zoa σ, n < σ.2.2.1.length := by
  intro n hn
  unfold zoa at hn
  rw [List.mem_flatMap] at hn
  obtain ⟨j, -, hj⟩ := hn
  have := zofA_mem j _ 0 n hj
  omega
/-- the run's advices in their order -/
def zOr (G : wv_G) (A : zA) (σ : zS) (r : Nat) (l : List Nat) (h : wv_H) : Prop := ∃ f, h (A 56 r 0) = some ((56, r, 0, 0), wo_q (wv_A G 6) 12 f) ∧ ∀ i n, l[i]? = some n → f i = some (A 14 n 0)
theorem zOr.keep {S : Nat → wv_T → Prop} {l : List Nat} (T : zOr G A σ r l h) (k : kp S h h1) (hS : ∀ a t, S a t → ¬ (t.1 = 56 ∧ t.2.1 = r)) : zOr G A σ r l h1 := by
  obtain ⟨f, e1, e2⟩ := T
  exact ⟨f, k _ _ e1 (fun q => hS _ _ q ⟨rfl, rfl⟩), e2⟩
theorem zRo.keep {S : Nat → wv_T → Prop} {how res : Int32} {pts asked : Nat} {wov : Bool} {pres : Option Nat} (T : zRo A r how res pts asked wov pres h) (k : kp S h h1) (hS : ∀ a t, S a t → ¬ (t.1 = 51 ∧ t.2.1 = r)) : zRo A r how res pts asked wov pres h1 := k _ _ T (fun q => hS _ _ q ⟨rfl, rfl⟩)
theorem zadv_get {n : Nat} (hn : n < σ.2.2.1.length) : σ.2.2.1[n]? = some (zadv σ n) := by
  have := List.getElem?_eq_getElem hn
  rw [zadv_eq this]
  exact this
theorem zasp_of (hr : zring σ = false) {i : Nat} (hi : i < 4) : ∃ j, (zord σ)[i]? = some j ∧ zasp σ i = nI j ∧ j < 4 := by
  have h4 : (zT σ 4).length = 4 := by
    cases Decidable.em ((zT σ 4).length = 4) with
    | inl e => exact e
    | inr e => rw [zring_T.mpr e] at hr; cases hr
  -- every step went on
  have hnext : ∀ i, i < 4 → ∃ j, znext σ (zT σ i) = some j := by
    intro i hi
    cases hz : znext σ (zT σ i) with
    | some j => exact ⟨j, rfl⟩
    | none =>
      have := zT_stuck hz (4 - i)
      rw [show i + (4 - i) = 4 by omega] at this
      rw [this] at h4
      have := zT_len (σ := σ) i
      omega
  have hlen : ∀ i, i ≤ 4 → (zT σ i).length = i := by
    intro i
    induction i with
    | zero => intro _; rfl
    | succ i ih =>
      intro hi
      obtain ⟨j, hj⟩ := hnext i (by omega)
      rw [zT_succ, hj]
      show ((zT σ i) ++ [j]).length = _
      rw [List.length_append, ih (by omega)]
      rfl
  have hpre : ∀ d i, i + d ≤ 4 → ∃ s, zT σ (i + d) = zT σ i ++ s := by
    intro d
    induction d with
    | zero => intro i _; exact ⟨[], (List.append_nil _).symm⟩
    | succ d ih =>
      intro i hd
      obtain ⟨s, hs⟩ := ih i (by omega)
      obtain ⟨j, hj⟩ := hnext (i + d) (by omega)
      refine ⟨s ++ [j], ?_⟩
      rw [← Nat.add_assoc, zT_succ, hj]
      show zT σ (i + d) ++ [j] = _
      rw [hs, List.append_assoc]
  obtain ⟨j, hj⟩ := hnext i hi
  have h1 : zT σ (i + 1) = zT σ i ++ [j] := by rw [zT_succ, hj]
  obtain ⟨s, hs⟩ := hpre (4 - (i + 1)) (i + 1) (by omega)
  rw [show i + 1 + (4 - (i + 1)) = 4 by omega] at hs
  refine ⟨j, ?_, ?_, znext_lt hj⟩
  · show (zT σ 4)[i]? = some j
    rw [hs, h1, List.append_assoc, List.getElem?_append_right (by rw [hlen i (by omega)]; exact Nat.le_refl _), hlen i (by omega), Nat.sub_self]
    rfl
  · unfold zasp
    rw [if_pos (hlen (i + 1) (by omega)), h1, List.getLastD_eq_getLast?, List.getLast?_append]
    rfl
theorem z2_order (hG : wv_G0 G) (hw : zwf σ) (hr : zring σ = false) (C : zCf G A σ h) {how res : Int32} {pts asked : Nat} {wov : Bool} {pres : Option Nat} (R : zRo A r how res pts asked wov pres h) (O : zOr G A σ r [] h) : wv_C G yX2_order [.ref (A 51 r 0)] h 3 4 16 (fun y h' => y = .inl none ∧ zOr G A σ r (zoa σ) h' ∧ kp (fun _ t => t = (56, r, 0, 0)) h h') := by
  have h12 := hw.2.2.2.2.1
  have hlenT := zoa_len hw hr
  let M : Nat → List Nat := fun i => ((zord σ).take i).flatMap (fun j => zofA j 0 σ.2.2.1)
  have hM : ∀ i j, (zord σ)[i]? = some j → M (i + 1) = M i ++ zofA j 0 σ.2.2.1 := by
    intro i j hj
    have hi := (List.getElem?_eq_some_iff.mp hj).1
    have e := (List.getElem?_eq_some_iff.mp hj).2
    show ((zord σ).take (i + 1)).flatMap _ = _
    rw [List.take_succ_eq_append_getElem hi, List.flatMap_append, e]
    simp [M]
  have hMall : ∀ i, ∃ s, zoa σ = M i ++ s := by
    intro i
    refine ⟨((zord σ).drop i).flatMap (fun j => zofA j 0 σ.2.2.1), ?_⟩
    show (zord σ).flatMap _ = _
    rw [← List.flatMap_append, List.take_append_drop]
  refine wk_X2_order (v0 := some (A 51 r 0)) hG ?_
  refine z_loopW 4 (by decide) (fun v => v.2.2) (fun i => (some (A 51 r 0), nI (M i).length, nI i)) (fun i w => kp (fun _ t => t = (56, r, 0, 0)) h w.1 ∧ zOr G A σ r (M i) w.1 ∧ 4 - i ≤ w.2.1 ∧ 4 * (4 - i) ≤ w.2.2) (fun _ => rfl) rfl ⟨kp.refl h, O, Nat.le_refl _, Nat.le_refl _⟩ (fun K i w hi hI hK => ?_)
  obtain ⟨k1, O1, b1, b2⟩ := hI
  have hS : ∀ (q : Nat), q ≠ 56 → ∀ (a : Nat) (t : wv_T), t = (56, r, 0, 0) → t.1 ≠ q := fun q hq a t e => by rw [e]; exact fun x => hq x.symm
  have C1 := C.keep k1 (fun _ t e => by rw [e]; show 50 ≤ 56; decide)
  have R1 := R.keep k1 (fun _ t e q => by rw [e] at q; exact absurd q.1 (by show ¬ (56 : Nat) = 51; decide))
  refine pk_le 4 i (fun hle => ?_) (fun hlt => ?_)
  · have e9 : i = 4 := by omega
    subst e9
    have e : M 4 = zoa σ := by
      have h4 : (zord σ).length ≤ 4 := zT_len (σ := σ) 4
      show ((zord σ).take 4).flatMap _ = _
      rw [List.take_of_length_le h4]
      rfl
    rw [e] at O1
    exact ⟨rfl, O1, k1⟩
  obtain ⟨j, hj1, hj2, hj3⟩ := zasp_of hr hlt
  refine z_gA R1 rfl ⟨A 2 0 0, rfl, z_isC C1, z_c (z1_aspectOf hG hlt C1) (by omega) (by omega) (by omega) ?_⟩
  rintro y h2 ⟨rfl, k2⟩
  refine Or.inl ⟨_, rfl, ?_⟩
  rw [hj2]
  have O2 := O1.keep k2 (fun _ _ q => q.elim)
  refine z_loopW σ.2.2.1.length (by omega) (fun v => v.2.2.2.2) (fun n => (some (A 51 r 0), nI (M i ++ zofA j 0 (σ.2.2.1.take n)).length, nI i, nI j, nI n)) (fun n w' => kp (fun _ t => t = (56, r, 0, 0)) h w'.1 ∧ zOr G A σ r (M i ++ zofA j 0 (σ.2.2.1.take n)) w'.1 ∧ w'.2 = (w.2.1 - 1, w.2.2 - 4)) (fun _ => rfl) ?_ ⟨k1.trans (kn.to k2), ?_, rfl⟩ (fun K2 n w' hn hI hK2 => ?_)
  · rw [List.take_zero]
    show _ = (some (A 51 r 0), nI (M i ++ []).length, nI i, nI j, nI 0)
    rw [List.append_nil]
    rfl
  · rw [List.take_zero]
    show zOr G A σ r (M i ++ []) h2
    rw [List.append_nil]
    exact O2
  obtain ⟨k3, O3, b3⟩ := hI
  have C3 := C.keep k3 (fun _ t e => by rw [e]; show 50 ≤ 56; decide)
  have R3 := R.keep k3 (fun _ t e q => by rw [e] at q; exact absurd q.1 (by show ¬ (56 : Nat) = 51; decide))
  refine z_gA R3 rfl (z_gA C3.comp rfl (C3.advs.vsizeR hG (by omega) (pk_le σ.2.2.1.length n (fun hle => ?_) (fun hlt2 => ?_))))
  · have e9 : n = σ.2.2.1.length := by omega
    subst e9
    rw [List.take_length, ← hM i j hj1] at O3
    show K (some (A 51 r 0), nI (M i ++ zofA j 0 (σ.2.2.1.take σ.2.2.1.length)).length, nI i + 1) w'
    rw [List.take_length, ← hM i j hj1, ← nI_succ]
    refine hK w' hlt ⟨k3, O3, ?_, ?_⟩
    · rw [b3]
      show 4 - (i + 1) ≤ w.2.1 - 1
      omega
    · rw [b3]
      show 4 * (4 - (i + 1)) ≤ w.2.2 - 4
      omega
  · have hadv := C3.adv (zadv_get hlt2)
    have etake : zofA j 0 (σ.2.2.1.take (n + 1)) = zofA j 0 (σ.2.2.1.take n) ++ (if (zadv σ n).1 = j then [n] else []) := by
      have e1 : σ.2.2.1[n] = zadv σ n := by
        have := zadv_get hlt2
        rw [List.getElem?_eq_getElem hlt2] at this
        exact Option.some.inj this
      rw [List.take_succ_eq_append_getElem hlt2, zofA_app, List.length_take, Nat.min_eq_left (by omega), Nat.zero_add, e1]
      show _ ++ (if (zadv σ n).1 = j then n :: [] else []) = _
      rfl
    have h14 := (zadv_ok hw hlt2).1
    refine z_gA R3 rfl (z_gA C3.comp rfl (C3.advs.vgetR hG hlt2 (by omega) (z_cc (z_is hadv ccX19) (z_gI hadv rfl ⟨fun q => ?_, fun q => ?_⟩))))
    · have hne : ¬ (zadv σ n).1 = j := fun e => q (by rw [e])
      rw [if_neg hne, List.append_nil] at etake
      have k9 := hK2 w' hlt2
      simp only [etake, nI_succ] at k9
      exact k9 ⟨k3, O3, b3⟩
    · have heq : (zadv σ n).1 = j := (nI_eq (by omega) (by omega)).mp q
      rw [if_pos heq] at etake
      have hlen : (M i ++ zofA j 0 (σ.2.2.1.take n)).length < 12 := by
        obtain ⟨s, hs⟩ := hMall (i + 1)
        rw [hM i j hj1] at hs
        have e2 : zofA j 0 σ.2.2.1 = zofA j 0 (σ.2.2.1.take (n + 1)) ++ zofA j (0 + (σ.2.2.1.take (n + 1)).length) (σ.2.2.1.drop (n + 1)) := by
          rw [← zofA_app, List.take_append_drop]
        rw [e2, etake] at hs
        have := congrArg List.length hs
        simp only [List.length_append, List.length_singleton] at this ⊢
        omega
      obtain ⟨f, o1, o2⟩ := O3
      refine z_gA R3 rfl (z_gA R3 rfl (z_gA C3.comp rfl (C3.advs.vgetR hG hlt2 (by omega) (z_cc (z_is hadv ccX19) ?_))))
      refine ⟨A 56 r 0, _, 12, f, rfl, o1, Nat.succ_ne_zero _, vp_in_nI hlen (by decide), fun b hb => by cases hb; exact ⟨_, z_is hadv ccX19, Or.inl ⟨rfl, by decide⟩⟩, ?_⟩
      rw [nI_clamp (by omega)]
      have k9 := hK2 (wv_up w'.1 (A 56 r 0) ((56, r, 0, 0), wo_q (wv_A G 6) 12 (va_up f (M i ++ zofA j 0 (σ.2.2.1.take n)).length (some (A 14 n 0)))), w'.2) hlt2
      simp only [etake, nI_succ] at k9
      rw [← List.append_assoc, List.length_append (as := M i ++ zofA j 0 (σ.2.2.1.take n)) (bs := [n])] at k9
      have k9 := k9 ⟨k3.trans (kp.put o1 rfl), ⟨_, wv_up_self, fun q m hq => ?_⟩, b3⟩
      · show K2 (some (A 51 r 0), nI (M i ++ zofA j 0 (σ.2.2.1.take n)).length + 1, nI i, nI j, nI n + 1) _
        rw [← nI_succ (M i ++ zofA j 0 (σ.2.2.1.take n)).length]
        exact k9
      · rcases z_app hq with hq | ⟨rfl, rfl⟩
        · have := (List.getElem?_eq_some_iff.mp hq).1
          show va_up f _ _ q = _
          unfold va_up
          rw [if_neg (by omega)]
          exact o2 q m hq
        · unfold va_up
          rw [if_pos rfl]
end ZU
