/-! THE COMPONENT: a point opened and closed -/
section ZX2
variable {G : wv_G} {A A' : zA} {σ σ' : zS} {h h0 h1 h2 h' : wv_H} {w : wv_W} {fr fr' kc ks : Nat} {P : wv_R → wv_H → Prop} {KX : String → Nat → wv_W → Prop} {a b : Nat} {t ta tb : wv_T} {r : Nat} {tr : List zAc} {e : Bool × Int32 × Int32} {ch : List (Nat × zIn)} {th : Nat × Nat × Nat} {s s1 s2 : zR}
variable {act : Int32 → zM} {lam F : Nat} {c : Int32} {i n : Nat} {l : List Nat}
-- ===== a run only goes on =====
theorem zRk_mon (wov : Bool) (k m p : Nat) (s : zR) : zl9 σ s (zRk wov k m p s) := by
  refine ⟨Nat.le_refl _, Nat.le_refl _, Nat.le_refl _, ?_⟩
  show zrem σ (if wov = true then zkeep s.2.2.2.2.2 k m (p + 1) else s.2.2.2.2.2) ≤ zrem σ s.2.2.2.2.2
  split
  · exact zrem_le (fun a b => zkeep_ge k m _ a b)
  · exact Nat.le_refl _
variable {pt : zPF}
theorem zhandled_mon (hp : ∀ q v s, zl9 σ s (pt q v s).2) (wov : Bool) (ty k m i : Nat) (x : Int32) (s : zR) : zl9 σ s (zhandled σ wov pt ty k m i x s).2 := by
  unfold zhandled
  show zl9 σ s (match zhandler (zbody σ k m) x i with | none => (zraise x, s) | some j => pt _ 0 _ : zX × zR).2
  cases zhandler (zbody σ k m) x i with
  | none => exact zl9.refl s
  | some j => exact (zRk_mon _ _ _ _ _).trans (hp _ _ _)
theorem zdone_mon (hp : ∀ q v s, zl9 σ s (pt q v s).2) (wov : Bool) (ty k m p : Nat) (st : zSt) (v : Int32) (s0 : zR) : zl9 σ s0 (zdone wov pt ty k m p st v s0).2 := by
  have h1 : zl9 σ s0 (if 0 < zplaces st then zRk wov k m p s0 else s0) := by
    split
    · exact zRk_mon _ _ _ _ _
    · exact zl9.refl _
  unfold zdone
  generalize (if 0 < zplaces st then zRk wov k m p s0 else s0) = s at h1 ⊢
  show zl9 σ s0 (if _ then _ else if _ then _ else if _ then _ else if _ then _ else if _ then _ else _ : zX × zR).2
  split
  · exact h1
  · split
    · exact h1.trans (hp _ _ _)
    · split
      · have h2 := hp (109, st.2.1, zAt st.2.1, some (k, m, p)) v (zRF (fun _ => 0) (zRm s))
        have h3 : zl9 σ s (zRF (fun _ => 0) (zRm s)) := ⟨Nat.le_refl _, Nat.le_refl _, Nat.le_succ _, Nat.le_refl _⟩
        cases hq : pt (109, st.2.1, zAt st.2.1, some (k, m, p)) v (zRF (fun _ => 0) (zRm s)) with
        | mk x s1 =>
          rw [hq] at h2
          cases x with
          | inl v1 =>
            have h4 := hp (99, st.2.2, zAt st.2.1, some (k, m, p + 1)) v1 (zRk wov k m (p + 1) s1)
            show zl9 σ s0 (match pt (99, st.2.2, zAt st.2.1, some (k, m, p + 1)) v1 (zRk wov k m (p + 1) s1) with | (x, s2) => (x, zRF s.2.2.2.1 s2)).2
            cases hq2 : pt (99, st.2.2, zAt st.2.1, some (k, m, p + 1)) v1 (zRk wov k m (p + 1) s1) with
            | mk y s2 =>
              rw [hq2] at h4
              exact (((h1.trans h3).trans h2).trans (zRk_mon _ _ _ _ _)).trans h4
          | inr o => exact (h1.trans h3).trans h2
      · split
        · exact h1.trans (hp _ _ _)
        · split
          · split
            · exact h1.trans (zl9_re _)
            · exact h1
          · exact h1
theorem zsteps_mon (hp : ∀ q v s, zl9 σ s (pt q v s).2) (wov : Bool) (ty k m : Nat) : ∀ (l : List zSt) (i : Nat) (v : Int32) (s : zR), zl9 σ s (zstepsF σ wov pt ty k m i l v s).2
  | [], i, v, s => zl9.refl s
  | st :: l, i, v, s => by
    rw [zstepsF]
    have h1 := zdone_mon hp wov ty k m (zplace (zbody σ k m) i) st v s
    show zl9 σ s (match zdone wov pt ty k m (zplace (zbody σ k m) i) st v s with
     | (.inl v', s') => zstepsF σ wov pt ty k m (i + 1) l v' s'
     | (.inr (some n), s') => (match zhandled σ wov pt ty k m i n s' with
       | (.inl v', s'') => zstepsF σ wov pt ty k m (i + 1) l v' s''
       | e => e)
     | (.inr none, s') => (zup, s')).2
    cases hq : zdone wov pt ty k m (zplace (zbody σ k m) i) st v s with
    | mk x s' =>
      rw [hq] at h1
      cases x with
      | inl v' => exact h1.trans (zsteps_mon hp wov ty k m l (i + 1) v' s')
      | inr o =>
        cases o with
        | none => exact h1
        | some n =>
          have h2 := zhandled_mon hp wov ty k m i n s'
          show zl9 σ s (match zhandled σ wov pt ty k m i n s' with | (.inl v', s'') => zstepsF σ wov pt ty k m (i + 1) l v' s'' | e => e).2
          cases hq2 : zhandled σ wov pt ty k m i n s' with
          | mk y s'' =>
            rw [hq2] at h2
            cases y with
            | inl v' => exact (h1.trans h2).trans (zsteps_mon hp wov ty k m l (i + 1) v' s'')
            | inr o => exact h1.trans h2
theorem zact_mon (hp : ∀ q v s, zl9 σ s (pt q v s).2) (wov : Bool) (q : zPi) (v : Int32) (s : zR) : zl9 σ s (zact σ wov pt q v s).2 := by
  unfold zact
  show zl9 σ s (if _ then _ else if _ then _ else if _ then _ else if _ then _ else _ : zX × zR).2
  split
  · cases zfind σ (zAt q.2.1) q.2.2.1 with
    | none => exact zl9_re _
    | some k => exact (zRk_mon _ _ _ _ _).trans (hp _ _ _)
  · split
    · cases q.2.2.2 with
      | none => exact zl9.refl _
      | some x => exact zsteps_mon hp wov _ _ _ _ _ _ _
    · split
      · exact zl9.refl _
      · split
        · exact zl9.refl _
        · exact zl9.refl _
theorem zpoint_mon (wov : Bool) : ∀ (d : Nat) (l : List zIn) (q : zPi) (v : Int32) (s : zR), zl9 σ s (zpoint σ wov d l q v s).2
  | 0, l, q, v, s => zl9_re _
  | d + 1, l, q, v, s => by
    rw [zpoint]
    show zl9 σ s (if s.1 = 120 then (zup, zRe s) else _ : zX × zR).2
    split
    · exact zl9_re _
    · have h1 : ∀ n, zl9 σ s (zRq n (zRp s)) := fun n => ⟨Nat.le_succ _, Nat.le_refl _, Nat.le_refl _, Nat.le_refl _⟩
      exact (h1 _).trans (zgo_mon (fun v s => zact_mon (fun q v s => zpoint_mon wov d _ q v s) wov q v s) _ _ _)
-- ===== opened and closed =====
theorem zRo.put {how res : Int32} {pts asked pts' : Nat} {wov : Bool} {pres pres' : Option Nat} (T : zRo A r how res pts asked wov pres h) : True := trivial
theorem z51S : ∀ (q : Nat), q ≠ 51 → ∀ (a : Nat) (t : wv_T), t = (51, r, 0, 0) → t.1 ≠ q := fun q hq a t e => by rw [e]; exact fun x => hq x.symm
/-- a run's object written: points, present -/
theorem zRS.obj (R : zRS G A σ r e ch th s h) {pts : Nat} (hp : pts ≤ 120) {ch' : List (Nat × zIn)} (hc : zCh A σ h ch') : zRS G A σ r e ch' th (pts, s.2) (wv_up h (A 51 r 0) ((51, r, 0, 0), wo_o ciX2 [va_rf (some (A 52 r 0)), va_rf (some (A 56 r 0)), .int e.2.1, .int e.2.2, .int (nI pts), .int (nI s.2.1), .int (zbI e.1), va_rf (ch'.head?.map (fun q => q.1)), va_rf (some (A 2 0 0))])) := by
  obtain ⟨c1, c2, c3, c4, c5, c6, c7⟩ := R
  have k : kp (fun _ t => t = (51, r, 0, 0)) h (wv_up h (A 51 r 0) ((51, r, 0, 0), wo_o ciX2 [va_rf (some (A 52 r 0)), va_rf (some (A 56 r 0)), .int e.2.1, .int e.2.2, .int (nI pts), .int (nI s.2.1), .int (zbI e.1), va_rf (ch'.head?.map (fun q => q.1)), va_rf (some (A 2 0 0))])) := kp.put c3 rfl
  exact ⟨c1.keep k (fun _ t e => by rw [e]; show 50 ≤ 51; decide), c2.keep k (fun a t e => ⟨z51S 58 (by decide) a t e, z51S 59 (by decide) a t e⟩), wv_up_self, c4.keep k (fun _ t e q => by rw [e] at q; exact absurd q.1 (by show ¬ 52 ≤ 51; decide)), c5.keep k (fun _ t e q => by rw [e] at q; exact absurd q.1 (by show ¬ (51 : Nat) = 56; decide)), hc.keep k (z51S 60 (by decide)), c7.1.keep k (fun a t e => ⟨z51S 61 (by decide) a t e, z51S 62 (by decide) a t e⟩), hp⟩
theorem zHv_0 (l : List zIn) : zHv σ l 0 0 := fun n _ => ⟨fun e => (by rw [zb_0] at e; cases e), fun _ => zb_0 n⟩
theorem zpoint_up {d : Nat} {li : List zIn} {q : zPi} {v : Int32} (hu : d = 0 ∨ s.1 = 120) : zpoint σ e.1 d li q v s = (zup, zRe s) := by
  cases d with
  | zero => rfl
  | succ d =>
    rcases hu with hu | hu
    · cases hu
    · show (if s.1 = 120 then (zup, zRe s) else _ : zX × zR) = _
      rw [if_pos hu]
set_option maxHeartbeats 4000000 in
theorem z2_point (hG : wv_G0 G) (hw : zwf σ) (hr : zring σ = false) {d : Nat} (hd : d + ch.length = 20) {q : zPi} {v : Int32} (hfit : wv_fit .char q.1) (hty : q.2.2.1 < zn σ) {dd : Option Nat} (R : zRS G A σ r e ch th s h) (hp : zPa σ e.1 q.2.2.2 dd h) (hF : 40 ≤ F)
    (hA : ∀ d', d = d' + 1 → ∀ a, zAC G A σ r e ((a, zinfo q v) :: ch) th h lam F (zact σ e.1 (zpoint σ e.1 d' (zinfo q v :: ch.map (fun x => x.2))) q)) :
    wv_C G yX2_point [.ref (A 51 r 0), .int q.1, .int q.2.1, .ref (A 4 q.2.2.1 0), .int v, va_rf dd, .int (zinfo q v).2.2.2.1, .ref lam] h (F + 29) (zcc σ s (zpoint σ e.1 d (ch.map (fun x => x.2)) q v s).2 - 1) (zcs σ s (zpoint σ e.1 d (ch.map (fun x => x.2)) q v s).2 - 4) (zPo G A σ r e ch th (zpoint σ e.1 d (ch.map (fun x => x.2)) q v s) h) := by
  have h12 := hw.2.2.2.2.1
  obtain ⟨C, L, o1, T, O, H, Th, h120⟩ := id R
  -- given up
  have up : (d = 0 ∨ s.1 = 120) → vc_X2_point_30 G (F + 29) (zPo G A σ r e ch th (zpoint σ e.1 d (ch.map (fun x => x.2)) q v s) h) (h, zcc σ s (zpoint σ e.1 d (ch.map (fun x => x.2)) q v s).2 - 1, zcs σ s (zpoint σ e.1 d (ch.map (fun x => x.2)) q v s).2 - 4) := by
    intro hu
    rw [zpoint_up hu]
    have hcc : zcc σ s (zRe s) = 2 := by unfold zcc zPc zRe; first | (simp; done) | (simp; omega)
    have hcs : zcs σ s (zRe s) = 11 := by unfold zcs zPs zRe; first | (simp; done) | (simp; omega)
    exact z_up hG (by omega) (by show 1 ≤ zcc σ s (zRe s) - 1; omega) (by show 6 ≤ zcs σ s (zRe s) - 4; omega) (fun x h3 k3 ex3 => ⟨R.keepn k3, kn.to k3, x, rfl, ex3⟩)
  -- opened
  have opn : ¬ s.1 = 120 → ∀ d', d = d' + 1 → vc_X2_point_38 G (F + 29) (zPo G A σ r e ch th (zpoint σ e.1 d (ch.map (fun x => x.2)) q v s) h) (some (A 51 r 0)) q.1 q.2.1 (some (A 4 q.2.2.1 0)) v dd (zinfo q v).2.2.2.1 (some lam) (ch.head?.map (fun x => x.1)) (h, zcc σ s (zpoint σ e.1 d (ch.map (fun x => x.2)) q v s).2 - 1, zcs σ s (zpoint σ e.1 d (ch.map (fun x => x.2)) q v s).2 - 4) := by
    intro hs120 d' hdd
    have ep : zpoint σ e.1 d (ch.map (fun x => x.2)) q v s = zgo σ (zact σ e.1 (zpoint σ e.1 d' (zinfo q v :: ch.map (fun x => x.2))) q) ((zoa σ).filter (ztakes σ e.1 q.2.2.2 (zinfo q v :: ch.map (fun x => x.2)))) v (zRq (zasn σ e.1 q.2.2.2 (zoa σ)) (zRp s)) := by
      rw [hdd, zpoint]
      show (if s.1 = 120 then (zup, zRe s) else _ : zX × zR) = _
      rw [if_neg hs120]
      rfl
    have hmon : ∀ v s, zl9 σ s (zact σ e.1 (zpoint σ e.1 d' (zinfo q v :: ch.map (fun x => x.2))) q v s).2 := fun v s => zact_mon (fun q v s => zpoint_mon e.1 d' _ q v s) e.1 q v s
    have hmon' : ∀ v' s, zl9 σ s (zact σ e.1 (zpoint σ e.1 d' (zinfo q v :: ch.map (fun x => x.2))) q v' s).2 := fun v' s => zact_mon (fun q v s => zpoint_mon e.1 d' _ q v s) e.1 q v' s
    have m1 : zl9 σ s (zRq (zasn σ e.1 q.2.2.2 (zoa σ)) (zRp s)) := ⟨Nat.le_succ _, Nat.le_refl _, Nat.le_refl _, Nat.le_refl _⟩
    have m2 := zgo_mon (σ := σ) hmon' ((zoa σ).filter (ztakes σ e.1 q.2.2.2 (zinfo q v :: ch.map (fun x => x.2)))) v (zRq (zasn σ e.1 q.2.2.2 (zoa σ)) (zRp s))
    have ec := zcc_add m1 m2
    have es := zcs_add m1 m2
    have hcc : zcc σ s (zRq (zasn σ e.1 q.2.2.2 (zoa σ)) (zRp s)) = 2 := by unfold zcc zPc zRq zRp; first | (simp; done) | (simp; omega)
    have hcs : zcs σ s (zRq (zasn σ e.1 q.2.2.2 (zoa σ)) (zRp s)) = 12 := by unfold zcs zPs zRq zRp; first | (simp; done) | (simp; omega)
    rw [hcc] at ec
    rw [hcs] at es
    rw [ep]
    have hsel : zsel (zm (fun j => ztakes σ e.1 q.2.2.2 (zinfo q v :: ch.map (fun x => x.2)) ((zoa σ).getD j 0)) σ.2.2.1.length) 0 ((zoa σ).drop 0) = (zoa σ).filter (ztakes σ e.1 q.2.2.2 (zinfo q v :: ch.map (fun x => x.2))) := by
      rw [List.drop_zero]
      refine zsel_filter _ _ 0 (fun j n hj => ?_)
      have hjl := (List.getElem?_eq_some_iff.mp hj).1
      rw [zoa_len hw hr] at hjl
      rw [Nat.zero_add, zb_zm (by omega), decide_eq_true hjl, Bool.true_and]
      show ztakes _ _ _ _ ((zoa σ).getD j 0) = _
      rw [List.getD_eq_getElem?_getD, hj]
      rfl
    have hfl : ((zoa σ).filter (ztakes σ e.1 q.2.2.2 (zinfo q v :: ch.map (fun x => x.2)))).length ≤ 12 := by
      have := List.length_filter_le (ztakes σ e.1 q.2.2.2 (zinfo q v :: ch.map (fun x => x.2))) (zoa σ)
      rw [zoa_len hw hr] at this
      omega
    generalize hQ : zgo σ (zact σ e.1 (zpoint σ e.1 d' (zinfo q v :: ch.map (fun x => x.2))) q) ((zoa σ).filter (ztakes σ e.1 q.2.2.2 (zinfo q v :: ch.map (fun x => x.2)))) v (zRq (zasn σ e.1 q.2.2.2 (zoa σ)) (zRp s)) = Q at ec es m2 ⊢
    generalize hC1 : zcc σ s Q.2 - 1 = c1
    generalize hS1 : zcs σ s Q.2 - 4 = s1
    generalize hC2 : zcc σ (zRq (zasn σ e.1 q.2.2.2 (zoa σ)) (zRp s)) Q.2 = c2 at ec
    generalize hS2 : zcs σ (zRq (zasn σ e.1 q.2.2.2 (zoa σ)) (zRp s)) Q.2 = s2 at es
    have b1 : 1 ≤ c1 := by omega
    have b2 : 8 ≤ s1 := by omega
    refine z_gI o1 rfl (z_pt o1 (Nat.succ_ne_zero _) (by simp) ?_)
    -- the counter
    have hold : kp (fun _ t => t = (51, r, 0, 0)) h (wv_up h (A 51 r 0) ((51, r, 0, 0), wo_o ciX2 ([va_rf (some (A 52 r 0)), va_rf (some (A 56 r 0)), .int e.2.1, .int e.2.2, .int (nI s.1), .int (nI s.2.1), .int (zbI e.1), va_rf (ch.head?.map (fun q => q.1)), va_rf (some (A 2 0 0))].set 4 (.int (nI s.1 + 1))))) := kp.put o1 rfl
    have R1 : zRS G A σ r e ch th (zRp s) (wv_up h (A 51 r 0) ((51, r, 0, 0), wo_o ciX2 ([va_rf (some (A 52 r 0)), va_rf (some (A 56 r 0)), .int e.2.1, .int e.2.2, .int (nI s.1), .int (nI s.2.1), .int (zbI e.1), va_rf (ch.head?.map (fun q => q.1)), va_rf (some (A 2 0 0))].set 4 (.int (nI s.1 + 1))))) := by
      rw [← nI_succ]
      exact R.obj (pts := s.1 + 1) (by omega) H
    generalize hh1 : wv_up h (A 51 r 0) ((51, r, 0, 0), wo_o ciX2 ([va_rf (some (A 52 r 0)), va_rf (some (A 56 r 0)), .int e.2.1, .int e.2.2, .int (nI s.1), .int (nI s.2.1), .int (zbI e.1), va_rf (ch.head?.map (fun q => q.1)), va_rf (some (A 2 0 0))].set 4 (.int (nI s.1 + 1)))) = h1 at R1 hold ⊢
    refine z_no (60, 0, 0, 0) b1 b2 (fun a ha _ => z_iV (z25_init hG (by decide) hfit) (by omega) ?_)
    have ha : h1 a = none := ha
    have k2 : kp kn h1 (wv_up h1 a ((60, 0, 0, 0), zPto A (zinfo q v) (ch.head?.map (fun x => x.1)) 0 0)) := kp.new ha
    have R2 := R1.keepn k2
    have H2 : zCh A σ (wv_up h1 a ((60, 0, 0, 0), zPto A (zinfo q v) (ch.head?.map (fun x => x.1)) 0 0)) ((a, zinfo q v) :: ch) := by
      refine ⟨hty, ⟨0, 0, wv_up_self, zHv_0 _⟩, fun hin => ?_, R2.2.2.2.2.2.1⟩
      obtain ⟨o, ho⟩ := zCh_tag R1.2.2.2.2.2.1 a hin
      rw [ha] at ho
      cases ho
    have o2 := R2.2.2.1
    refine z_pt o2 (Nat.succ_ne_zero _) (by simp) ?_
    have R3 : zRS G A σ r e ((a, zinfo q v) :: ch) th (zRp s) (wv_up (wv_up h1 a ((60, 0, 0, 0), zPto A (zinfo q v) (ch.head?.map (fun x => x.1)) 0 0)) (A 51 r 0) ((51, r, 0, 0), wo_o ciX2 ([va_rf (some (A 52 r 0)), va_rf (some (A 56 r 0)), .int e.2.1, .int e.2.2, .int (nI (zRp s).1), .int (nI (zRp s).2.1), .int (zbI e.1), va_rf (ch.head?.map (fun q => q.1)), va_rf (some (A 2 0 0))].set 7 (va_rf (some a))))) := R2.obj (pts := s.1 + 1) (by omega) H2
    have k3 : kp (zSR r th) h (wv_up (wv_up h1 a ((60, 0, 0, 0), zPto A (zinfo q v) (ch.head?.map (fun x => x.1)) 0 0)) (A 51 r 0) ((51, r, 0, 0), wo_o ciX2 ([va_rf (some (A 52 r 0)), va_rf (some (A 56 r 0)), .int e.2.1, .int e.2.2, .int (nI (zRp s).1), .int (nI (zRp s).2.1), .int (zbI e.1), va_rf (ch.head?.map (fun q => q.1)), va_rf (some (A 2 0 0))].set 7 (va_rf (some a))))) := ((hold.mono z51_R).trans (kn.to k2)).trans (kp.put o2 (z51_R _ _ rfl))
    have P3 := ((hp.keep hold (z51S 59 (by decide))).keep k2 (fun _ _ x => x.elim)).keep (S := fun _ t => t = (51, r, 0, 0)) (kp.put (z := ((51, r, 0, 0), wo_o ciX2 ([va_rf (some (A 52 r 0)), va_rf (some (A 56 r 0)), .int e.2.1, .int e.2.2, .int (nI (zRp s).1), .int (nI (zRp s).2.1), .int (zbI e.1), va_rf (ch.head?.map (fun q => q.1)), va_rf (some (A 2 0 0))].set 7 (va_rf (some a))))) o2 rfl) (z51S 59 (by decide))
    have o3 := R3.2.2.1
    refine z_gA o3 rfl ⟨A 51 r 0, rfl, z2_isR R3, z_c (z2_chosen hG hw hr R3 P3) (by omega) (Nat.zero_le _) (Nat.zero_le _) ?_⟩
    rintro y h4 ⟨rfl, R4, k4⟩
    have hC := z2_goOn (c := zm (fun j => ztakes σ e.1 q.2.2.2 (zinfo q v :: ch.map (fun x => x.2)) ((zoa σ).getD j 0)) σ.2.2.1.length) hG hw hr (F := F) (lam := lam) (h0 := h) (by omega) (hA d' hdd a) hmon' ((zoa σ).filter (ztakes σ e.1 q.2.2.2 (zinfo q v :: ch.map (fun x => x.2)))) 0 hsel (Nat.zero_le _) v _ h4 R4 (k3.trans k4)
    rw [hQ, hC2, hS2] at hC
    -- closed again
    have cls : ∀ h5, zRS G A σ r e ((a, zinfo q v) :: ch) th Q.2 h5 → zRS G A σ r e ch th Q.2 (wv_up h5 (A 51 r 0) ((51, r, 0, 0), wo_o ciX2 ([va_rf (some (A 52 r 0)), va_rf (some (A 56 r 0)), .int e.2.1, .int e.2.2, .int (nI Q.2.1), .int (nI Q.2.2.1), .int (zbI e.1), va_rf (some a), va_rf (some (A 2 0 0))].set 7 (va_rf (ch.head?.map (fun x => x.1)))))) := fun h5 R5 => R5.obj (pts := Q.2.1) R5.2.2.2.2.2.2.2 R5.2.2.2.2.2.1.2.2.2
    refine Or.inl ⟨_, rfl, A 51 r 0, rfl, z2_isR R4, z_cP hC (by omega) (by show c2 ≤ c1 - 1 - 0; omega) (by show s2 ≤ s1 - 8 - 0; omega) (fun v' h5 e1 R5 k5 => ?_) (fun o x5 h5 e1 R5 k5 ex5 => ?_)⟩
    · have o5 := R5.2.2.1
      refine z_pt o5 (Nat.succ_ne_zero _) (by simp) ⟨cls h5 R5, ((k3.trans k4).trans k5).trans (kp.put o5 (z51_R _ _ rfl)), ?_⟩
      show zYr Q.1 _ _
      rw [e1]
      rfl
    · have o5 := R5.2.2.1
      refine z_pt o5 (Nat.succ_ne_zero _) (by simp) ?_
      have ex6 : zEx (wv_up h5 (A 51 r 0) ((51, r, 0, 0), wo_o ciX2 ([va_rf (some (A 52 r 0)), va_rf (some (A 56 r 0)), .int e.2.1, .int e.2.2, .int (nI Q.2.1), .int (nI Q.2.2.1), .int (zbI e.1), va_rf (some a), va_rf (some (A 2 0 0))].set 7 (va_rf (ch.head?.map (fun x => x.1)))))) x5 o := ex5.keep (S := fun _ t => t = (51, r, 0, 0)) (kp.put o5 rfl) (z51S 64 (by decide))
      refine ex6.at ⟨cls h5 R5, ((k3.trans k4).trans k5).trans (kp.put o5 (z51_R _ _ rfl)), ?_⟩
      show zYr Q.1 _ _
      rw [e1]
      exact ⟨x5, rfl, ex6⟩
  refine wk_X2_point (v0 := some (A 51 r 0)) (v3 := some (A 4 q.2.2.1 0)) (v5 := dd) (v7 := some lam) hG (z_gA o1 rfl (z_gI o1 rfl ⟨fun q9 => ?_, fun q9 => ⟨fun q8 => ?_, fun q8 => ?_⟩⟩))
  · exact up (Or.inr ((nI_eq (a := s.1) (b := 120) (by omega) (by omega)).mp q9))
  · have hs : ¬ s.1 = 120 := fun x => q9 (by rw [x]; rfl)
    have hch : ch = [] := by
      cases ch with
      | nil => rfl
      | cons y ch => cases q8
    exact opn hs 19 (by rw [hch] at hd; simp at hd; exact hd)
  · have hs : ¬ s.1 = 120 := fun x => q9 (by rw [x]; rfl)
    cases hch : ch with
    | nil => rw [hch] at q8; exact absurd rfl q8
    | cons y ch2 =>
      obtain ⟨b, j⟩ := y
      rw [hch] at H hd
      obtain ⟨-, ⟨x1, x2, e1, -⟩, -, -⟩ := id H
      have hl : ch2.length ≤ 19 := by simp at hd; omega
      refine z_vI (z_is e1 ccX25) (z25_goingOn hG ch2 b j (by omega) H) (by omega) ?_
      rw [hch] at up opn
      refine ⟨fun q7 => ?_, fun q7 => ?_⟩
      · refine opn hs (d - 1) ?_
        have : ¬ ch2.length + 1 = 20 := fun x => q7 (by rw [x]; rfl)
        simp at hd
        omega
      · refine up (Or.inl ?_)
        have := (nI_eq (a := ch2.length + 1) (b := 20) (by omega) (by omega)).mp q7
        simp at hd
        omega
end ZX2
