/-! THE COMPONENT: pairs of places and advices; the order of aspects -/
section ZI
variable {G : wv_G} {A : zA} {σ : zS} {h h1 h2 h' : wv_H} {w : wv_W} {fr fr' kc ks : Nat} {P : wv_R → wv_H → Prop} {KX : String → Nat → wv_W → Prop} {a : Nat} {t : wv_T} {f g : Nat → Nat → Nat}
def zpairs (σ : zS) (c : Int32) : Nat := zsm (fun k => zsm (fun m => zsm (fun p => zsm (zcnt σ (zpl σ k m p) c) σ.2.2.1.length) (zspots σ k m).length) 6) (zn σ)
abbrev zSq : Nat → wv_T → Prop := fun _ t => t.1 = 58 ∨ t.1 = 59
theorem zSq_50 : ∀ (a : Nat) (t : wv_T), zSq a t → 50 ≤ t.1 := fun _ t e => by
  rcases e with e | e <;> rw [e] <;> decide
theorem z1_countPairs (hG : wv_G0 G) (hw : zwf σ) {c : Int32} (C : zCf G A σ h) (L : zPls G A σ f h) : wv_C G yX1_countPairs [.ref (A 2 0 0), .int c] h 64 (2 * zrem σ f) (31 * zrem σ f) (fun r h' => r = .inl (some (.int (nI (zpairs σ c)))) ∧ kp zSq h h' ∧ ∃ g, zPls G A σ g h' ∧ ∀ k m, f k m ≤ g k m) := by
  refine wk_X1_countPairs (v0 := some (A 2 0 0)) hG ?_
  have hn := hw.1
  let F3 : Nat → Nat → Nat → Nat := fun k m p => zsm (zcnt σ (zpl σ k m p) c) σ.2.2.1.length
  let F2 : Nat → Nat → Nat := fun k m => zsm (F3 k m) (zspots σ k m).length
  let F1 : Nat → Nat := fun k => zsm (F2 k) 6
  let I : wv_W → Prop := fun w => kp zSq h w.1 ∧ ∃ g, zPls G A σ g w.1 ∧ (∀ k m, f k m ≤ g k m) ∧ 2 * zrem σ g ≤ w.2.1 ∧ 31 * zrem σ g ≤ w.2.2
  refine z_loopW (zn σ) (by omega) (fun v => v.2.2.2) (fun i => (some (A 2 0 0), c, nI (zsm F1 i), nI i)) (fun _ w => I w) (fun _ => rfl) rfl ⟨kp.refl h, f, L, fun _ _ => Nat.le_refl _, Nat.le_refl _, Nat.le_refl _⟩ (fun K i w hi hI hK => ?_)
  have C0 := C.keep hI.1 zSq_50
  refine z_gA C0.comp rfl (C0.types.vsizeR hG (by omega) (pk_le (zn σ) i (fun hle => ?_) (fun hlt => ?_)))
  · have e9 : i = zn σ := by omega
    subst e9
    obtain ⟨k1, g, l1, l2, -⟩ := hI
    exact ⟨rfl, k1, g, l1, l2⟩
  refine z_loopW 6 (by decide) (fun v => v.2.2.2.2) (fun j => (some (A 2 0 0), c, nI (zsm F1 i + zsm (F2 i) j), nI i, nI j)) (fun _ w => I w) (fun _ => rfl) rfl hI (fun K2 j w hj hI hK2 => ?_)
  refine pk_le 6 j (fun hle => ?_) (fun hlt2 => ?_)
  · have e9 : j = 6 := by omega
    subst e9
    show K (some (A 2 0 0), c, nI (zsm F1 i + zsm (F2 i) 6), nI i + 1) w
    rw [← nI_succ]
    exact hK w hlt hI
  have h17 := zspots_le hw (k := i) hlt2
  refine z_loopW (zspots σ i j).length (by omega) (fun v => v.2.2.2.2.2) (fun p => (some (A 2 0 0), c, nI (zsm F1 i + zsm (F2 i) j + zsm (F3 i j) p), nI i, nI j, nI p)) (fun _ w => I w) (fun _ => rfl) rfl hI (fun K3 p w hp hI hK3 => ?_)
  obtain ⟨k1, g, l1, l2, l3, l4⟩ := hI
  have C1 := C.keep k1 zSq_50
  refine z_gA C1.comp rfl (C1.types.vgetR hG hlt (by omega) (z_cc (z_is (C1.type hlt) ccX6) (z_vI (z_isC C1) (z1_placesOf hG hw C1 hlt hlt2) (by omega) (pk_le (zspots σ i j).length p (fun hle => ?_) (fun hlt3 => ?_)))))
  · have e9 : p = (zspots σ i j).length := by omega
    subst e9
    show K2 (some (A 2 0 0), c, nI (zsm F1 i + zsm (F2 i) j + zsm (F3 i j) (zspots σ i j).length), nI i, nI j + 1) w
    rw [← nI_succ, Nat.add_assoc]
    exact hK2 w hlt2 ⟨k1, g, l1, l2, l3, l4⟩
  · have hr := zrem_keep (σ := σ) (f := g) (k := i) (m := j) (n := p + 1) (by omega) hlt2 hlt3
    refine z_gA C1.comp rfl (C1.types.vgetR hG hlt (by omega) (z_cc (z_is (C1.type hlt) ccX6) ?_))
    refine ⟨A 2 0 0, rfl, z_isC C1, z_c (z1_placeOf hG hw hlt hlt2 hlt3 C1 l1) (by omega) (by omega) (by omega) ?_⟩
    rintro r h2 ⟨a, rfl, m1, m2, m3⟩
    refine Or.inl ⟨_, rfl, ?_⟩
    have k2 : kp zSq h h2 := k1.trans (m3.mono (fun _ t e => Or.inl (by rw [e])))
    have C2 := C.keep k2 zSq_50
    obtain ⟨x1, x2, x3, n1, n2⟩ := m2
    refine ⟨A 2 0 0, rfl, z_isC C2, z_c (z1_countAt hG hw C2 n1 n2) (by omega) (Nat.zero_le _) (Nat.zero_le _) ?_⟩
    rintro r h3 ⟨rfl, y1, y2, y3, rfl, n3⟩
    refine Or.inl ⟨_, rfl, ?_⟩
    show K3 (some (A 2 0 0), c, nI (zsm F1 i + zsm (F2 i) j + zsm (F3 i j) p) + nI (F3 i j p), nI i, nI j, nI p + 1) _
    rw [nI_add, Nat.add_assoc _ _ (F3 i j p), ← nI_succ]
    refine hK3 _ hlt3 ⟨k2.trans (kp.put n1 (Or.inr rfl)), _, m1.up (by omega) n1 n3, fun k m => Nat.le_trans (l2 k m) (zkeep_ge _ _ _ _ _), ?_, ?_⟩
    · show _ ≤ w.2.1 - 2 * ((p + 1) - g i j) - 0
      omega
    · show _ ≤ w.2.2 - 31 * ((p + 1) - g i j) - 0
      omega
-- ===== the order of aspects =====
def zT (σ : zS) (i : Nat) : List Nat := zordF σ i []
theorem zordF_succ : ∀ (f : Nat) (l : List Nat), zordF σ (f + 1) l = match znext σ (zordF σ f l) with | none => zordF σ f l | some j => zordF σ f l ++ [j]
  | 0, l => by
    simp only [zordF]
    cases znext σ l <;> rfl
  | f + 1, l => by
    rw [zordF]
    cases hz : znext σ l with
    | none =>
      have e : ∀ f, zordF σ f l = l := by
        intro f
        induction f with
        | zero => rfl
        | succ f ih => rw [zordF, hz]
      rw [e, hz]
    | some j =>
      show zordF σ (f + 1) (l ++ [j]) = _
      rw [zordF_succ f (l ++ [j])]
      have e : zordF σ (f + 1) l = zordF σ f (l ++ [j]) := by rw [zordF, hz]
      rw [e]
theorem zT_succ (i : Nat) : zT σ (i + 1) = match znext σ (zT σ i) with | none => zT σ i | some j => zT σ i ++ [j] := zordF_succ i []
theorem znext_lt {l : List Nat} {j : Nat} (hz : znext σ l = some j) : j < 4 := List.mem_range.mp (List.mem_of_find?_eq_some hz)
theorem zT_len (i : Nat) : (zT σ i).length ≤ i := by
  induction i with
  | zero => exact Nat.le_refl _
  | succ i ih =>
    rw [zT_succ]
    cases znext σ (zT σ i) with
    | none => exact Nat.le_succ_of_le ih
    | some j =>
      show ((zT σ i) ++ [j]).length ≤ i + 1
      rw [List.length_append]
      exact Nat.succ_le_succ ih
theorem zT_stuck {i : Nat} (hz : znext σ (zT σ i) = none) : ∀ d, zT σ (i + d) = zT σ i
  | 0 => rfl
  | d + 1 => by
    rw [← Nat.add_assoc, zT_succ, zT_stuck hz d, hz]
theorem zT_lt (i : Nat) : ∀ j ∈ zT σ i, j < 4 := by
  induction i with
  | zero => intro j hj; cases hj
  | succ i ih =>
    rw [zT_succ]
    cases hz : znext σ (zT σ i) with
    | none => exact ih
    | some q =>
      intro j hj
      rcases List.mem_append.mp hj with hj | hj
      · exact ih j hj
      · rw [List.mem_singleton] at hj
        rw [hj]
        exact znext_lt hz
/-- what aspectOf answers -/
def zasp (σ : zS) (r : Nat) : Int32 := if (zT σ (r + 1)).length = r + 1 then nI ((zT σ (r + 1)).getLastD 0) else -1
theorem zbI_and (a b : Bool) : zbI a &&& zbI b = zbI (a && b) := by cases a <;> cases b <;> decide
/-- the lowest of those that are free, looked at from the highest on -/
def zlow (fr : Nat → Bool) : Nat → Int32
  | 0 => -1
  | n + 1 => if fr (3 - n) = true then nI (3 - n) else zlow fr n
theorem zlow_4 (l : List Nat) : zlow (zfree σ l) 4 = match znext σ l with | none => -1 | some j => nI j := by
  unfold znext
  have e : List.range 4 = [0, 1, 2, 3] := rfl
  have e2 : zlow (zfree σ l) 4 = if zfree σ l 0 = true then nI 0 else if zfree σ l 1 = true then nI 1 else if zfree σ l 2 = true then nI 2 else if zfree σ l 3 = true then nI 3 else -1 := rfl
  rw [e, e2]
  simp only [List.find?_cons, List.find?_nil]
  cases zfree σ l 0 <;> cases zfree σ l 1 <;> cases zfree σ l 2 <;> cases zfree σ l 3 <;> rfl
def zdn (i : Nat) : Int32 := if i = 0 then 3 else if i = 1 then 2 else if i = 2 then 1 else if i = 3 then 0 else -1
def zdi (x : Int32) : Int32 := if x = 3 then nI 0 else if x = 2 then nI 1 else if x = 1 then nI 2 else if x = 0 then nI 3 else nI 4
theorem zdn_ix : ∀ i, i ≤ 4 → zdi (zdn i) = nI i := by decide
theorem zdn_next : ∀ i, i < 4 → zdn i + (-1) = zdn (i + 1) := by decide
theorem zdn_at : ∀ i, i < 4 → zdn i = nI (3 - i) := by decide
theorem zdn_lt : ∀ i, i ≤ 4 → (zdn i < 0 ↔ i = 4) := by decide
theorem zlow_step (fr : Nat → Bool) (i : Nat) (_ : i < 4) : zlow fr (i + 1) = if fr (3 - i) = true then nI (3 - i) else zlow fr i := rfl
theorem nI_m1 {j : Nat} (hj : j < 2 ^ 31) : ¬ nI j = -1 := by
  intro e
  have h0 := nI_pos' hj
  rw [e] at h0
  exact absurd h0 (by decide)
theorem z1_aspectOf (hG : wv_G0 G) {r : Nat} (hr : r < 4) (C : zCf G A σ h) : wv_C G yX1_aspectOf [.ref (A 2 0 0), .int (nI r)] h 1 1 4 (fun x h' => x = .inl (some (.int (zasp σ r))) ∧ kp kn h h') := by
  refine wk_X1_aspectOf (v0 := some (A 2 0 0)) hG ⟨4, rfl, by decide, z_no (1, 0, 0, 0) (Nat.le_refl _) (Nat.le_refl _) (fun a1 ha _ => ?_)⟩
  have ha : h a1 = none := ha
  refine z_loopW (r + 1) (by omega) (fun v => v.2.2.2.2) (fun i => (some (A 2 0 0), nI r, some a1, (if i = 0 then -1 else nI ((zT σ i).getLastD 0)), nI i)) (fun i w => (zT σ i).length = i ∧ ∃ f, w = (wv_up h a1 ((1, 0, 0, 0), wo_i (wv_A G 2) 4 f), 0, 0) ∧ ∀ j, j < 4 → f j = zbI ((zT σ i).contains j)) (fun _ => rfl) rfl ⟨rfl, fun _ => 0, rfl, fun j _ => rfl⟩ (fun K i w hi hI hK => ?_)
  obtain ⟨hlen, f, rfl, hf⟩ := hI
  have C1 : zCf G A σ (wv_up h a1 ((1, 0, 0, 0), wo_i (wv_A G 2) 4 f)) := C.keep (S := kn) (kp.new ha) (fun _ _ q => q.elim)
  refine pk_lt r i (fun hlt => ?_) (fun hge => ?_)
  · have e9 : i = r + 1 := by omega
    subst e9
    refine ⟨?_, kp.new ha⟩
    unfold zasp
    rw [if_pos hlen]
    rfl
  have hlt : i < r + 1 := by omega
  refine z_loop 4 (by decide) (fun v => zdi v.2.2.2.2.2) (fun b v w => v = (some (A 2 0 0), nI r, some a1, zlow (zfree σ (zT σ i)) b, nI i, zdn b) ∧ w = (wv_up h a1 ((1, 0, 0, 0), wo_i (wv_A G 2) 4 f), 0, 0)) rfl ⟨rfl, rfl⟩ ?_
  rintro K2 b _ _ hb - ⟨rfl, rfl⟩ hK2
  refine ⟨fun hd => ?_, fun hd => ?_⟩
  · have e9 : b = 4 := (zdn_lt b hb).mp hd
    subst e9
    show (¬ zlow (zfree σ (zT σ i)) 4 = -1 → _) ∧ (zlow (zfree σ (zT σ i)) 4 = -1 → _)
    have hs := zT_succ (σ := σ) i
    have hz4 := zlow_4 (σ := σ) (zT σ i)
    cases hz : znext σ (zT σ i) with
    | none =>
      rw [hz] at hs hz4
      refine ⟨fun q => absurd hz4 q, fun _ => ⟨?_, kp.new ha⟩⟩
      unfold zasp
      rw [if_neg]
      intro e
      have h3 := zT_stuck hz (r + 1 - i)
      rw [show i + (r + 1 - i) = r + 1 by omega] at h3
      rw [h3, hlen] at e
      omega
    | some j =>
      rw [hz] at hs hz4
      have hz4 : zlow (zfree σ (zT σ i)) 4 = nI j := hz4
      have hs : zT σ (i + 1) = zT σ i ++ [j] := hs
      have hj := znext_lt hz
      refine ⟨fun _ => ?_, fun q => absurd (hz4.symm.trans q) (nI_m1 (by omega))⟩
      show wv_si G 2 _ (some a1) (zlow (zfree σ (zT σ i)) 4) _ _
      rw [hz4]
      refine z_si wv_up_self (by decide) hj (by decide) ?_
      rw [z_uu]
      show K (some (A 2 0 0), nI r, some a1, nI j, nI i + 1) _
      have e1 : nI j = (if i + 1 = 0 then -1 else nI ((zT σ (i + 1)).getLastD 0)) := by
        rw [if_neg (by omega), hs, List.getLastD_eq_getLast?, List.getLast?_append]
        rfl
      rw [e1, ← nI_succ]
      refine hK _ hlt ⟨by rw [hs, List.length_append, hlen]; rfl, _, rfl, fun q hq => ?_⟩
      rw [hs]
      by_cases e : q = j
      · subst e
        rw [pk_us]
        simp [zbI, vp_nar]
        rfl
      · rw [pk_un e, hf q hq]
        congr 1
        rw [Bool.eq_iff_iff]
        simp [e]
  · have hb4 : b < 4 := by
      rcases Nat.lt_or_ge b 4 with h9 | h9
      · exact h9
      · exact absurd ((zdn_lt b hb).mpr (by omega)) hd
    -- one aspect
    have inner : ∀ s0 : Bool, s0 = !(zT σ i).contains (3 - b) → vc_X1_aspectOf_37 G 1 (fun x h' => x = .inl (some (.int (zasp σ r))) ∧ kp kn h h') K K2 (some (A 2 0 0)) (nI r) (some a1) (zlow (zfree σ (zT σ i)) b) (nI i) (zdn b) (zbI s0) (wv_up h a1 ((1, 0, 0, 0), wo_i (wv_A G 2) 4 f), 0, 0) := by
      intro s0 hs0
      refine z_loopV 4 (by decide) (fun v => v.2.2.2.2.2.2.2) (fun j => (some (A 2 0 0), nI r, some a1, zlow (zfree σ (zT σ i)) b, nI i, zdn b, zbI (s0 && (List.range j).all (fun k => (zT σ i).contains k || !σ.2.2.2 k (3 - b))), nI j)) (fun _ => rfl) (by simp [nI_0]) (fun K3 j hj hK3 => ?_)
      refine pk_le 4 j (fun hle => ?_) (fun hlt3 => ?_)
      · have e9 : j = 4 := by omega
        subst e9
        have hfr : (s0 && (List.range 4).all (fun k => (zT σ i).contains k || !σ.2.2.2 k (3 - b))) = zfree σ (zT σ i) (3 - b) := by rw [hs0]; rfl
        have hn := zlow_step (zfree σ (zT σ i)) b hb4
        have k9 := hK2 (some (A 2 0 0), nI r, some a1, zlow (zfree σ (zT σ i)) (b + 1), nI i, zdn (b + 1)) (wv_up h a1 ((1, 0, 0, 0), wo_i (wv_A G 2) 4 f), 0, 0) hb4 (zdn_ix (b + 1) (by omega)) ⟨rfl, rfl⟩
        rw [hn, ← zdn_next b hb4] at k9
        refine ⟨fun q => ?_, fun q => ?_⟩
        · have q : zbI (s0 && (List.range 4).all (fun k => (zT σ i).contains k || !σ.2.2.2 k (3 - b))) = 0 := q
          rw [hfr] at q
          rw [if_neg (by rw [zbI_e0 q]; decide)] at k9
          exact k9
        · have q : ¬ zbI (s0 && (List.range 4).all (fun k => (zT σ i).contains k || !σ.2.2.2 k (3 - b))) = 0 := q
          rw [hfr] at q
          rw [if_pos (zbI_n0 q), ← zdn_at b hb4] at k9
          exact k9
      · have step : ∀ s : Bool, s = ((zT σ i).contains j || !σ.2.2.2 j (3 - b)) → K3 (some (A 2 0 0), nI r, some a1, zlow (zfree σ (zT σ i)) b, nI i, zdn b, (zbI (s0 && (List.range j).all (fun k => (zT σ i).contains k || !σ.2.2.2 k (3 - b))) &&& zbI s), nI j + 1) (wv_up h a1 ((1, 0, 0, 0), wo_i (wv_A G 2) 4 f), 0, 0) := by
          intro s hs
          have k9 := hK3 hlt3
          simp only [List.range_succ, List.all_append, List.all_cons, List.all_nil, Bool.and_true] at k9
          rw [← hs, ← Bool.and_assoc, ← zbI_and, nI_succ] at k9
          exact k9
        refine z_li wv_up_self hlt3 (by decide) ?_
        rw [hf j hlt3]
        refine ⟨fun q => ?_, fun q => ?_⟩
        · exact step true (by rw [zbI_n0 q]; rfl)
        · have hc := zbI_e0 q
          obtain ⟨row, e1, e2⟩ := C1.row hlt3
          refine z_gA C1.comp rfl (z_lq C1.ahead hlt3 (by decide) ?_)
          show wv_li G 2 _ (some (A 15 0 0 + 1 + j)) (zdn b) _
          rw [zdn_at b hb4]
          refine z_li e1 (by omega) (by decide) ?_
          rw [e2 _ (by omega), ← zdn_at b hb4]
          refine ⟨fun q2 => ?_, fun q2 => ?_⟩
          · exact step false (by rw [hc, zbI_n0 q2]; rfl)
          · exact step true (by rw [hc, zbI_e0 q2]; rfl)
    show wv_li G 2 _ (some a1) (zdn b) _
    rw [zdn_at b hb4]
    refine z_li wv_up_self (by omega) (by decide) ?_
    rw [hf _ (by omega), ← zdn_at b hb4]
    refine ⟨fun q => inner false (by rw [zbI_n0 q]; rfl), fun q => inner true (by rw [zbI_e0 q]; rfl)⟩
theorem zring_T : zring σ = true ↔ ¬ (zT σ 4).length = 4 := by
  unfold zring
  have := zT_len (σ := σ) 4
  have e : zord σ = zT σ 4 := rfl
  rw [e, decide_eq_true_eq]
  omega
theorem z1_hasRing (hG : wv_G0 G) (C : zCf G A σ h) : wv_C G yX1_hasRing [.ref (A 2 0 0)] h 2 1 4 (fun x h' => x = .inl (some (.int (zbI (zring σ)))) ∧ kp kn h h') := by
  refine wk_X1_hasRing (v0 := some (A 2 0 0)) hG ⟨A 2 0 0, rfl, z_isC C, z_c (z1_aspectOf hG (r := 3) (by decide) C) (by omega) (Nat.le_refl _) (Nat.le_refl _) ?_⟩
  rintro r h' ⟨rfl, k⟩
  refine Or.inl ⟨_, rfl, ?_⟩
  unfold zasp
  by_cases e : (zT σ 4).length = 4
  · have hr : zring σ = false := by
      cases hz : zring σ
      · rfl
      · exact absurd e (zring_T.mp hz)
    rw [if_pos e, hr]
    refine ⟨fun _ => ⟨rfl, rfl, k⟩, fun q => absurd q (nI_m1 ?_)⟩
    rw [List.getLastD_eq_getLast?]
    cases hl : (zT σ 4).getLast? with
    | none => decide
    | some j =>
      have := zT_lt (σ := σ) 4 j (List.mem_of_getLast? hl)
      show j < 2 ^ 31
      omega
  · rw [if_neg e, zring_T.mpr e]
    exact ⟨fun q => absurd rfl q, fun _ => ⟨rfl, rfl, k⟩⟩
end ZI
