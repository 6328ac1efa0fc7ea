/-! THE COMPONENT: run, runAsking, isSound -/
section ZXC
variable {G : wv_G} {A A' : zA} {σ σ' : zS} {h h0 h1 h2 h' : wv_H} {w : wv_W} {fr fr' kc ks : Nat} {P : wv_R → wv_H → Prop} {KX : String → Nat → wv_W → Prop} {a b : Nat} {r : Nat} {s s1 s2 : zR} {c x y v : Int32} {i n j k m : Nat} {wov : Bool} {f : Nat → Nat → Nat} {L9 L0 L1 L2 : zL9}
/-- the error of a run -/
def zeB (σ : zS) (x y v : Int32) : Nat := if zix x (zn σ) = none then 1 else if zix y 6 = none ∨ zir v (-99) 99 = false then 2 else if zring σ = true then 3 else 0
/-- the component after a run by r -/
abbrev zRuP (G : wv_G) (A : zA) (σ : zS) (r : Nat) (Q : zX × zR) (h h' : wv_H) : Prop := zCf G A σ h' ∧ zPls G A σ Q.2.2.2.2.2.2 h' ∧ zRn G A r (zend Q) h' ∧ kp (zSB r) h h'
theorem zend_how (Q : zX × zR) : (zend Q).1 = 114 ∨ (zend Q).1 = 120 ∨ (zend Q).1 = 108 := by
  unfold zend
  cases Q.1 with
  | inl v => exact Or.inl rfl
  | inr o => cases o with
    | some n => exact Or.inr (Or.inl rfl)
    | none => exact Or.inr (Or.inr rfl)
theorem zend_fit (Q : zX × zR) : narrow .char (.int (zend Q).1) = .int (zend Q).1 := by
  rcases zend_how Q with e | e | e <;> rw [e] <;> rfl
theorem z1_runBy (hG : wv_G0 G) (hw : zwf σ) (C : zCf G A σ h) (L : zPls G A σ f h) (R : zRn G A 0 L0 h) (x y v : Int32) (wov : Bool) : wv_C G yX1_runBy [.ref (A 2 0 0), .int x, .int y, .int v, .int (zbI wov)] h 796 2993 28210 (zRes h (zeB σ x y v) [zIOOB, zIAE, zISE] (fun z h' => z = .inl (some (.int (zend (zrun σ wov (zAt x) (zAt y) v f)).1)) ∧ zRuP G A σ 0 (zrun σ wov (zAt x) (zAt y) v f) h h')) := by
  have hn6 := hw.1
  refine wk_X1_runBy (v0 := some (A 2 0 0)) hG ?_
  cases hk : zix x (zn σ) with
  | none => exact ⟨A 2 0 0, rfl, z_isC C, z_tA (z1_type0 hG C hk) (by omega) zle zle (fun q h' k => zRes.err 1 (if_pos hk) (by decide) rfl k)⟩
  | some k =>
    obtain ⟨hlt, exk⟩ := (zix_some (by omega)).mp hk
    have exz := zix_at hk
    have hk0 : ¬ zix x (zn σ) = none := by rw [hk]; simp
    refine z_vA (z_isC C) (z1_type hG hw C hk) (by omega) ?_
    cases hm : zix y 6 with
    | none => exact z_tV (z1_ckM0 hG hm) (by omega) zle zle (fun q h' k => zRes.err 2 (by unfold zeB; rw [if_neg hk0, if_pos (Or.inl hm)]) (by decide) rfl k)
    | some m =>
      obtain ⟨hm6, eym⟩ := (zix_some (by decide)).mp hm
      have ey := zix_at hm
      have hm0 : ¬ zix y 6 = none := by rw [hm]; simp
      refine z_cV (z1_ckM hG hm) (by omega) (z_cI (z1_inRange hG _ _ _) (by omega) ?_)
      cases hv : zir v (-99) 99 with
      | false => exact z_tV (z1_ckA0 hG) (by omega) zle zle (fun q h' k => zRes.err 2 (by unfold zeB; rw [if_neg hk0, if_pos (Or.inr hv)]) (by decide) rfl k)
      | true =>
        have hv0 : ¬ (zix y 6 = none ∨ zir v (-99) 99 = false) := by rw [hm, hv]; simp
        refine z_cV (z1_ckA hG) (by omega) ⟨A 2 0 0, rfl, z_isC C, z_c (z1_hasRing hG C) (by omega) zle zle ?_⟩
        rintro z h1 ⟨rfl, k1⟩
        refine Or.inl ⟨_, rfl, ?_⟩
        have C1 := C.keepn k1
        have L1 := L.keep k1 (fun _ _ q => q.elim)
        have R1 := R.keep k1 (fun _ _ q => q.elim)
        cases hr : zring σ with
        | true =>
          refine ⟨fun _ => ?_, fun q => absurd q (by decide)⟩
          exact z_tV (z1_ckS0 hG) (by omega) zle zle (fun q h' k => zRes.err 3 (by unfold zeB; rw [if_neg hk0, if_neg hv0, if_pos hr]) (by decide) rfl (k1.trans k))
        | false =>
          refine ⟨fun q => absurd rfl q, fun _ => ?_⟩
          have hc0 : zeB σ x y v = 0 := by unfold zeB; rw [if_neg hk0, if_neg hv0, if_neg (by rw [hr]; decide)]
          obtain ⟨w0, r1⟩ := R1.1
          obtain ⟨b1, b2⟩ := zrun_cost (wov := wov) hw k m v f
          have hC := z2_begin (v := v) (wov := wov) hG hw hr hlt hm6 C1 L1 R1
          rw [exz, ey, eym]
          rw [eym] at hc0
          refine z_cV (z1_ckS hG) (by omega) (z_gA C1.comp rfl ⟨A 51 0 0, rfl, z_is r1 ccX2, z_c hC (by omega) (by show 6 + zcc σ (zr0 f) (zrun σ wov k m v f).2 ≤ 2993 - 1; omega) (by show 22 + zcs σ (zr0 f) (zrun σ wov k m v f).2 ≤ 28210 - 4; omega) ?_⟩)
          rintro z h2 ⟨rfl, C2, L2, R2, k2⟩
          obtain ⟨w2, r2⟩ := R2.1
          exact Or.inl ⟨rfl, z_gA C2.comp rfl (z_gI r2 rfl ⟨zend_fit _, zRes.ok hc0 ⟨rfl, C2, L2, R2, (kn.to k1).trans k2⟩⟩)⟩
theorem zRes.answer {code : Nat} {ex : List String} {q : Prop} {x : Int32} {K : wv_H → Prop} (hc : ∀ h', K h' → True) : True := trivial
theorem z1_run (hG : wv_G0 G) (hw : zwf σ) (C : zCf G A σ h) (L : zPls G A σ f h) (R : zRn G A 0 L0 h) (x y v : Int32) : wv_C G yX1_run [.ref (A 2 0 0), .int x, .int y, .int v] h 797 2993 28210 (zRes h (zeB σ x y v) [zIOOB, zIAE, zISE] (fun z h' => z = .inl (some (.int (zend (zrun σ true (zAt x) (zAt y) v f)).1)) ∧ zRuP G A σ 0 (zrun σ true (zAt x) (zAt y) v f) h h')) := by
  refine wk_X1_run (v0 := some (A 2 0 0)) hG ⟨A 2 0 0, rfl, z_isC C, z_c (z1_runBy hG hw C L R x y v true) (by omega) (Nat.le_refl _) (Nat.le_refl _) ?_⟩
  rintro z h' (⟨hc, rfl, p⟩ | ⟨E, q1, q2, ⟨q, rfl⟩, q4⟩)
  · exact Or.inl ⟨_, rfl, zend_fit _, zRes.ok hc ⟨rfl, p⟩⟩
  · exact Or.inr ⟨_, _, rfl, Or.inr ⟨E, q1, q2, ⟨q, rfl⟩, q4⟩⟩
theorem z1_runAsking (hG : wv_G0 G) (hw : zwf σ) (C : zCf G A σ h) (L : zPls G A σ f h) (R : zRn G A 0 L0 h) (x y v : Int32) : wv_C G yX1_runAsking [.ref (A 2 0 0), .int x, .int y, .int v] h 797 2993 28210 (zRes h (zeB σ x y v) [zIOOB, zIAE, zISE] (fun z h' => z = .inl (some (.int (zend (zrun σ false (zAt x) (zAt y) v f)).1)) ∧ zRuP G A σ 0 (zrun σ false (zAt x) (zAt y) v f) h h')) := by
  refine wk_X1_runAsking (v0 := some (A 2 0 0)) hG ⟨A 2 0 0, rfl, z_isC C, z_c (z1_runBy hG hw C L R x y v false) (by omega) (Nat.le_refl _) (Nat.le_refl _) ?_⟩
  rintro z h' (⟨hc, rfl, p⟩ | ⟨E, q1, q2, ⟨q, rfl⟩, q4⟩)
  · exact Or.inl ⟨_, rfl, zend_fit _, zRes.ok hc ⟨rfl, p⟩⟩
  · exact Or.inr ⟨_, _, rfl, Or.inr ⟨E, q1, q2, ⟨q, rfl⟩, q4⟩⟩
-- ===== is it sound =====
/-- the first class with a body of the first method -/
def zlw (σ : zS) : Option Nat := (List.range (zn σ)).find? (fun k => !(zbody σ k 0).isEmpty)
def zlwF (σ : zS) (i : Nat) : Option Nat := (List.range i).find? (fun k => !(zbody σ k 0).isEmpty)
theorem zlwF_s (i : Nat) : zlwF σ (i + 1) = (zlwF σ i).or (if (zbody σ i 0).isEmpty = true then none else some i) := by
  unfold zlwF
  rw [List.range_succ, List.find?_append]
  congr 1
  simp only [List.find?_cons, List.find?_nil]
  cases (zbody σ i 0).isEmpty <;> rfl
/-- both runs alike -/
def zalike (q1 q2 : zL9) : Bool := decide (q1.1 = q2.1) && decide (q1.2.1 = q2.2.1) && decide (q1.2.2.2.2 = q2.2.2.2.2)
theorem zalike_1 {q1 q2 : zL9} (e : ¬ q1.1 = q2.1) : zalike q1 q2 = false := by unfold zalike; rw [decide_eq_false e]; rfl
theorem zalike_2 {q1 q2 : zL9} (e : ¬ q1.2.1 = q2.2.1) : zalike q1 q2 = false := by unfold zalike; rw [decide_eq_false e, Bool.and_false]; rfl
theorem zalike_3 {q1 q2 : zL9} (e1 : q1.1 = q2.1) (e : q1.2.1 = q2.2.1) : zalike q1 q2 = decide (q1.2.2.2.2 = q2.2.2.2.2) := by unfold zalike; rw [decide_eq_true e, decide_eq_true e1]; rfl
def zsound (σ : zS) (f g : Nat → Nat → Nat) : Bool := match zlw σ with
  | none => true
  | some k => if zring σ = true then true else zalike (zend (zrun σ true k 0 0 f)) (zend (zrun σ false k 0 0 g))
abbrev zS12 : Nat → wv_T → Prop := fun _ t => (58 ≤ t.1 ∧ t.1 ≤ 60) ∨ (51 ≤ t.1 ∧ t.1 ≤ 56 ∧ (t.2.1 = 1 ∨ t.2.1 = 2))
/-- the component after isSound -/
abbrev zSoP (G : wv_G) (A : zA) (σ : zS) (b : Bool) (h : wv_H) : wv_R → wv_H → Prop := fun z h' => z = .inl (some (.int (zbI b))) ∧ zCf G A σ h' ∧ (∃ f, zPls G A σ f h') ∧ (∃ L, zRn G A 1 L h') ∧ (∃ L, zRn G A 2 L h') ∧ kp zS12 h h'
theorem z1_isSound (hG : wv_G0 G) (hw : zwf σ) (C : zCf G A σ h) (L : zPls G A σ f h) (R1 : zRn G A 1 L1 h) (R2 : zRn G A 2 L2 h) : wv_C G yX1_isSound [.ref (A 2 0 0)] h 796 5985 56414 (fun z h' => ∃ g, zSoP G A σ (zsound σ f g) h z h') := by
  have hn6 := hw.1
  refine wk_X1_isSound (v0 := some (A 2 0 0)) hG ?_
  -- found, or none
  have found : ∀ k, (k < zn σ ∧ zlw σ = some k) ∨ (k = zn σ ∧ zlw σ = none) → vc_X1_isSound_37 G 796 (fun z h' => ∃ g, zSoP G A σ (zsound σ f g) h z h') (some (A 2 0 0)) (nI k) (h, 5985, 56414) := by
    intro k hk
    refine z_gA C.comp rfl (C.types.vsizeR hG (by omega) ⟨fun q => ?_, fun q => ?_⟩)
    · have hkn : zlw σ = none := by
        rcases hk with ⟨hk, -⟩ | ⟨-, hk⟩
        · have := (nI_eq (a := k) (b := zn σ) (by omega) (by omega)).mp q
          omega
        · exact hk
      refine ⟨rfl, f, ?_, C, ⟨f, L⟩, ⟨_, R1⟩, ⟨_, R2⟩, kp.refl _⟩
      unfold zsound
      rw [hkn]
      rfl
    · obtain ⟨hk, hkf⟩ : k < zn σ ∧ zlw σ = some k := by
        rcases hk with hk | ⟨hk, -⟩
        · exact hk
        · exact absurd (by rw [hk]) q
      refine ⟨A 2 0 0, rfl, z_isC C, z_c (z1_hasRing hG C) (by omega) zle zle ?_⟩
      rintro z h1 ⟨rfl, k1⟩
      refine Or.inl ⟨_, rfl, ?_⟩
      have C1 := C.keepn k1
      have L1 := L.keep k1 (fun _ _ q => q.elim)
      have R11 := R1.keep k1 (fun _ _ q => q.elim)
      have R12 := R2.keep k1 (fun _ _ q => q.elim)
      cases hr : zring σ with
      | true =>
        refine ⟨fun q => absurd q (by decide), fun _ => ⟨rfl, f, ?_, C1, ⟨f, L1⟩, ⟨_, R11⟩, ⟨_, R12⟩, kn.to k1⟩⟩
        unfold zsound
        rw [hkf]
        show _ = Sum.inl (some (Value.int (zbI (if zring σ = true then true else _))))
        rw [if_pos hr]
        rfl
      | false =>
        refine ⟨fun _ => ?_, fun q => absurd rfl q⟩
        obtain ⟨b1, b2⟩ := zrun_cost (wov := true) hw k 0 0 f
        obtain ⟨w1, r1⟩ := R11.1
        have hC1 := z2_begin (v := 0) (wov := true) hG hw hr hk (by decide : 0 < 6) C1 L1 R11
        rw [nI_0, show zbI true = 1 from rfl] at hC1
        refine z_gA C1.comp rfl (z_gA C1.comp rfl (C1.types.vgetR (f := fun k => A 4 k 0) hG hk (by omega) (z_cc (z_is (C1.type hk) ccX6) ⟨A 51 1 0, rfl, z_is r1 ccX2, z_c hC1 (by omega) (by show 6 + zcc σ (zr0 f) (zrun σ true k 0 0 f).2 ≤ 5985 - 1; omega) (by show 22 + zcs σ (zr0 f) (zrun σ true k 0 0 f).2 ≤ 56414 - 4; omega) ?_⟩)))
        rintro z h2 ⟨rfl, C2, L2, R21, k2⟩
        refine Or.inl ⟨rfl, ?_⟩
        have R22 := R12.keep k2 (fun _ t q x => by rcases q with q | q <;> omega)
        have hfe : zsound σ f (zrun σ true k 0 0 f).2.2.2.2.2.2 = zalike (zend (zrun σ true k 0 0 f)) (zend (zrun σ false k 0 0 (zrun σ true k 0 0 f).2.2.2.2.2.2)) := by
          unfold zsound
          rw [hkf]
          show (if zring σ = true then true else _) = _
          rw [if_neg (by rw [hr]; decide)]
        generalize (zrun σ true k 0 0 f).2.2.2.2.2.2 = g at L2 hfe
        obtain ⟨b3, b4⟩ := zrun_cost (wov := false) hw k 0 0 g
        obtain ⟨w2, r2⟩ := R22.1
        have hC2 := z2_begin (v := 0) (wov := false) hG hw hr hk (by decide : 0 < 6) C2 L2 R22
        rw [nI_0, show zbI false = 0 from rfl] at hC2
        refine z_gA C2.comp rfl (z_gA C2.comp rfl (C2.types.vgetR (f := fun k => A 4 k 0) hG hk (by omega) (z_cc (z_is (C2.type hk) ccX6) ⟨A 51 2 0, rfl, z_is r2 ccX2, z_c hC2 (by omega) (by show 6 + zcc σ (zr0 g) (zrun σ false k 0 0 g).2 ≤ 5985 - 1 - (6 + zcc σ (zr0 f) (zrun σ true k 0 0 f).2); omega) (by show 22 + zcs σ (zr0 g) (zrun σ false k 0 0 g).2 ≤ 56414 - 4 - (22 + zcs σ (zr0 f) (zrun σ true k 0 0 f).2); omega) ?_⟩)))
        rintro z h3 ⟨rfl, C3, L3, R32, k3⟩
        refine Or.inl ⟨rfl, ?_⟩
        have R31 := R21.keep k3 (fun _ t q x => by rcases q with q | q <;> omega)
        have kk : kp zS12 h h3 := ((kn.to k1).trans (k2.mono (fun _ t q => q.elim Or.inl (fun q => Or.inr ⟨q.1, q.2.1, Or.inl q.2.2⟩)))).trans (k3.mono (fun _ t q => q.elim Or.inl (fun q => Or.inr ⟨q.1, q.2.1, Or.inr q.2.2⟩)))
        generalize zend (zrun σ true k 0 0 f) = q1 at R31 hfe
        generalize zend (zrun σ false k 0 0 g) = q2 at R32 hfe
        obtain ⟨⟨v1, p1⟩, t1, -⟩ := id R31
        obtain ⟨⟨v2, p2⟩, t2, -⟩ := id R32
        have ans : ∀ b, zalike q1 q2 = b → ∃ g, zSoP G A σ (zsound σ f g) h (.inl (some (.int (zbI b)))) h3 := fun b hb => ⟨g, by rw [hfe, hb], C3, ⟨_, L3⟩, ⟨_, R31⟩, ⟨_, R32⟩, kk⟩
        refine z_gA C3.comp rfl (z_gI p1 rfl (z_gA C3.comp rfl (z_gI p2 rfl ⟨fun q => ⟨rfl, ans false (zalike_1 q)⟩, fun q => z_gA C3.comp rfl (z_gI p1 rfl (z_gA C3.comp rfl (z_gI p2 rfl ⟨fun q' => ⟨rfl, ans false (zalike_2 q')⟩, fun q' => ?_⟩)))⟩)))
        refine z_gA C3.comp rfl (z_gA p1 rfl (z_gA C3.comp rfl (z_gA p2 rfl (z_vI (z3_is t1) (z3_isLike hG t1 t2) (by omega) ?_))))
        have e3 := zalike_3 q q'
        cases hd : decide (q1.2.2.2.2 = q2.2.2.2.2) with
        | false =>
          refine ⟨fun _ => ⟨rfl, ans false (by rw [e3, hd])⟩, fun q => absurd rfl q⟩
        | true =>
          refine ⟨fun q => absurd q (by decide), fun _ => ⟨rfl, ans true (by rw [e3, hd])⟩⟩
  -- the loop
  refine z_loop (zn σ) (by omega) (fun v => v.2) (fun i v w => v = (some (A 2 0 0), nI i) ∧ w = (h, 5985, 56414) ∧ zlwF σ i = none) rfl ⟨rfl, rfl, rfl⟩ ?_
  rintro K i _ _ hi - ⟨rfl, rfl, hf⟩ hK
  refine z_gA C.comp rfl (C.types.vsizeR hG (by omega) (pk_le (zn σ) i (fun hle => ?_) (fun hlt => ?_)))
  · have : i = zn σ := by omega
    subst this
    exact found (zn σ) (Or.inr ⟨rfl, hf⟩)
  · refine z_gA C.comp rfl (C.types.vgetR hG hlt (by omega) (z_cc (z_is (C.type hlt) ccX6) (z_vI (z_is (C.type hlt) ccX6) (z6_hasBody hG C hlt (by decide : 0 < 6)) (by omega) ?_)))
    cases hb : (zbody σ i 0).isEmpty with
    | true =>
      refine ⟨fun q => absurd rfl q, fun _ => hK _ _ hlt ?_ ⟨?_, rfl, ?_⟩⟩
      · show nI i + 1 = _
        rw [← nI_succ]
      · show (_, nI i + 1) = _
        rw [← nI_succ]
      · rw [zlwF_s, hf, hb]
        rfl
    | false =>
      refine ⟨fun _ => found i (Or.inl ⟨hlt, ?_⟩), fun q => absurd q (by decide)⟩
      have e1 : zlwF σ (i + 1) = some i := by
        rw [zlwF_s, hf, hb]
        rfl
      unfold zlw
      have e2 : List.range (zn σ) = List.range (i + 1) ++ (List.range (zn σ - (i + 1))).map (fun j => i + 1 + j) := by
        rw [← List.range_add]
        congr 1
        omega
      rw [e2, List.find?_append]
      unfold zlwF at e1
      rw [e1]
      rfl
end ZXC
