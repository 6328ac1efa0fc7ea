/-! THE REFERENCE: what a place says of advice; isTaken -/
section ZTV
variable {G : wv_G} {B B' : zA} {σ σ' : zS} {h h0 h1 h2 h' : wv_H} {w : wv_W} {fr fr' kc ks : Nat} {P : wv_R → wv_H → Prop} {KX : String → Nat → wv_W → Prop} {a b L : Nat} {t : wv_T} {n k m p : Nat} {ps : List Nat} {l : List zIn} {th : Int32} {wov : Bool} {s s1 s2 s' : zR} {cp : Nat × Nat} {D : zD} {T : Nat × Nat × Nat}
-- ===== a body's places are told apart by kind and step =====
abbrev zneq (x y : zSp) : Prop := ¬ (x.1 = y.1 ∧ x.2.2.2 = y.2.2.2)
theorem zsp1_ix {i : Nat} {st : zSt} {sp : zSp} (hs : sp ∈ zsp1 i st) : sp.2.2.2 = nI i := by
  unfold zsp1 at hs
  split at hs
  · rcases List.mem_cons.mp hs with q | q
    · rw [q]
    · rw [List.mem_singleton.mp q]
  · split at hs
    · rw [List.mem_singleton.mp hs]
    · cases hs
theorem zsps_ix : ∀ (l : List zSt) (i : Nat) (sp : zSp), sp ∈ zsps i l → ∃ j, i ≤ j ∧ j < i + l.length ∧ sp.2.2.2 = nI j
  | [], i, sp, hs => by cases hs
  | st :: l, i, sp, hs => by
    have hs : sp ∈ zsp1 i st ++ zsps (i + 1) l := hs
    rcases List.mem_append.mp hs with q | q
    · exact ⟨i, Nat.le_refl _, by rw [List.length_cons]; omega, zsp1_ix q⟩
    · obtain ⟨j, j1, j2, j3⟩ := zsps_ix l (i + 1) sp q
      exact ⟨j, by omega, by rw [List.length_cons]; omega, j3⟩
theorem zsp1_pw (i : Nat) (st : zSt) : (zsp1 i st).Pairwise zneq := by
  unfold zsp1
  split
  · exact List.Pairwise.cons (fun b hb => by rw [List.mem_singleton] at hb; subst hb; exact fun e => absurd e.1 (show ¬ (109 : Int32) = 99 by decide)) (List.pairwise_singleton _ _)
  · split
    · exact List.pairwise_singleton _ _
    · exact List.Pairwise.nil
theorem zsps_pw : ∀ (l : List zSt) (i : Nat), i + l.length < 2 ^ 31 → (zsps i l).Pairwise zneq
  | [], i, _ => List.Pairwise.nil
  | st :: l, i, hl => by
    rw [List.length_cons] at hl
    show (zsp1 i st ++ zsps (i + 1) l).Pairwise zneq
    refine List.pairwise_append.mpr ⟨zsp1_pw i st, zsps_pw l (i + 1) (by omega), fun x hx y hy e => ?_⟩
    obtain ⟨j, j1, j2, j3⟩ := zsps_ix l (i + 1) y hy
    have e2 := e.2
    rw [zsp1_ix hx, j3] at e2
    have := (nI_eq (a := i) (b := j) (by omega) (by omega)).mp e2
    omega
theorem zspots_pw (hw : zwf σ) (hk : k < zn σ) (hm : m < 6) : (zspots σ k m).Pairwise zneq := by
  have h8 := zbody_le hw hk hm
  unfold zspots
  split
  · exact List.Pairwise.nil
  · refine List.Pairwise.cons (fun y hy e => ?_) (zsps_pw _ 0 (by omega))
    obtain ⟨j, j1, j2, j3⟩ := zsps_ix _ 0 y hy
    have e2 : (-1 : Int32) = y.2.2.2 := e.2
    rw [j3] at e2
    exact nI_m1 (by omega) e2.symm
theorem zspots_uq (hw : zwf σ) (hk : k < zn σ) (hm : m < 6) {i p : Nat} {x y : zSp} (hx : (zspots σ k m)[i]? = some x) (hy : (zspots σ k m)[p]? = some y) (hi : i < p) : zneq x y := by
  obtain ⟨h1, e1⟩ := List.getElem?_eq_some_iff.mp hx
  obtain ⟨h2, e2⟩ := List.getElem?_eq_some_iff.mp hy
  have := List.pairwise_iff_getElem.mp (zspots_pw hw hk hm) i p h1 h2 hi
  rw [e1, e2] at this
  exact this
theorem zspot_get (hp : p < (zspots σ k m).length) : (zspots σ k m)[p]? = some (zspot σ k m p) := by
  unfold zspot
  rw [List.getD_eq_getElem?_getD, List.getElem?_eq_getElem hp]
  rfl
theorem z26_spotMatch (hG : wv_G0 G) (hw : zwf σ) (ht : zwt σ) (R : zTS G B σ th L D wov ps l T s h) {nm ty v hd : Int32} (hk : k < zn σ) (hm : m < 6) (hp : p < (zspots σ k m).length) (hb : h b = some ((143, 0, 0, 0), zpnO (zspot σ k m p).1 nm ty (nI k) (nI m) (zspot σ k m p).2.2.2 v hd)) (hn : n < σ.2.2.1.length) :
    wv_C G yX26_spotMatch [.ref D.1, .ref b, .int (nI n)] h 28 ((zspots σ k m).length + zgc (zspots σ k m).length + 2) (4 * (zspots σ k m).length + zgs (zspots σ k m).length + 7) (fun y h' => y = .inl (some (.int (zat σ (zpl σ k m p) (zadv σ n).2.2.1))) ∧ kp kn h h') := by
  have h24 := hw.2.2.1
  have h12 := hw.2.2.2.2.1
  have h6 := hw.1
  have h17 := zspots_le hw (k := k) hm
  have hap := (zadv_ok hw hn).2.2.1
  have hsp0 := zspot_get hp
  obtain ⟨o1, o2⟩ := zspots_ok hw hk hm (List.mem_of_getElem? hsp0)
  refine wk_X26_spotMatch (v0 := some D.1) (v1 := some b) hG (z_gA R.2.1 rfl (z_vI (z_is hb ccX29) (z29_placeClass hG hb) (by omega) (z_vI (z_is hb ccX29) (z29_method hG hb) (by omega) ⟨B 100 0 0, rfl, R.isM, z_c (z4_spots hG hw R.1 hk hm) (by omega) (by show 1 + (zspots σ k m).length + zgc (zspots σ k m).length ≤ (zspots σ k m).length + zgc (zspots σ k m).length + 2; omega) (by show 3 + 4 * (zspots σ k m).length + zgs (zspots σ k m).length ≤ 4 * (zspots σ k m).length + zgs (zspots σ k m).length + 7; omega) ?_⟩)))
  rintro z h1 ⟨sl, xs, rfl, f1, S1, k1⟩
  have hl1 := S1.2.1
  refine Or.inl ⟨_, rfl, S1.1.iter hG (by omega) (by show 1 ≤ (zspots σ k m).length + zgc (zspots σ k m).length + 2 - (1 + (zspots σ k m).length + zgc (zspots σ k m).length); omega) (by show 4 ≤ 4 * (zspots σ k m).length + zgs (zspots σ k m).length + 7 - (3 + 4 * (zspots σ k m).length + zgs (zspots σ k m).length); omega) (fun it h2 f2 k2 I2 => ?_)⟩
  have f2 : h1 it = none := f2
  have k2 : kp kn h1 h2 := k2
  refine z_loopI p (fun i u w => u = (some D.1, some b, nI n, some it) ∧ kp kn h1 w.1 ∧ zIt w.1 it sl (148, 0, 0, 0) xs i) ⟨rfl, k2, I2⟩ (fun i j a w _ _ hi hj => zIt.unique (by omega) hi.2.2 hj.2.2) ?_
  rintro K i _ w hi ⟨rfl, kw, Iw⟩ hK
  refine Iw.has hG (by omega) ⟨fun q => ?_, fun _ => ?_⟩
  · have e : i = xs.length := by
      by_cases e : i = xs.length
      · exact e
      · rw [if_neg e] at q; exact absurd q (by decide)
    omega
  · have hx : (zspots σ k m)[i]? = some (zspots σ k m)[i] := List.getElem?_eq_getElem (by omega)
    generalize (zspots σ k m)[i] = sp at hx
    obtain ⟨o3, o4⟩ := zspots_ok hw hk hm (List.mem_of_getElem? hx)
    obtain ⟨c, c1, c2⟩ := S1.2.2 i sp hx
    refine Iw.next hG c1 (by omega) (fun h3 k3 I3 => ?_)
    have k03 : kp kn h1 h3 := fun d z hd _ => k3 d z (kn.at kw hd) (fun q => z_nw f2 hd q)
    have kh : kp kn h h3 := k1.trans k03
    have hb3 := kn.at kh hb
    have hc3 := kn.at k03 c2
    have R3 := R.keepn kh
    have nx : i < p → K (some D.1, some b, nI n, some it) (h3, w.2) := fun hlt => hK _ _ hlt ⟨rfl, k03, I3⟩
    refine z_cc (z_is hc3 ccX20) (z_vI (z_is hc3 ccX20) (z20_kind hG hc3 o3) (by omega) (z_vI (z_is hb3 ccX29) (z29_kind hG hb3 o1) (by omega) ⟨fun q => nx ?_, fun q => z_vI (z_is hc3 ccX20) (z20_index hG hc3) (by omega) (z_vI (z_is hb3 ccX29) (z29_index hG hb3) (by omega) ⟨fun q2 => nx ?_, fun q2 => ?_⟩)⟩))
    · rcases Nat.lt_or_ge i p with h9 | h9
      · exact h9
      · have : i = p := by omega
        subst this
        rw [hsp0] at hx
        cases hx
        exact absurd rfl q
    · rcases Nat.lt_or_ge i p with h9 | h9
      · exact h9
      · have : i = p := by omega
        subst this
        rw [hsp0] at hx
        cases hx
        exact absurd rfl q2
    · have hip : i = p := by
        rcases Nat.lt_or_ge i p with h9 | h9
        · exact absurd ⟨q, q2⟩ (zspots_uq hw hk hm hx hsp0 h9)
        · omega
      subst hip
      rw [hsp0] at hx
      cases hx
      obtain ⟨f6, m6, u6⟩ := id R3.1.2.2.2.2.2.2.2.1
      refine z_gA R3.2.1 rfl (z_vI (z_is hb3 ccX29) (z29_placeClass hG hb3) (by omega) (z_vI (z_is hb3 ccX29) (z29_method hG hb3) (by omega) (z_gA R3.2.1 rfl (z_gA R3.1.1 rfl (z_li m6 (by omega) (by decide) ?_)))))
      rw [u6 n _ (zadv_get hn)]
      exact z_vI R3.isM (z4_matches hG hw ht R3.1 hk hm hc3 o3 o4 _ hap) (by omega) ⟨zat_n _, rfl, kh⟩
-- ===== isTaken =====
/-- where a point stands -/
def zQx (σ : zS) (pl : Option (Nat × Nat × Nat)) (c pc mm ix : Int32) : Prop := match pl with
  | none => pc = -1
  | some (k, m, p) => k < zn σ ∧ m < 6 ∧ p < (zspots σ k m).length ∧ pc = nI k ∧ mm = nI m ∧ ix = (zspot σ k m p).2.2.2 ∧ c = (zspot σ k m p).1
/-- what asking a place costs, at most -/
def zcpo (σ : zS) (wov : Bool) (cp : Nat × Nat) : Prop := wov = true → ∀ k m, k < zn σ → m < 6 → (zspots σ k m).length + zgc (zspots σ k m).length + 2 ≤ cp.1 ∧ 4 * (zspots σ k m).length + zgs (zspots σ k m).length + 7 ≤ cp.2
def ztk (σ : zS) (wov : Bool) (pl : Option (Nat × Nat × Nat)) (l : List zIn) (n : Nat) : Bool := match ztold σ wov pl n with
  | some b => b
  | none => zhold σ (zadv σ n).2.2.1 l
theorem ztakes_k {pl : Option (Nat × Nat × Nat)} : ztakes σ wov pl l n = ((zadv σ n).2.2.2.2.2 && ztk σ wov pl l n) := rfl
variable {i : zIn} {pl : Option (Nat × Nat × Nat)} {mm ix hd : Int32}
theorem z26_t26 (hG : wv_G0 G) (hw : zwf σ) (R : zTS G B σ th L D wov (b :: ps) (i :: l) T s w.1) (hb : w.1 b = some ((143, 0, 0, 0), zpnO i.1 i.2.1 (nI i.2.2.1) i.2.2.2.1 mm ix i.2.2.2.2 hd)) (hh : ∀ n, n < σ.2.1.length → zb hd n = zhold σ n (i :: l)) (hn : n < σ.2.2.1.length) (k0 : kp (zSD D T) h w.1) (hT : ztold σ wov pl n = none) (hf : 1 ≤ fr) :
    vc_X26_isTaken_26 G fr (fun y h' => y = .inl (some (.int (zbI (ztk σ wov pl (i :: l) n)))) ∧ zTS G B σ th L D wov (b :: ps) (i :: l) T (zRq (if (ztold σ wov pl n).isNone = true then 1 else 0) s) h' ∧ kp (zSD D T) h h') (some D.1) (some b) (nI n) 109 w := by
  have h24 := hw.2.2.1
  have h12 := hw.2.2.2.2.1
  have hap := (zadv_ok hw hn).2.2.1
  refine ⟨fun _ => ?_, fun q => absurd rfl q⟩
  refine z_gA R.2.1 rfl (z_gI R.2.2.1 rfl (z_pt R.2.2.1 (by decide) (by simp) ?_))
  obtain ⟨R1, k1⟩ := R.res (s' := zRq 1 s) rfl R.2.2.2.2.2.2.2.2
  have e9 : wv_up w.1 D.2.1 ((130, 0, 0, 0), wo_o ciX5 ([va_rf (some D.2.2.2.2), .int 32, .int 0, .int (nI s.1), .int (nI s.2.1)].set 4 (.int (nI s.2.1 + 1)))) = wv_up w.1 D.2.1 ((130, 0, 0, 0), zDq D (zRq 1 s)) := by
    rw [← nI_succ]
    rfl
  rw [e9]
  generalize wv_up w.1 D.2.1 ((130, 0, 0, 0), zDq D (zRq 1 s)) = h1 at R1 k1 ⊢
  have hb1 : h1 b = some ((143, 0, 0, 0), zpnO i.1 i.2.1 (nI i.2.2.1) i.2.2.2.1 mm ix i.2.2.2.2 hd) := k1 _ _ hb (zSD_n 143 (by decide) rfl)
  obtain ⟨f6, m6, u6⟩ := id R1.1.2.2.2.2.2.2.2.1
  refine z_vI (z_is hb1 ccX29) (z29_held hG hb1) (by omega) (z_gA R1.2.1 rfl (z_gA R1.1.1 rfl (z_li m6 (by omega) (by decide) ?_)))
  rw [u6 n _ (zadv_get hn)]
  refine z_vI R1.is (z26_isBit hG (by omega) hd) (by omega) ⟨zbI_n _, ?_, ?_, k0.trans k1⟩
  · unfold ztk
    rw [hT, hh _ hap]
  · rw [hT]
    exact R1
theorem z26_isTaken (hG : wv_G0 G) (hw : zwf σ) (ht : zwt σ) (hcp : zcpo σ wov cp) (R : zTS G B σ th L D wov (b :: ps) (i :: l) T s h) (hb : h b = some ((143, 0, 0, 0), zpnO i.1 i.2.1 (nI i.2.2.1) i.2.2.2.1 mm ix i.2.2.2.2 hd)) (hh : ∀ n, n < σ.2.1.length → zb hd n = zhold σ n (i :: l)) (hq : zQx σ pl i.1 i.2.2.2.1 mm ix) (hn : n < σ.2.2.1.length) :
    wv_C G yX26_isTaken [.ref D.1, .ref b, .int (nI n)] h 29 cp.1 cp.2 (fun y h' => y = .inl (some (.int (zbI (ztk σ wov pl (i :: l) n)))) ∧ zTS G B σ th L D wov (b :: ps) (i :: l) T (zRq (if (ztold σ wov pl n).isNone = true then 1 else 0) s) h' ∧ kp (zSD D T) h h') := by
  have h6 := hw.1
  refine wk_X26_isTaken (v0 := some D.1) (v1 := some b) hG (z_gI R.2.1 rfl ?_)
  cases wov with
  | false => exact ⟨fun _ => z26_t26 hG hw R hb hh hn (kp.refl _) rfl (by omega), fun q => absurd rfl q⟩
  | true =>
    refine ⟨fun q => absurd q (show ¬ (1 : Int32) = 0 by decide), fun _ => z_vI (z_is hb ccX29) (z29_placeClass hG hb) (by omega) ?_⟩
    cases pl with
    | none =>
      have hq : i.2.2.2.1 = -1 := hq
      exact ⟨fun _ => z26_t26 hG hw R hb hh hn (kp.refl _) rfl (by omega), fun q => absurd hq q⟩
    | some z =>
      obtain ⟨k, m, p⟩ := z
      obtain ⟨hk, hm, hp, q1, q2, q3, q4⟩ := hq
      obtain ⟨c1, c2⟩ := hcp rfl k m hk hm
      refine ⟨fun q => absurd (q1.symm.trans q) (nI_m1 (by omega)), fun _ => ?_⟩
      have hb2 : h b = some ((143, 0, 0, 0), zpnO (zspot σ k m p).1 i.2.1 (nI i.2.2.1) (nI k) (nI m) (zspot σ k m p).2.2.2 i.2.2.2.2 hd) := by
        rw [← q1, ← q2, ← q3, ← q4]
        exact hb
      refine ⟨D.1, rfl, R.is, z_c (z26_spotMatch hG hw ht R hk hm hp hb2 hn) (by omega) c1 c2 ?_⟩
      rintro y h1 ⟨rfl, k1⟩
      refine Or.inl ⟨_, rfl, ?_⟩
      have R1 := R.keepn k1
      by_cases e : zat σ (zpl σ k m p) (zadv σ n).2.2.1 = 109
      · have hT : ztold σ true (some (k, m, p)) n = none := if_pos e
        rw [e]
        exact z26_t26 hG hw R1 (kn.at k1 hb) hh hn (kn.to k1) hT (by omega)
      · have hT : ztold σ true (some (k, m, p)) n = some (decide (zat σ (zpl σ k m p) (zadv σ n).2.2.1 = 121)) := if_neg e
        refine ⟨fun q => absurd q e, fun _ => ⟨fun q => ⟨rfl, ?_, ?_, kn.to k1⟩, fun q => ⟨rfl, ?_, ?_, kn.to k1⟩⟩⟩
        · unfold ztk
          rw [hT, decide_eq_false q]
          rfl
        · rw [hT]
          exact R1
        · unfold ztk
          rw [hT, decide_eq_true q]
          rfl
        · rw [hT]
          exact R1
end ZTV
