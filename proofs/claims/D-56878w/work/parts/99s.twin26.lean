/-! THE REFERENCE: around -/
section ZTW
variable {G : wv_G} {B B' : zA} {σ σ' : zS} {h h0 h1 h2 h' : wv_H} {w : wv_W} {fr fr' kc ks : Nat} {P : wv_R → wv_H → Prop} {KX : String → Nat → wv_W → Prop} {a b L : Nat} {t : wv_T} {n k m p : Nat} {ps : List Nat} {l : List zIn} {th : Int32} {wov : Bool} {s s1 s2 s' : zR} {cp : Nat × Nat} {D : zD} {T : Nat × Nat × Nat}
theorem zTS.keepS {S : Nat → wv_T → Prop} (R : zTS G B σ th L D wov ps l T s h) (k : kp S h h1) (hS : ∀ a t, S a t → ¬ (100 ≤ t.1 ∧ t.1 ≤ 145)) : zTS G B σ th L D wov ps l T s h1 := by
  obtain ⟨r1, r2, r3, r4, r5, r6, r7, r8, r9⟩ := R
  exact ⟨r1.keep k (fun a t q x => hS a t q ⟨by omega, by omega⟩), k _ _ r2 (fun q => hS _ _ q ⟨zle, zle⟩), k _ _ r3 (fun q => hS _ _ q ⟨zle, zle⟩), r4.keep k (fun q => hS _ _ q ⟨zle, zle⟩), r5.keep k (fun q => hS _ _ q ⟨zle, zle⟩), r6.keep k (fun q => hS _ _ q ⟨zle, zle⟩) (fun a t q x => hS a t q ⟨by omega, by omega⟩), r7.keep k (fun a t q x => hS a t q ⟨by omega, by omega⟩), r8.keep k (fun a t q => ⟨fun x => hS a t q ⟨by omega, by omega⟩, fun x => absurd (⟨by omega, by omega⟩ : 100 ≤ t.1 ∧ t.1 ≤ 145) (hS a t q)⟩), r9⟩
theorem zTS.keepA (R : zTS G B σ th L D wov ps l T s h) (k : kp (fun _ t => t.1 = 146) h h1) : zTS G B σ th L D wov ps l T s h1 := R.keepS k (fun _ t q x => by have q : t.1 = 146 := q; omega)
theorem kp.fresh {S : Nat → wv_T → Prop} (k0 : kp S h h1) (f : h a = none) (o : ∀ c, c ≠ a → h2 c = h1 c) : kp S h h2 := by
  intro c z hc hn
  rw [o c (z_nw f hc)]
  exact k0 c z hc hn
theorem kp.freshT {S : Nat → wv_T → Prop} (k0 : kp S h h1) (f : h a = none) (k : kp (zTo a) h1 h2) : kp S h h2 := fun c z hc hn => k c z (k0 c z hc hn) (fun q => z_nw f hc q)
theorem zIt.kp1 {xs : List Nat} {i : Nat} (I : zIt h b a t xs i) (k : kp (zTo b) h h1) : kp (fun _ t => t.1 = 1) h h1 := by
  obtain ⟨md, cap, q, e1, e2, hi⟩ := I
  intro c z hc hn
  refine k c z hc (fun e => ?_)
  have e : c = b := e
  rw [e, e2] at hc
  cases hc
  exact hn rfl
-- ===== the advices of the first aspects =====
def zpre (σ : zS) (j : Nat) : List Nat := ((zord σ).take j).flatMap (fun a => zofA a 0 σ.2.2.1)
theorem zpre_s {j asp : Nat} (hj : (zord σ)[j]? = some asp) : zpre σ (j + 1) = zpre σ j ++ zofA asp 0 σ.2.2.1 := by
  obtain ⟨h1, e1⟩ := List.getElem?_eq_some_iff.mp hj
  unfold zpre
  rw [List.take_succ_eq_append_getElem h1, List.flatMap_append, e1]
  simp
theorem zpre_all : zpre σ (zord σ).length = zoa σ := by
  unfold zpre zoa
  rw [List.take_length]
theorem zpre_le (j : Nat) : (zpre σ j).length ≤ (zoa σ).length := by
  have e : zoa σ = zpre σ j ++ ((zord σ).drop j).flatMap (fun a => zofA a 0 σ.2.2.1) := by
    unfold zpre zoa
    rw [← List.flatMap_append, List.take_append_drop]
  rw [e, List.length_append]
  omega
theorem zpre_lt (j : Nat) : ∀ x ∈ zpre σ j, x < σ.2.2.1.length := by
  intro x hx
  unfold zpre at hx
  obtain ⟨a, -, h2⟩ := List.mem_flatMap.mp hx
  have := (zofA_mem a σ.2.2.1 0 x h2).2
  omega
theorem zofA_take {j n : Nat} {l : List zAd} {x : zAd} (hn : l[n]? = some x) : zofA j 0 (l.take (n + 1)) = zofA j 0 (l.take n) ++ (if x.1 = j then [n] else []) := by
  obtain ⟨h1, e1⟩ := List.getElem?_eq_some_iff.mp hn
  rw [List.take_succ_eq_append_getElem h1, zofA_app, e1, List.length_take, Nat.min_eq_left (by omega), Nat.zero_add]
  congr 1
theorem zofA_pre (j n : Nat) (l : List zAd) : (zofA j 0 (l.take n)).length ≤ (zofA j 0 l).length := by
  have e : zofA j 0 l = zofA j 0 (l.take n) ++ zofA j (0 + (l.take n).length) (l.drop n) := by
    rw [← zofA_app, List.take_append_drop]
  rw [e, List.length_append]
  omega
theorem zasn_app (wov : Bool) (pl : Option (Nat × Nat × Nat)) (l : List Nat) (n : Nat) : zasn σ wov pl (l ++ [n]) = zasn σ wov pl l + (if zasks σ wov pl n = true then 1 else 0) := by
  unfold zasn
  rw [List.filter_append, List.length_append]
  by_cases h : zasks σ wov pl n = true
  · rw [if_pos h, List.filter_cons_of_pos h]
    rfl
  · rw [if_neg h, List.filter_cons_of_neg h]
    rfl
variable {i : zIn} {pl : Option (Nat × Nat × Nat)} {mm ix hd : Int32}
theorem zg_12 {n : Nat} (hn : n ≤ 12) : zgc n ≤ 2 ∧ zgs n ≤ 25 := by
  have h1 := zgc_mono hn (by decide)
  have h2 : zgc 12 = 2 ∧ zgs 12 = 25 := by decide
  omega
set_option maxHeartbeats 1000000 in
theorem z26_around (hG : wv_G0 G) (hw : zwf σ) (ht : zwt σ) (hr : zring σ = false) (hcp : zcpo σ wov cp) (R : zTS G B σ th L D wov (b :: ps) (i :: l) T s h) (hb : h b = some ((143, 0, 0, 0), zpnO i.1 i.2.1 (nI i.2.2.1) i.2.2.2.1 mm ix i.2.2.2.2 hd)) (hh : ∀ n, n < σ.2.1.length → zb hd n = zhold σ n (i :: l)) (hq : zQx σ pl i.1 i.2.2.2.1 mm ix) :
    wv_C G yX26_around [.ref D.1, .ref b] h 30 (4 + cp.1 * σ.2.2.1.length) (32 + cp.2 * σ.2.2.1.length) (fun y h' => ∃ al, y = .inl (some (va_rf (some al))) ∧ h al = none ∧ zLx h' al (147, 0, 0, 0) (((zoa σ).filter (ztakes σ wov pl (i :: l))).map (wb G)) ∧ zTS G B σ th L D wov (b :: ps) (i :: l) T (zRq (zasn σ wov pl (zoa σ)) s) h' ∧ kp (zSD D T) h h') := by
  have h12 := hw.2.2.2.2.1
  have hN := zoa_len hw hr
  have hwb : ∀ {h9 : wv_H} {z : Nat}, z ≤ 127 → wl_el G h9 (wb G z) := fun hz => z_el (wb_is hz) q2624
  refine wk_X26_around (v0 := some D.1) (v1 := some b) hG (zlst hG (147, 0, 0, 0) (Nat.succ_ne_zero _) (by omega) (by show 1 ≤ 4 + cp.1 * σ.2.2.1.length; omega) (by show 3 ≤ 32 + cp.2 * σ.2.2.1.length; omega) (fun al h1 f1 k1 d1 => ?_))
  have f1 : h al = none := f1
  have k1 : kp kn h h1 := k1
  have R1 := R.keepn k1
  refine z_gA R1.2.1 rfl (R1.2.2.2.2.1.iter hG (by omega) (by show 1 ≤ 4 + cp.1 * σ.2.2.1.length - 1; omega) (by show 4 ≤ 32 + cp.2 * σ.2.2.1.length - 3; omega) (fun it h2 f2 k2 I2 => ?_))
  have f2 : h1 it = none := f2
  have k2 : kp kn h1 h2 := k2
  have f20 : h it = none := by
    cases e : h it with
    | none => rfl
    | some z => rw [kn.at k1 e] at f2; cases f2
  have hne : al ≠ it := fun q => by rw [← q, d1] at f2; cases f2
  have L2 : zLx h2 al (147, 0, 0, 0) [] := (zLx.nil d1).keep k2 (fun q => q)
  have hz0 : zRq (zasn σ wov pl (zpre σ 0)) s = s := by
    show zRq 0 s = s
    rfl
  refine z_loopI (zord σ).length (fun j u w => u = (some D.1, some b, some al, some it) ∧ zTS G B σ th L D wov (b :: ps) (i :: l) T (zRq (zasn σ wov pl (zpre σ j)) s) w.1 ∧ kp (zSD D T) h w.1 ∧ zIt w.1 it D.2.2.2.1 (142, 0, 0, 0) ((zord σ).map (wb G)) j ∧ zLx w.1 al (147, 0, 0, 0) (((zpre σ j).filter (ztakes σ wov pl (i :: l))).map (wb G)) ∧ cp.1 * ((zoa σ).length - (zpre σ j).length) + (2 - zgc (((zpre σ j).filter (ztakes σ wov pl (i :: l))).length)) ≤ w.2.1 ∧ cp.2 * ((zoa σ).length - (zpre σ j).length) + (25 - zgs (((zpre σ j).filter (ztakes σ wov pl (i :: l))).length)) ≤ w.2.2) ⟨rfl, ?_, kn.to (k1.trans k2), I2, L2, ?_, ?_⟩ (fun x y u w _ _ hx hy => zIt.unique (by rw [List.length_map]; have := zord_le (σ := σ); omega) hx.2.2.2.1 hy.2.2.2.1) ?_
  · rw [hz0]
    exact R1.keepn k2
  · show cp.1 * ((zoa σ).length - 0) + (2 - 0) ≤ 4 + cp.1 * σ.2.2.1.length - 1 - 1
    rw [hN, Nat.sub_zero]
    omega
  · show cp.2 * ((zoa σ).length - 0) + (25 - 0) ≤ 32 + cp.2 * σ.2.2.1.length - 3 - 4
    rw [hN, Nat.sub_zero]
    omega
  rintro K j _ w hj ⟨rfl, Rw, kw, Iw, Lw, bc, bs⟩ hK
  refine Iw.has hG (by omega) ⟨fun q => ?_, fun q => ?_⟩
  · have e : j = (zord σ).length := by
      by_cases e : j = ((zord σ).map (wb G)).length
      · rw [List.length_map] at e
        exact e
      · rw [if_neg e] at q; exact absurd q (by decide)
    rw [e, zpre_all] at Rw Lw
    exact ⟨al, rfl, f1, Lw, Rw, kw⟩
  · have hlt : j < (zord σ).length := by
      by_cases e : j = ((zord σ).map (wb G)).length
      · rw [if_pos e] at q; exact absurd rfl q
      · rw [List.length_map] at e
        omega
    have hx : (zord σ)[j]? = some (zord σ)[j] := List.getElem?_eq_getElem hlt
    have hm : (zord σ)[j] ∈ zord σ := List.getElem_mem hlt
    generalize (zord σ)[j] = asp at hx hm
    have hasp : asp < 4 := zT_lt 4 asp hm
    have hxw : ((zord σ).map (wb G))[j]? = some (wb G asp) := by rw [List.getElem?_map, hx]; rfl
    refine Iw.next hG hxw (by omega) (fun h3 k3 I3 => ?_)
    have k31 := Iw.kp1 k3
    have R3 := Rw.keepS k31 (fun _ t q x => by have q : t.1 = 1 := q; omega)
    have kh3 : kp (zSD D T) h h3 := kw.freshT f20 k3
    have L3 := Lw.keep k31 (fun q => absurd q (show ¬ (147 : Nat) = 1 by decide))
    refine z_cc (wb_is (k := asp) (by omega)) (z_vI (wb_is (k := asp) (by omega)) (wl_intValue hG (k := asp) (by omega)) (by omega) ?_)
    refine z_loop σ.2.2.1.length (by omega) (fun u => u.2.2.2.2.2) (fun n u w => u = (some D.1, some b, some al, some it, nI asp, nI n) ∧ zTS G B σ th L D wov (b :: ps) (i :: l) T (zRq (zasn σ wov pl (zpre σ j ++ zofA asp 0 (σ.2.2.1.take n))) s) w.1 ∧ kp (zSD D T) h w.1 ∧ zIt w.1 it D.2.2.2.1 (142, 0, 0, 0) ((zord σ).map (wb G)) (j + 1) ∧ zLx w.1 al (147, 0, 0, 0) (((zpre σ j ++ zofA asp 0 (σ.2.2.1.take n)).filter (ztakes σ wov pl (i :: l))).map (wb G)) ∧ cp.1 * ((zoa σ).length - (zpre σ j ++ zofA asp 0 (σ.2.2.1.take n)).length) + (2 - zgc (((zpre σ j ++ zofA asp 0 (σ.2.2.1.take n)).filter (ztakes σ wov pl (i :: l))).length)) ≤ w.2.1 ∧ cp.2 * ((zoa σ).length - (zpre σ j ++ zofA asp 0 (σ.2.2.1.take n)).length) + (25 - zgs (((zpre σ j ++ zofA asp 0 (σ.2.2.1.take n)).filter (ztakes σ wov pl (i :: l))).length)) ≤ w.2.2) rfl ⟨rfl, ?_, kh3, I3, ?_, ?_, ?_⟩ ?_
    · rw [List.take_zero]
      show zTS G B σ th L D wov (b :: ps) (i :: l) T (zRq (zasn σ wov pl (zpre σ j ++ [])) s) h3
      rw [List.append_nil]
      exact R3
    · rw [List.take_zero]
      show zLx h3 al (147, 0, 0, 0) (((zpre σ j ++ []).filter (ztakes σ wov pl (i :: l))).map (wb G))
      rw [List.append_nil]
      exact L3
    · rw [List.take_zero]
      show cp.1 * ((zoa σ).length - (zpre σ j ++ []).length) + (2 - zgc (((zpre σ j ++ []).filter (ztakes σ wov pl (i :: l))).length)) ≤ w.2.1
      rw [List.append_nil]
      exact bc
    · rw [List.take_zero]
      show cp.2 * ((zoa σ).length - (zpre σ j ++ []).length) + (25 - zgs (((zpre σ j ++ []).filter (ztakes σ wov pl (i :: l))).length)) ≤ w.2.2
      rw [List.append_nil]
      exact bs
    rintro K2 n _ w2 hn - ⟨rfl, R4, k4, I4, L4, b4c, b4s⟩ hK2
    refine z_gA R4.2.1 rfl (z_gI R4.1.1 rfl (pk_le σ.2.2.1.length n (fun hle => ?_) (fun hlt2 => ?_)))
    · have e : n = σ.2.2.1.length := by omega
      rw [e, List.take_length, ← zpre_s hx] at R4 L4 b4c b4s
      exact hK _ _ hlt ⟨rfl, R4, k4, I4, L4, b4c, b4s⟩
    · have hadv := zadv_get hlt2
      have hT := zofA_take (j := asp) hadv
      have hle1 := zofA_pre asp (n + 1) σ.2.2.1
      have hle2 := zpre_le (σ := σ) (j + 1)
      rw [zpre_s hx, List.length_append] at hle2
      have hmem : ∀ x ∈ zpre σ j ++ zofA asp 0 (σ.2.2.1.take n), x < σ.2.2.1.length := by
        intro x hx9
        rcases List.mem_append.mp hx9 with q9 | q9
        · exact zpre_lt j x q9
        · have := (zofA_mem asp _ 0 x q9).2
          rw [List.length_take] at this
          omega
      -- on to the next advice
      have nxt : ∀ (w5 : wv_W), zTS G B σ th L D wov (b :: ps) (i :: l) T (zRq (zasn σ wov pl (zpre σ j ++ zofA asp 0 (σ.2.2.1.take (n + 1)))) s) w5.1 → kp (zSD D T) h w5.1 → zIt w5.1 it D.2.2.2.1 (142, 0, 0, 0) ((zord σ).map (wb G)) (j + 1) → zLx w5.1 al (147, 0, 0, 0) (((zpre σ j ++ zofA asp 0 (σ.2.2.1.take (n + 1))).filter (ztakes σ wov pl (i :: l))).map (wb G)) → cp.1 * ((zoa σ).length - (zpre σ j ++ zofA asp 0 (σ.2.2.1.take (n + 1))).length) + (2 - zgc (((zpre σ j ++ zofA asp 0 (σ.2.2.1.take (n + 1))).filter (ztakes σ wov pl (i :: l))).length)) ≤ w5.2.1 → cp.2 * ((zoa σ).length - (zpre σ j ++ zofA asp 0 (σ.2.2.1.take (n + 1))).length) + (25 - zgs (((zpre σ j ++ zofA asp 0 (σ.2.2.1.take (n + 1))).filter (ztakes σ wov pl (i :: l))).length)) ≤ w5.2.2 → K2 (some D.1, some b, some al, some it, nI asp, nI n + 1) w5 := by
        intro w5 g1 g2 g3 g4 g5 g6
        rw [← nI_succ]
        exact hK2 _ _ hlt2 rfl ⟨rfl, g1, g2, g3, g4, g5, g6⟩
      rw [hT] at nxt hle1
      rw [List.length_append] at hle1
      generalize hQ : zofA asp 0 (σ.2.2.1.take n) = Q at R4 L4 b4c b4s nxt hmem hle1
      obtain ⟨f11, m11, u11⟩ := id R4.1.2.2.2.2.2.2.2.2.2.2.2.2.1
      obtain ⟨f5, m5, u5⟩ := id R4.1.2.2.2.2.2.2.1
      refine z_gA R4.2.1 rfl (z_gA R4.1.1 rfl (z_li m11 (by omega) (by decide) ?_))
      rw [u11 n _ hadv]
      refine ⟨fun q5 => ?_, fun q5 => ?_⟩
      · -- off
        have q5 := zbI_e0 q5
        have hk9 : ¬ ztakes σ wov pl (i :: l) n = true := by rw [ztakes_k, q5]; simp
        have ha9 : ¬ zasks σ wov pl n = true := by unfold zasks; rw [q5]; simp
        by_cases ea : (zadv σ n).1 = asp
        · rw [if_pos ea] at nxt hle1
          have e1 : (zpre σ j ++ (Q ++ [n])).filter (ztakes σ wov pl (i :: l)) = (zpre σ j ++ Q).filter (ztakes σ wov pl (i :: l)) := by
            rw [← List.append_assoc, List.filter_append, List.filter_cons_of_neg hk9]
            simp
          have e2 : zasn σ wov pl (zpre σ j ++ (Q ++ [n])) = zasn σ wov pl (zpre σ j ++ Q) := by
            rw [← List.append_assoc, zasn_app, if_neg ha9, Nat.add_zero]
          have e3 : (zpre σ j ++ (Q ++ [n])).length = (zpre σ j ++ Q).length + 1 := by rw [← List.append_assoc, List.length_append]; rfl
          rw [e1, e2, e3] at nxt
          have m1 : cp.1 * ((zoa σ).length - ((zpre σ j ++ Q).length + 1)) ≤ cp.1 * ((zoa σ).length - (zpre σ j ++ Q).length) := Nat.mul_le_mul_left _ (by omega)
          have m2 : cp.2 * ((zoa σ).length - ((zpre σ j ++ Q).length + 1)) ≤ cp.2 * ((zoa σ).length - (zpre σ j ++ Q).length) := Nat.mul_le_mul_left _ (by omega)
          exact nxt w2 R4 k4 I4 L4 (by omega) (by omega)
        · rw [if_neg ea, List.append_nil] at nxt
          exact nxt w2 R4 k4 I4 L4 b4c b4s
      · have q5 := zbI_n0 q5
        refine z_gA R4.2.1 rfl (z_gA R4.1.1 rfl (z_li m5 (by omega) (by decide) ?_))
        rw [u5 n _ hadv]
        have ha4 := (zadv_ok hw hlt2).1
        refine ⟨fun q6 => ?_, fun q6 => ?_⟩
        · have ea : ¬ (zadv σ n).1 = asp := fun e => q6 (by rw [e])
          rw [if_neg ea, List.append_nil] at nxt
          exact nxt w2 R4 k4 I4 L4 b4c b4s
        · have ea : (zadv σ n).1 = asp := (nI_eq (a := (zadv σ n).1) (b := asp) (by omega) (by omega)).mp q6
          rw [if_pos ea] at nxt hle1
          have hle3 : (zpre σ j ++ Q).length + 1 ≤ (zoa σ).length := by
            rw [List.length_append]
            have : ([n] : List Nat).length = 1 := rfl
            omega
          have e3 : (zpre σ j ++ (Q ++ [n])).length = (zpre σ j ++ Q).length + 1 := by rw [← List.append_assoc, List.length_append]; rfl
          have e2 : zasn σ wov pl (zpre σ j ++ (Q ++ [n])) = zasn σ wov pl (zpre σ j ++ Q) + (if (ztold σ wov pl n).isNone = true then 1 else 0) := by
            rw [← List.append_assoc, zasn_app]
            unfold zasks
            rw [q5, Bool.true_and]
          have etk : ztakes σ wov pl (i :: l) n = ztk σ wov pl (i :: l) n := by rw [ztakes_k, q5, Bool.true_and]
          rw [e2, e3, ← List.append_assoc] at nxt
          obtain ⟨r, hr9⟩ : ∃ r, (zoa σ).length - (zpre σ j ++ Q).length = r + 1 := ⟨(zoa σ).length - (zpre σ j ++ Q).length - 1, by omega⟩
          have hr8 : (zoa σ).length - ((zpre σ j ++ Q).length + 1) = r := by omega
          rw [hr9, Nat.mul_succ] at b4c b4s
          rw [hr8] at nxt
          have hb4 : w2.1 b = some ((143, 0, 0, 0), zpnO i.1 i.2.1 (nI i.2.2.1) i.2.2.2.1 mm ix i.2.2.2.2 hd) := k4 _ _ hb (zSD_n 143 (by decide) rfl)
          refine ⟨D.1, rfl, R4.is, z_c (z26_isTaken hG hw ht hcp R4 hb4 hh hq hlt2) (by omega) (by omega) (by omega) ?_⟩
          rintro y h6 ⟨rfl, R6, k6⟩
          have I6 := I4.keep k6 (zSD_n 142 (by decide) rfl) (zSD_n 1 (by decide) rfl)
          have L6 := L4.keep k6 (zSD_n 147 (by decide) rfl)
          have kh6 := k4.trans k6
          refine Or.inl ⟨_, rfl, ?_⟩
          have hR6 : zTS G B σ th L D wov (b :: ps) (i :: l) T (zRq (zasn σ wov pl (zpre σ j ++ Q) + (if (ztold σ wov pl n).isNone = true then 1 else 0)) s) h6 := by
            have e : zRq (zasn σ wov pl (zpre σ j ++ Q) + (if (ztold σ wov pl n).isNone = true then 1 else 0)) s = zRq (if (ztold σ wov pl n).isNone = true then 1 else 0) (zRq (zasn σ wov pl (zpre σ j ++ Q)) s) := by
              unfold zRq
              show _ = (_, _ + _ + _, _)
              rw [Nat.add_assoc]
            rw [e]
            exact R6
          cases hk9 : ztk σ wov pl (i :: l) n with
          | false =>
            have e1 : (zpre σ j ++ Q ++ [n]).filter (ztakes σ wov pl (i :: l)) = (zpre σ j ++ Q).filter (ztakes σ wov pl (i :: l)) := by
              rw [List.filter_append, List.filter_cons_of_neg (by rw [etk, hk9]; decide)]
              simp
            rw [e1] at nxt
            refine ⟨fun _ => nxt _ hR6 kh6 I6 L6 ?_ ?_, fun q => absurd rfl q⟩
            · show _ ≤ w2.2.1 - cp.1
              omega
            · show _ ≤ w2.2.2 - cp.2
              omega
          | true =>
            have e1 : (zpre σ j ++ Q ++ [n]).filter (ztakes σ wov pl (i :: l)) = (zpre σ j ++ Q).filter (ztakes σ wov pl (i :: l)) ++ [n] := by
              rw [List.filter_append, List.filter_cons_of_pos (by rw [etk, hk9])]
              rfl
            have e4 : ((zpre σ j ++ Q ++ [n]).filter (ztakes σ wov pl (i :: l))).length = ((zpre σ j ++ Q).filter (ztakes σ wov pl (i :: l))).length + 1 := by rw [e1, List.length_append]; rfl
            have hfl := List.length_filter_le (ztakes σ wov pl (i :: l)) (zpre σ j ++ Q)
            have g1 := zg_12 (n := ((zpre σ j ++ Q).filter (ztakes σ wov pl (i :: l))).length + 1) (by omega)
            have g2 := zgc_le (n := ((zpre σ j ++ Q).filter (ztakes σ wov pl (i :: l))).length) (by omega)
            rw [e4] at nxt
            rw [e1, List.map_append] at nxt
            have hel : ∀ x ∈ ((zpre σ j ++ Q).filter (ztakes σ wov pl (i :: l))).map (wb G), wl_el G h6 x := by
              intro x hx9
              obtain ⟨z, hz, rfl⟩ := List.mem_map.mp hx9
              have := hmem z (List.mem_filter.mp hz).1
              exact hwb (by omega)
            generalize hlq : ((zpre σ j ++ Q).filter (ztakes σ wov pl (i :: l))).length = q at b4c b4s g1 g2 nxt hfl
            have hml : (((zpre σ j ++ Q).filter (ztakes σ wov pl (i :: l))).map (wb G)).length = q := by rw [List.length_map, hlq]
            refine ⟨fun q => absurd q (by decide), fun _ => z_cA (wl_valueOf hG (k := n) (by omega)) (by omega) (L6.cadd hG (hwb (by omega)) hel (by rw [hml]; omega) (by omega) ?_ ?_ (fun h7 L7 o7 => ?_))⟩
            · rw [hml]
              show _ ≤ w2.2.1 - cp.1
              omega
            · rw [hml]
              show _ ≤ w2.2.2 - cp.2
              omega
            · rw [hml]
              obtain ⟨md, l9⟩ := id L6
              have k7 : kp (fun _ t => t.1 = 147) h6 h7 := kp.of l9 rfl o7
              refine nxt _ (hR6.keepS k7 (fun _ t q x => by have q : t.1 = 147 := q; omega)) (kh6.fresh f1 o7) (I6.keep k7 (fun q => absurd q (show ¬ (142 : Nat) = 147 by decide)) (fun q => absurd q (show ¬ (1 : Nat) = 147 by decide))) L7 ?_ ?_
              · show _ ≤ w2.2.1 - cp.1 - (zgc (q + 1) - zgc q)
                omega
              · show _ ≤ w2.2.2 - cp.2 - (zgs (q + 1) - zgs q)
                omega
end ZTW
