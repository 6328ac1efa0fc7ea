/-! THE REFERENCE: handlers; a step -/
section ZTZ
variable {G : wv_G} {B B' : zA} {σ σ' : zS} {h h0 h1 h2 h' : wv_H} {w : wv_W} {fr fr' kc ks : Nat} {P : wv_R → wv_H → Prop} {KX : String → Nat → wv_W → Prop} {a b L : Nat} {t : wv_T} {n k m p i : Nat} {ps : List Nat} {l : List zIn} {th : Int32} {wov : Bool} {s s1 s2 s' : zR} {cp : Nat × Nat} {D : zD} {T : Nat × Nat × Nat}
variable {F d : Nat} {Q : zX × zR} {v' qc qn v mm ix z : Int32} {pl : Option (Nat × Nat × Nat)} {st : zSt} {body : List zSt}
-- ===== handlers =====
def zhp (body : List zSt) (j : Nat) : Bool := match body[j]? with
  | some st => decide (st.1 = 104)
  | none => false
/-- the handlers among the first steps -/
def zhix (body : List zSt) (i : Nat) : List Nat := (List.range i).filter (zhp body)
def zhl (body : List zSt) (z : Int32) (l : List Nat) : Option Nat := l.foldl (fun f k => match body[k]? with
  | some st => if z ≤ st.2.1 then some k else f
  | none => f) none
theorem zhix_s (i : Nat) : zhix body (i + 1) = zhix body i ++ (if zhp body i = true then [i] else []) := by
  unfold zhix
  rw [List.range_succ, List.filter_append]
  congr 1
  by_cases h : zhp body i = true
  · rw [if_pos h, List.filter_cons_of_pos h]
    rfl
  · rw [if_neg h, List.filter_cons_of_neg h]
    rfl
theorem zhix_lt : ∀ k ∈ zhix body i, k < i ∧ k < body.length := by
  intro k hk
  unfold zhix at hk
  obtain ⟨h1, h2⟩ := List.mem_filter.mp hk
  refine ⟨List.mem_range.mp h1, ?_⟩
  unfold zhp at h2
  cases hb : body[k]? with
  | none => rw [hb] at h2; cases h2
  | some st => exact (List.getElem?_eq_some_iff.mp hb).1
theorem zhix_len (i : Nat) : (zhix body i).length ≤ i := by
  have := List.length_filter_le (zhp body) (List.range i)
  rw [List.length_range] at this
  exact this
theorem zhl_app (l : List Nat) (k : Nat) : zhl body z (l ++ [k]) = (match body[k]? with
  | some st => if z ≤ st.2.1 then some k else zhl body z l
  | none => zhl body z l) := by
  unfold zhl
  rw [List.foldl_append]
  rfl
theorem zhl_hix : ∀ i, zhl body z (zhix body i) = zhandler body z i
  | 0 => rfl
  | i + 1 => by
    have ih := zhl_hix i
    rw [zhix_s, zhandler]
    cases hb : body[i]? with
    | none =>
      have h : ¬ zhp body i = true := by unfold zhp; rw [hb]; decide
      rw [if_neg h, List.append_nil, ih]
    | some st =>
      by_cases h104 : st.1 = 104
      · have h : zhp body i = true := by unfold zhp; rw [hb]; exact decide_eq_true h104
        rw [if_pos h, zhl_app, hb, ih]
        show (if z ≤ st.2.1 then some i else zhandler body z i) = (if st.1 = 104 ∧ z ≤ st.2.1 then some i else zhandler body z i)
        by_cases hz : z ≤ st.2.1
        · rw [if_pos hz, if_pos ⟨h104, hz⟩]
        · rw [if_neg hz, if_neg (fun e => hz e.2)]
      · have h : ¬ zhp body i = true := by unfold zhp; rw [hb]; simp [h104]
        rw [if_neg h, List.append_nil, ih]
        show _ = (if st.1 = 104 ∧ z ≤ st.2.1 then some i else zhandler body z i)
        rw [if_neg (fun e => h104 e.1)]
theorem z26_handler (hG : wv_G0 G) {q hl : Nat} (hM : zMb G B q body h) (h8 : body.length ≤ 8) (hL : zLx h hl (146, 0, 0, 0) ((zhix body i).map (wb G))) (hi : i ≤ 8) (z : Int32) : wv_C G yX26_handler [.ref a, .ref (B 120 q 0), .ref hl, .int z] h 3 1 4 (fun y h' => y = .inl (some (.int (zoN (zhandler body z i)))) ∧ kp kn h h') := by
  have hlen := zhix_len (body := body) i
  refine wk_X26_handler (v0 := some a) (v1 := some (B 120 q 0)) (v2 := some hl) hG (hL.iter hG (by omega) (Nat.le_refl 1) (Nat.le_refl 4) (fun it h1 f1 k1 I1 => ?_))
  have f1 : h it = none := f1
  have k1 : kp kn h h1 := k1
  refine z_loopI (zhix body i).length (fun j u w => u = (some (B 120 q 0), z, zoN (zhl body z ((zhix body i).take j)), some it) ∧ kp kn h w.1 ∧ zIt w.1 it hl (146, 0, 0, 0) ((zhix body i).map (wb G)) j) ⟨rfl, k1, I1⟩ (fun x y u w _ _ hx hy => zIt.unique (by rw [List.length_map]; omega) hx.2.2 hy.2.2) ?_
  rintro K j _ w hj ⟨rfl, kw, Iw⟩ hK
  refine Iw.has hG (by omega) ⟨fun q9 => ?_, fun q9 => ?_⟩
  · have e : j = (zhix body i).length := by
      by_cases e : j = ((zhix body i).map (wb G)).length
      · rw [List.length_map] at e
        exact e
      · rw [if_neg e] at q9; exact absurd q9 (by decide)
    rw [e, List.take_length, zhl_hix]
    exact ⟨rfl, kw⟩
  · have hlt : j < (zhix body i).length := by
      by_cases e : j = ((zhix body i).map (wb G)).length
      · rw [if_pos e] at q9; exact absurd rfl q9
      · rw [List.length_map] at e
        omega
    have hx : (zhix body i)[j]? = some (zhix body i)[j] := List.getElem?_eq_getElem hlt
    have ht := List.take_succ_eq_append_getElem hlt
    generalize (zhix body i)[j] = c at hx ht
    obtain ⟨c1, c2⟩ := zhix_lt c (List.mem_of_getElem? hx)
    have hxw : ((zhix body i).map (wb G))[j]? = some (wb G c) := by rw [List.getElem?_map, hx]; rfl
    refine Iw.next hG hxw (by omega) (fun h2 k2 I2 => ?_)
    have k02 : kp kn h h2 := fun d z hd _ => k2 d z (kn.at kw hd) (fun q => z_nw f1 hd q)
    have hM2 := hM.keep k02 (fun _ _ q => q.elim)
    obtain ⟨o1, -, ⟨fb, bb, vb⟩, -⟩ := hM2
    refine z_cc (wb_is (k := c) (by omega)) (z_vI (wb_is (k := c) (by omega)) (wl_intValue hG (k := c) (by omega)) (by omega) (z_gA o1 rfl (z_li bb (by omega) (by decide) ?_)))
    have hb : body[c]? = some body[c] := List.getElem?_eq_getElem c2
    rw [vb c _ hb]
    have nx : ∀ x : Int32, x = zoN (zhl body z ((zhix body i).take (j + 1))) → K (some (B 120 q 0), z, x, some it) (h2, w.2) := fun x hx => hK _ _ hlt ⟨by rw [hx], k02, I2⟩
    have e9 : zhl body z ((zhix body i).take (j + 1)) = (if z ≤ (body[c]).2.1 then some c else zhl body z ((zhix body i).take j)) := by
      rw [ht, zhl_app, hb]
    refine ⟨fun q8 => nx _ ?_, fun q8 => nx _ ?_⟩
    · rw [e9, if_neg (Int32.not_le.mpr q8)]
    · rw [e9, if_pos (Int32.not_lt.mp q8)]
      rfl
-- ===== where a step's points stand =====
theorem zspot_step {L : Nat} (hi : (zbody σ k m)[i]? = some st) (hL : L < zplaces st) : (zspots σ k m)[zplace (zbody σ k m) i + L]? = (zsp1 i st)[L]? := by
  have hlt := (List.getElem?_eq_some_iff.mp hi).1
  have hp := zplace_lt hi
  rw [zspots_0 (p := zplace (zbody σ k m) i + L) (by omega)]
  have e : zplace (zbody σ k m) i + L = (((zbody σ k m).take i).map zplaces).sum + L + 1 := by
    unfold zplace
    omega
  rw [e, List.getElem?_cons_succ]
  have e2 : zbody σ k m = (zbody σ k m).take i ++ st :: (zbody σ k m).drop (i + 1) := by
    have e3 := List.drop_eq_getElem_cons hlt
    have e4 : (zbody σ k m)[i] = st := by
      have := List.getElem?_eq_getElem hlt
      rw [hi] at this
      exact (Option.some.inj this).symm
    rw [e4] at e3
    rw [← e3, List.take_append_drop]
  have e5 : zsps 0 (zbody σ k m) = zsps 0 ((zbody σ k m).take i) ++ zsps i (st :: (zbody σ k m).drop (i + 1)) := by
    have h9 := zsps_app ((zbody σ k m).take i) (st :: (zbody σ k m).drop (i + 1)) 0
    rw [← e2, List.length_take, Nat.min_eq_left (by omega), Nat.zero_add] at h9
    exact h9
  rw [e5, List.getElem?_append_right (by rw [zsps_length]; omega), zsps_length, Nat.add_sub_cancel_left, zsps_at hL]
theorem zQx_of {sp : zSp} (hk : k < zn σ) (hm : m < 6) (hs : (zspots σ k m)[p]? = some sp) : zQx σ (some (k, m, p)) sp.1 (nI k) (nI m) sp.2.2.2 := by
  have e : zspot σ k m p = sp := by
    unfold zspot
    rw [List.getD_eq_getElem?_getD, hs]
    rfl
  refine ⟨hk, hm, (List.getElem?_eq_some_iff.mp hs).1, rfl, rfl, ?_, ?_⟩
  · rw [e]
  · rw [e]
/-- what a point can be -/
def zKq (σ : zS) (qc qn : Int32) (pl : Option (Nat × Nat × Nat)) : Prop := (qc = 99 ∧ ∃ m, m < 6 ∧ qn = nI m) ∨ (qc = 101 ∧ ∃ k m, pl = some (k, m, 0) ∧ k < zn σ ∧ m < 6 ∧ qn = nI m ∧ (zbody σ k m).isEmpty = false) ∨ ((qc = 103 ∨ qc = 115) ∧ ∃ j, j < 4 ∧ qn = nI j) ∨ qc = 109 ∨ qc = 104
/-- points where d more can be open -/
def zPC4 (G : wv_G) (B : zA) (σ : zS) (th : Int32) (L : Nat) (D : zD) (wov : Bool) (cp : Nat × Nat) (d F : Nat) : Prop := ∀ (ps : List Nat) (l : List zIn) (T : Nat × Nat × Nat) (s : zR) (h : wv_H) (qc qn v mm ix : Int32) (pl : Option (Nat × Nat × Nat)), d + ps.length = 20 → wv_fit .char qc → zQx σ pl qc (zinfo (qc, qn, T.2.2, pl) v).2.2.2.1 mm ix → zKq σ qc qn pl → zTS G B σ th L D wov ps l T s h →
  wv_C G yX26_point [.ref D.1, .int qc, .int qn, .ref T.1, .int (zinfo (qc, qn, T.2.2, pl) v).2.2.2.1, .int mm, .int ix, .int v] h F (zdc σ cp s (zpoint σ wov d l (qc, qn, T.2.2, pl) v s).2 - 1) (zds σ cp s (zpoint σ wov d l (qc, qn, T.2.2, pl) v s).2 - 4) (zDo G B σ th L D wov ps l T (zpoint σ wov d l (qc, qn, T.2.2, pl) v s) h)
theorem zsp1_o {x y : Int32} {c : Int32} (hc : c = 99 ∨ c = 103 ∨ c = 115 ∨ c = 104) : zsp1 i (c, x, y) = [(c, x, none, nI i)] := by
  unfold zsp1
  show (if c = 109 then _ else if c = 99 ∨ c = 103 ∨ c = 115 ∨ c = 104 then _ else _) = _
  rw [if_neg (by rcases hc with rfl | rfl | rfl | rfl <;> decide), if_pos hc]
theorem zsp1_m {x y : Int32} : zsp1 i (109, x, y) = [(109, x, some (zAt x), nI i), (99, y, some (zAt x), nI i)] := by
  unfold zsp1
  show (if (109 : Int32) = 109 then _ else _) = _
  rw [if_pos rfl]
/-- a point of a step: the one place that it has -/
theorem z26_84 (hG : wv_G0 G) (hw : zwf σ) (hP : zPC4 G B σ th L D wov cp d F) (hd : d + ps.length = 20) (hk : k < zn σ) (hm : m < 6) {c x y : Int32} (hi : (zbody σ k m)[i]? = some (c, x, y)) (hc : (c = 99 ∧ ∃ m, m < 6 ∧ x = nI m) ∨ ((c = 103 ∨ c = 115) ∧ ∃ j, j < 4 ∧ x = nI j)) (R : zTS G B σ th L D wov ps l T s w.1) (k0 : kp (zSD D T) h w.1) (hf : F < fr)
    (hcc : zdc σ cp s (zpoint σ wov d l (c, x, T.2.2, some (k, m, zplace (zbody σ k m) i)) v s).2 ≤ w.2.1) (hcs : zds σ cp s (zpoint σ wov d l (c, x, T.2.2, some (k, m, zplace (zbody σ k m) i)) v s).2 ≤ w.2.2) :
    vc_X26_step_84 G fr (zDo G B σ th L D wov ps l T (zpoint σ wov d l (c, x, T.2.2, some (k, m, zplace (zbody σ k m) i)) v s) h) (some D.1) (some T.1) (nI k) (nI m) (nI i) v c x w := by
  have hc4 : c = 99 ∨ c = 103 ∨ c = 115 ∨ c = 104 := by
    rcases hc with ⟨e, -⟩ | ⟨e | e, -⟩
    · exact Or.inl e
    · exact Or.inr (Or.inl e)
    · exact Or.inr (Or.inr (Or.inl e))
  have hpl1 : zplaces (c, x, y) = 1 := by
    rcases hc with ⟨e, -⟩ | ⟨e, -⟩
    · subst e
      exact zpls_c
    · exact zpls_gs e
  have hsp : (zspots σ k m)[zplace (zbody σ k m) i]? = some (c, x, none, nI i) := by
    have := zspot_step (L := 0) hi (by rw [hpl1]; decide)
    rw [zsp1_o hc4] at this
    exact this
  have hfit : wv_fit .char c := (zspots_ok hw hk hm (List.mem_of_getElem? hsp)).1
  have hK : zKq σ c x (some (k, m, zplace (zbody σ k m) i)) := by
    rcases hc with e | e
    · exact Or.inl e
    · exact Or.inr (Or.inr (Or.inl e))
  have hC := hP ps l T s w.1 c x v (nI m) (nI i) (some (k, m, zplace (zbody σ k m) i)) hd hfit (zQx_of hk hm hsp) hK R
  exact ⟨D.1, rfl, R.is, z_dPo hC hf (by omega) (by omega) k0⟩
set_option maxHeartbeats 1000000 in
theorem z26_s109 (hG : wv_G0 G) (hw : zwf σ) (hP : zPC4 G B σ th L D wov cp d F) (hd : d + ps.length = 20) (hk : k < zn σ) (hm : m < 6) {n j : Nat} (hi : (zbody σ k m)[i]? = some (109, nI n, nI j)) (hn : n < zn σ) (hj : j < 6) (R : zTS G B σ th L D wov ps l T s w.1) (k0 : kp (zSD D T) h w.1) (hf : F < fr) (hf1 : 1 < fr) (hQ : zdn1 wov (zpoint σ wov d l) T.2.2 k m (zplace (zbody σ k m) i) (109, nI n, nI j) v s = Q) (hcc : zdc σ cp s Q.2 ≤ w.2.1) (hcs : zds σ cp s Q.2 ≤ w.2.2) :
    vc_X26_step_63 G fr (zDo G B σ th L D wov ps l T Q h) (some D.1) (some T.1) (nI k) (nI m) (some (B 120 (6 * k + m) 0)) (nI i) v 109 (nI n) w := by
  have h6 := hw.1
  have h8 := zbody_le hw hk hm
  have hil := (List.getElem?_eq_some_iff.mp hi).1
  have hz : zAt (nI n) = n := zAt_nI (by omega)
  rw [zdn1_m, hz] at hQ
  have hne : (zbody σ k m).isEmpty = false := by
    cases he : (zbody σ k m).isEmpty with
    | false => rfl
    | true =>
      rw [List.isEmpty_iff] at he
      rw [he] at hil
      exact absurd hil (Nat.not_lt_zero _)
  have hs0 : (zspots σ k m)[zplace (zbody σ k m) i]? = some (109, nI n, some (zAt (nI n)), nI i) := by
    have := zspot_step (L := 0) hi (by rw [zpls_m]; decide)
    rw [zsp1_m] at this
    exact this
  have hs1 : (zspots σ k m)[zplace (zbody σ k m) i + 1]? = some (99, nI j, some (zAt (nI n)), nI i) := by
    have := zspot_step (L := 1) hi (by rw [zpls_m]; decide)
    rw [zsp1_m] at this
    exact this
  obtain ⟨w1, cc, cs⟩ := w
  have R : zTS G B σ th L D wov ps l T s w1 := R
  have k0 : kp (zSD D T) h w1 := k0
  have hcc : zdc σ cp s Q.2 ≤ cc := hcc
  have hcs : zds σ cp s Q.2 ≤ cs := hcs
  have x3 : zdl σ cp s (zRF (fun _ => 0) (zRm s)) := (zdl_m s).1
  have x1 : zdc σ cp s (zRF (fun _ => 0) (zRm s)) = 2 := (zdl_m (σ := σ) (cp := cp) s).2.1
  have x2 : zds σ cp s (zRF (fun _ => 0) (zRm s)) = 6 := (zdl_m (σ := σ) (cp := cp) s).2.2
  obtain ⟨b1, b2⟩ := zdc_point (σ := σ) (cp := cp) wov d l (109, nI n, n, some (k, m, zplace (zbody σ k m) i)) v (zRF (fun _ => 0) (zRm s))
  have m2 := zdl_point (σ := σ) (cp := cp) wov d l (109, nI n, n, some (k, m, zplace (zbody σ k m) i)) v (zRF (fun _ => 0) (zRm s))
  have ec := zdc_add x3 m2
  have es := zds_add x3 m2
  rw [x1] at ec
  rw [x2] at es
  have hP1 := fun (T' : Nat × Nat × Nat) (h9 : wv_H) (R9 : zTS G B σ th L D wov ps l T' (zRF (fun _ => 0) (zRm s)) h9) (e9 : T'.2.2 = n) => hP ps l T' (zRF (fun _ => 0) (zRm s)) h9 109 (nI n) v (nI m) (nI i) (some (k, m, zplace (zbody σ k m) i)) hd ⟨rfl, rfl⟩ (zQx_of hk hm hs0) (Or.inr (Or.inr (Or.inr (Or.inl rfl)))) R9
  generalize hq : zpoint σ wov d l (109, nI n, n, some (k, m, zplace (zbody σ k m) i)) v (zRF (fun _ => 0) (zRm s)) = q at hQ m2 ec es b1 b2
  obtain ⟨X, S⟩ := q
  have m2 : zdl σ cp (zRF (fun _ => 0) (zRm s)) S := m2
  have ec : 2 + zdc σ cp (zRF (fun _ => 0) (zRm s)) S = zdc σ cp s S := ec
  have es : 6 + zds σ cp (zRF (fun _ => 0) (zRm s)) S = zds σ cp s S := es
  have b1 : 2 ≤ zdc σ cp (zRF (fun _ => 0) (zRm s)) S := b1
  have b2 : 11 ≤ zds σ cp (zRF (fun _ => 0) (zRm s)) S := b2
  -- the second point's cost
  have c12 : zdl σ cp S Q.2 := by
    cases X with
    | inl v1 =>
      rw [← hQ]
      exact zdl_point (σ := σ) (cp := cp) wov d l (99, nI j, n, some (k, m, zplace (zbody σ k m) i + 1)) v1 (zRk wov k m (zplace (zbody σ k m) i + 1) S)
    | inr o =>
      rw [← hQ]
      exact zdl.refl S
  have ec2 := zdc_add (x3.trans m2) c12
  have es2 := zds_add (x3.trans m2) c12
  refine ⟨fun q => absurd q (by decide), fun _ => ⟨fun q => absurd q (by decide), fun _ => ⟨fun _ => ⟨fun _ => ?_, fun q => absurd rfl q⟩, fun q => absurd q (by decide)⟩⟩⟩
  refine z_no (144, 0, 0, 0) (by show 1 ≤ cc; omega) (by show 2 ≤ cs; omega) (fun a ha hb => ?_)
  have ha : w1 a = none := ha
  refine ⟨a, rfl, z_c (z27_init hG ha) (by omega) (by show 1 ≤ cc - 1; omega) (by show 4 ≤ cs - 2; omega) ?_⟩
  rintro y9 h2 ⟨rfl, ar, hne2, har, d1, d2, k2⟩
  refine Or.inl ⟨rfl, ?_⟩
  have R2 := R.keepn k2
  have T2 : zTg G σ (a, ar, n) (fun _ => 0) h2 := ⟨hn, d1, d2⟩
  have R3 : zTS G B σ th L D wov ps l (a, ar, n) (zRF (fun _ => 0) (zRm s)) h2 := R2.other T2
  have hT := R.2.2.2.2.2.2.2.1
  have hC := hP1 (a, ar, n) h2 R3 rfl
  replace hC : wv_C G yX26_point [.ref D.1, .int 109, .int (nI n), .ref a, .int (nI k), .int (nI m), .int (nI i), .int v] h2 F _ _ (zDo G B σ th L D wov ps l (a, ar, n) (zpoint σ wov d l (109, nI n, n, some (k, m, zplace (zbody σ k m) i)) v (zRF (fun _ => 0) (zRm s))) h2) := hC
  rw [hq] at hC
  refine ⟨D.1, rfl, R3.is, ?_⟩
  cases X with
  | inr o =>
    have hQ : (.inr o, zRF s.2.2.2.1 S) = Q := hQ
    subst hQ
    have ec2 : _ + zdc σ cp S S = zdc σ cp s S := ec2
    have hcc : zdc σ cp s S ≤ cc := hcc
    have hcs : zds σ cp s S ≤ cs := hcs
    refine z_dPr hC hf (by show zdc σ cp (zRF (fun _ => 0) (zRm s)) S - 1 ≤ cc - 1 - 1; omega) (by show zds σ cp (zRF (fun _ => 0) (zRm s)) S - 4 ≤ cs - 2 - 4; omega) (fun x h3 R4 k4 ex => ?_)
    exact ⟨R4.other (hT.old (T' := (a, ar, n)) har k2 k4), k0.trans (zSD_old (T' := (a, ar, n)) har k2 k4), x, rfl, ex⟩
  | inl v1 =>
    have hQ : ((zpoint σ wov d l (99, nI j, n, some (k, m, zplace (zbody σ k m) i + 1)) v1 (zRk wov k m (zplace (zbody σ k m) i + 1) S)).1, zRF s.2.2.2.1 (zpoint σ wov d l (99, nI j, n, some (k, m, zplace (zbody σ k m) i + 1)) v1 (zRk wov k m (zplace (zbody σ k m) i + 1) S)).2) = Q := hQ
    refine z_dPl hC hf (by show zdc σ cp (zRF (fun _ => 0) (zRm s)) S - 1 ≤ cc - 1 - 1; omega) (by show zds σ cp (zRF (fun _ => 0) (zRm s)) S - 4 ≤ cs - 2 - 4; omega) (fun h3 R4 k4 => ?_)
    obtain ⟨o1, -, -, ⟨fc, bc, vc⟩⟩ := R4.1.2.2.1 k m (by omega) hm hne
    refine z_gA o1 rfl (z_li bc (by omega) (by decide) ?_)
    rw [vc i _ hi]
    have hC2 := hP ps l (a, ar, n) (zRk wov k m (zplace (zbody σ k m) i + 1) S) h3 99 (nI j) v1 (nI m) (nI i) (some (k, m, zplace (zbody σ k m) i + 1)) hd ⟨rfl, rfl⟩ (zQx_of hk hm hs1) (Or.inl ⟨rfl, j, hj, rfl⟩) R4
    replace hC2 : wv_C G yX26_point [.ref D.1, .int 99, .int (nI j), .ref a, .int (nI k), .int (nI m), .int (nI i), .int v1] h3 F _ _ (zDo G B σ th L D wov ps l (a, ar, n) (zpoint σ wov d l (99, nI j, n, some (k, m, zplace (zbody σ k m) i + 1)) v1 (zRk wov k m (zplace (zbody σ k m) i + 1) S)) h3) := hC2
    generalize zpoint σ wov d l (99, nI j, n, some (k, m, zplace (zbody σ k m) i + 1)) v1 (zRk wov k m (zplace (zbody σ k m) i + 1) S) = q2 at hC2 hQ
    subst hQ
    have ec2 : _ + zdc σ cp S q2.2 = zdc σ cp s q2.2 := ec2
    have es2 : _ + zds σ cp S q2.2 = zds σ cp s q2.2 := es2
    have hcc : zdc σ cp s q2.2 ≤ cc := hcc
    have hcs : zds σ cp s q2.2 ≤ cs := hcs
    refine ⟨D.1, rfl, R4.is, z_dP hC2 hf (by show zdc σ cp S q2.2 - 1 ≤ cc - 1 - 1 - (zdc σ cp (zRF (fun _ => 0) (zRm s)) S - 1); omega) (by show zds σ cp S q2.2 - 4 ≤ cs - 2 - 4 - (zds σ cp (zRF (fun _ => 0) (zRm s)) S - 4); omega) (fun v5 h5 e5 R5 k5 => ?_) (fun o x5 h5 e5 R5 k5 ex5 => ?_)⟩
    · have k9 := k4.trans k5
      refine ⟨R5.other (hT.old (T' := (a, ar, n)) har k2 k9), k0.trans (zSD_old (T' := (a, ar, n)) har k2 k9), ?_⟩
      show zYr4 q2.1 _ _
      rw [e5]
      rfl
    · have k9 := k4.trans k5
      refine ⟨R5.other (hT.old (T' := (a, ar, n)) har k2 k9), k0.trans (zSD_old (T' := (a, ar, n)) har k2 k9), ?_⟩
      show zYr4 q2.1 _ _
      rw [e5]
      exact ⟨x5, rfl, ex5⟩
theorem z26_step (hG : wv_G0 G) (hw : zwf σ) (hP : zPC4 G B σ th L D wov cp d F) (hd : d + ps.length = 20) (hk : k < zn σ) (hm : m < 6) (hi : (zbody σ k m)[i]? = some st) (R : zTS G B σ th L D wov ps l T s h) (hF : 5 < F) (v : Int32) :
    wv_C G yX26_step [.ref D.1, .ref T.1, .int (nI k), .int (nI m), .ref (B 120 (6 * k + m) 0), .int (nI i), .int v] h (F + 1) (zdc σ cp s (zdone wov (zpoint σ wov d l) T.2.2 k m (zplace (zbody σ k m) i) st v s).2) (zds σ cp s (zdone wov (zpoint σ wov d l) T.2.2 k m (zplace (zbody σ k m) i) st v s).2) (zDo G B σ th L D wov ps l T (zdone wov (zpoint σ wov d l) T.2.2 k m (zplace (zbody σ k m) i) st v s) h) := by
  have h6 := hw.1
  have h8 := zbody_le hw hk hm
  have hil := (List.getElem?_eq_some_iff.mp hi).1
  have hok := zsteps_ok hw hk hm hi
  have hne : (zbody σ k m).isEmpty = false := by
    cases he : (zbody σ k m).isEmpty with
    | false => rfl
    | true =>
      rw [List.isEmpty_iff] at he
      rw [he] at hil
      exact absurd hil (Nat.not_lt_zero _)
  obtain ⟨s1, e1, R1, c1, c2⟩ : ∃ s1, (if 0 < zplaces st then zRk wov k m (zplace (zbody σ k m) i) s else s) = s1 ∧ zTS G B σ th L D wov ps l T s1 h ∧ (∀ x, zdc σ cp s x = zdc σ cp s1 x) ∧ (∀ x, zds σ cp s x = zds σ cp s1 x) := by
    refine ⟨_, rfl, ?_⟩
    split
    · exact ⟨R, fun _ => rfl, fun _ => rfl⟩
    · exact ⟨R, fun _ => rfl, fun _ => rfl⟩
  rw [zdone_eq, e1, c1, c2]
  obtain ⟨o1, ⟨fa, ba, va⟩, ⟨fb, bb, vb⟩, ⟨fc, bc, vc⟩⟩ := R.1.2.2.1 k m (by omega) hm hne
  refine wk_X26_step (v0 := some D.1) (v1 := some T.1) (v4 := some (B 120 (6 * k + m) 0)) hG (z_gA o1 rfl (z_li ba (by omega) (by decide) (z_gA o1 rfl (z_li bb (by omega) (by decide) ?_))))
  rw [va i _ hi, vb i _ hi]
  obtain ⟨c, x, y⟩ := st
  dsimp only
  have same : zdn1 wov (zpoint σ wov d l) T.2.2 k m (zplace (zbody σ k m) i) (c, x, y) v s1 = (.inl v, s1) → zDo G B σ th L D wov ps l T (zdn1 wov (zpoint σ wov d l) T.2.2 k m (zplace (zbody σ k m) i) (c, x, y) v s1) h (.inl (some (.int v))) h := fun e => by
    rw [e]
    exact ⟨R1, kp.refl _, rfl⟩
  rcases hok with (q | q | q) | ⟨q, n, hn, q2⟩ | ⟨q, ⟨n, hn, q2⟩, j, hj, q3⟩ | ⟨q, n, hn, q2⟩
  · have q : c = 110 := q
    subst q
    refine ⟨fun e => absurd rfl e, fun _ => ?_⟩
    rw [zdn1_n]
    exact ⟨R1, kp.refl _, rfl⟩
  · have q : c = 116 := q
    subst q
    refine ⟨fun _ => ⟨fun e => absurd rfl e, fun _ => z_gA o1 rfl (z_li bc (by omega) (by decide) ?_)⟩, fun e => absurd e (by decide)⟩
    rw [vc i _ hi]
    refine ⟨fun q => ?_, fun q => ?_⟩
    · have q : v ≤ y := q
      refine ⟨fun e => absurd e (by decide), fun _ => ⟨fun e => absurd e (by decide), fun _ => ⟨fun _ => ⟨fun e => absurd e (by decide), fun _ => same ?_⟩, fun e => absurd e (by decide)⟩⟩⟩
      rw [zdn1_t, if_neg (Int32.not_lt.mpr q)]
    · have q : ¬ v ≤ y := q
      have e : zdn1 wov (zpoint σ wov d l) T.2.2 k m (zplace (zbody σ k m) i) (116, x, y) v s1 = (zraise x, zRe s1) := by
        rw [zdn1_t, if_pos (Int32.not_le.mp q)]
      rw [e]
      obtain ⟨-, g1, g2⟩ := zdl_e (σ := σ) (cp := cp) s1
      exact zraise4 (w := (h, zdc σ cp s1 (zRe s1), zds σ cp s1 (zRe s1))) hG (by omega) (by show 1 ≤ zdc σ cp s1 (zRe s1); omega) (by show 7 ≤ zds σ cp s1 (zRe s1); omega) (fun a h' k ex => ⟨R1.keepn k, kn.to k, a, rfl, ex⟩)
  · have q : c = 104 := q
    subst q
    refine ⟨fun _ => ⟨fun _ => ⟨fun e => absurd e (by decide), fun _ => ⟨fun e => absurd e (by decide), fun _ => ⟨fun _ => ⟨fun e => absurd e (by decide), fun _ => same zdn1_h⟩, fun e => absurd e (by decide)⟩⟩⟩, fun e => absurd e (by decide)⟩, fun e => absurd e (by decide)⟩
  · have q : c = 99 := q
    have q2 : x = nI n := q2
    subst q
    have e : zdn1 wov (zpoint σ wov d l) T.2.2 k m (zplace (zbody σ k m) i) (99, x, y) v s1 = zpoint σ wov d l (99, x, T.2.2, some (k, m, zplace (zbody σ k m) i)) v s1 := zdn1_c
    rw [e]
    have h84 := z26_84 (w := (h, zdc σ cp s1 (zpoint σ wov d l (99, x, T.2.2, some (k, m, zplace (zbody σ k m) i)) v s1).2, zds σ cp s1 (zpoint σ wov d l (99, x, T.2.2, some (k, m, zplace (zbody σ k m) i)) v s1).2)) (fr := F + 1) (v := v) hG hw hP hd hk hm hi (Or.inl ⟨rfl, n, hn, q2⟩) R1 (kp.refl h) (by omega) (Nat.le_refl _) (Nat.le_refl _)
    exact ⟨fun _ => ⟨fun _ => ⟨fun _ => h84, fun e => absurd rfl e⟩, fun e => absurd e (by decide)⟩, fun e => absurd e (by decide)⟩
  · have q : c = 109 := q
    have q2 : x = nI n := q2
    have q3 : y = nI j := q3
    subst q
    subst q2
    subst q3
    generalize hQ : zdn1 wov (zpoint σ wov d l) T.2.2 k m (zplace (zbody σ k m) i) (109, nI n, nI j) v s1 = Q
    generalize hc1 : zdc σ cp s1 Q.2 = g1
    generalize hc2 : zds σ cp s1 Q.2 = g2
    exact ⟨fun _ => ⟨fun _ => z26_s109 (w := (h, g1, g2)) hG hw hP hd hk hm hi hn hj R1 (kp.refl h) (by omega) (by omega) hQ (Nat.le_of_eq hc1) (Nat.le_of_eq hc2), fun e => absurd e (by decide)⟩, fun e => absurd e (by decide)⟩
  · have q : c = 103 ∨ c = 115 := q
    have q2 : x = nI n := q2
    have e : zdn1 wov (zpoint σ wov d l) T.2.2 k m (zplace (zbody σ k m) i) (c, x, y) v s1 = zpoint σ wov d l (c, x, T.2.2, some (k, m, zplace (zbody σ k m) i)) v s1 := zdn1_gs q
    rw [e]
    have h84 := z26_84 (w := (h, zdc σ cp s1 (zpoint σ wov d l (c, x, T.2.2, some (k, m, zplace (zbody σ k m) i)) v s1).2, zds σ cp s1 (zpoint σ wov d l (c, x, T.2.2, some (k, m, zplace (zbody σ k m) i)) v s1).2)) (fr := F + 1) (v := v) hG hw hP hd hk hm hi (Or.inr ⟨q, n, hn, q2⟩) R1 (kp.refl h) (by omega) (Nat.le_refl _) (Nat.le_refl _)
    rcases q with q | q
    · subst q
      exact ⟨fun _ => ⟨fun _ => ⟨fun e => absurd e (by decide), fun _ => ⟨fun _ => h84, fun e => absurd rfl e⟩⟩, fun e => absurd e (by decide)⟩, fun e => absurd e (by decide)⟩
    · subst q
      exact ⟨fun _ => ⟨fun _ => ⟨fun e => absurd e (by decide), fun _ => ⟨fun e => absurd e (by decide), fun _ => ⟨fun e => absurd rfl e, fun _ => h84⟩⟩⟩, fun e => absurd e (by decide)⟩, fun e => absurd e (by decide)⟩
end ZTZ
