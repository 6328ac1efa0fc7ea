/-! THE REFERENCE: the places of a body, made -/
section ZTG
variable {G : wv_G} {A B B' : zA} {σ σ' : zS} {h h0 h1 h2 h' : wv_H} {w : wv_W} {fr fr' kc ks : Nat} {P : wv_R → wv_H → Prop} {KX : String → Nat → wv_W → Prop} {sl L a b : Nat} {k m r i j : Nat} {t : wv_T} {x y v th : Int32} {xs : List Nat} {sps : List zSp} {st : zSt}
theorem zsp1_1 (hc : st.1 = 99 ∨ st.1 = 103 ∨ st.1 = 115 ∨ st.1 = 104) : zsp1 i st = [(st.1, st.2.1, none, nI i)] := by
  unfold zsp1
  rw [if_neg (by rcases hc with e | e | e | e <;> rw [e] <;> decide), if_pos hc]
theorem zsp1_2 (hc : st.1 = 109) : zsp1 i st = [(109, st.2.1, some (zAt st.2.1), nI i), (99, st.2.2, some (zAt st.2.1), nI i)] := by
  unfold zsp1
  rw [if_pos hc]
theorem zsp1_0 (h1 : ¬ st.1 = 109) (hc : ¬ (st.1 = 99 ∨ st.1 = 103 ∨ st.1 = 115 ∨ st.1 = 104)) : zsp1 i st = [] := by
  unfold zsp1
  rw [if_neg h1, if_neg hc]
theorem zl4_k (c : Int32) : [99, 103, 115, 104].contains c = true ↔ (c = 99 ∨ c = 103 ∨ c = 115 ∨ c = 104) := by
  rw [List.contains_iff_mem]
  simp only [List.mem_cons, List.not_mem_nil, or_false]
theorem zSL.pushM (hG : wv_G0 G) (S : zSL h sl xs sps) (ha : h a = none) {sp : zSp} {mk : Int32} (hmk : zoN sp.2.2.1 = mk) (hfit : wv_fit .char sp.1) (hlen : sps.length < 30) {cc cs : Nat} {K : wv_W → Prop} (hf : 6 < fr) (hc : zgc (sps.length + 1) - zgc sps.length ≤ cc) (hs : zgs (sps.length + 1) - zgs sps.length ≤ cs)
    (hK : ∀ h', zSL h' sl (xs ++ [a]) (sps ++ [sp]) → kp (zTo sl) h h' → K (h', cc - (zgc (sps.length + 1) - zgc sps.length), cs - (zgs (sps.length + 1) - zgs sps.length))) :
    wv_cI G fr yX20_init (some a) [.int sp.1, .int sp.2.1, .int mk, .int sp.2.2.2] (wv_up h a ((149, 0, 0, 0), wo_o ciX20 [.int 0, .int 0, .int 0, .int 0]), cc, cs) (wv_rV (fun w133 => wv_cV G fr yJ2_add (some sl) [va_rf (some a)] w133 (wv_rI (fun x136 w136 => K w136) KX)) KX) := by
  subst hmk
  exact S.push hG ha hfit hlen hf hc hs hK
theorem z4_spots (hG : wv_G0 G) (hw : zwf σ) (M : zMf G B σ th L h) (hk : k < zn σ) (hm : m < 6) : wv_C G yX4_spots [.ref (B 100 0 0), .int (nI k), .int (nI m)] h 7 (1 + (zspots σ k m).length + zgc (zspots σ k m).length) (3 + 4 * (zspots σ k m).length + zgs (zspots σ k m).length) (fun r h' => ∃ sl xs, r = .inl (some (va_rf (some sl))) ∧ h sl = none ∧ zSL h' sl xs (zspots σ k m) ∧ kp kn h h') := by
  have hn6 := hw.1
  have h8 := zbody_le hw hk hm
  have h17 := zspots_le hw (k := k) hm
  generalize hN : zspots σ k m = Z at h17 ⊢
  refine wk_X4_spots (v0 := some (B 100 0 0)) hG (zlst hG (148, 0, 0, 0) (Nat.succ_ne_zero _) (by omega) (by show 1 ≤ 1 + _ + _; omega) (by show 3 ≤ 3 + _ + _; omega) (fun sl h1 f1 k1 d1 => ?_))
  have f1 : h sl = none := f1
  have k1 : kp kn h h1 := k1
  have M1 := M.keepn k1
  refine z_vA M1.is (z4_body hG M1 (k := k) (by omega) hm) (by omega) ?_
  cases hb : (zbody σ k m).isEmpty with
  | true =>
    have hz : Z = [] := by rw [← hN]; unfold zspots; rw [if_pos hb]
    refine ⟨fun q => absurd rfl q, fun _ => ⟨sl, [], rfl, f1, ⟨zLx.nil d1, by rw [hz]; rfl, fun p sp hp => ?_⟩, k1⟩⟩
    rw [hz] at hp
    cases hp
  | false =>
    refine ⟨fun _ => ?_, fun q => by cases q⟩
    have hz : Z = (101, nI m, none, -1) :: zsps 0 (zbody σ k m) := by rw [← hN]; unfold zspots; rw [if_neg (by rw [hb]; decide)]
    have hbM := M.2.2.1 k m (by omega) hm hb
    generalize hl : zbody σ k m = l at hz hbM h8 hb
    have hZl : Z.length = 1 + (zsps 0 l).length := by rw [hz]; exact Nat.add_comm _ _
    have hNi : ∀ i, 1 + (zsps 0 (l.take i)).length ≤ Z.length := by
      intro i
      have e : zsps 0 l = zsps 0 (l.take i) ++ zsps (0 + (l.take i).length) (l.drop i) := by
        rw [← zsps_app, List.take_append_drop]
      rw [hZl, e, List.length_append]
      omega
    have hgm : ∀ n, n ≤ Z.length → zgc n ≤ zgc Z.length ∧ zgs n ≤ zgs Z.length := fun n hn => zgc_mono hn (by omega)
    have hg0 : zgc 0 = 0 ∧ zgs 0 = 0 := by decide
    have S1 : zSL h1 sl [] [] := ⟨zLx.nil d1, rfl, fun p sp hp => by cases hp⟩
    have g1 := hgm 1 (by omega)
    have hg01 := zgc_le (n := 0) (by decide)
    have h01 : zgc (0 + 1) = zgc 1 ∧ zgs (0 + 1) = zgs 1 := ⟨rfl, rfl⟩
    refine z_no (149, 0, 0, 0) (by show 1 ≤ 1 + Z.length + zgc Z.length - 1; omega) (by show 4 ≤ 3 + 4 * Z.length + zgs Z.length - 3; omega) (fun a ha _ => ?_)
    refine S1.push hG (sp := (101, nI m, none, -1)) ha ⟨rfl, rfl⟩ (by decide) (by omega) (by show zgc (0 + 1) - zgc 0 ≤ 1 + Z.length + zgc Z.length - 1 - 1; omega) (by show zgs (0 + 1) - zgs 0 ≤ 3 + 4 * Z.length + zgs Z.length - 3 - 4; omega) (fun h2 S2 k2 => ?_)
    have k12 : kp kn h h2 := fun b z hb _ => k2 b z (kn.at k1 hb) (fun q => z_nw f1 hb q)
    refine z_loop l.length (by omega) (fun u => u.2.2) (fun i u w => u = (some sl, some (B 120 (6 * k + m) 0), nI i) ∧ ∃ xs, zSL w.1 sl xs ((101, nI m, none, -1) :: zsps 0 (l.take i)) ∧ kp kn h w.1 ∧ (Z.length - (1 + (zsps 0 (l.take i)).length)) + (zgc Z.length - zgc (1 + (zsps 0 (l.take i)).length)) ≤ w.2.1 ∧ 4 * (Z.length - (1 + (zsps 0 (l.take i)).length)) + (zgs Z.length - zgs (1 + (zsps 0 (l.take i)).length)) ≤ w.2.2) rfl ⟨rfl, _, S2, k12, ?_, ?_⟩ ?_
    · show (Z.length - 1) + (zgc Z.length - zgc 1) ≤ 1 + Z.length + zgc Z.length - 1 - 1 - (zgc (0 + 1) - zgc 0)
      have : zgc (0 + 1) = zgc 1 := rfl
      omega
    · show 4 * (Z.length - 1) + (zgs Z.length - zgs 1) ≤ 3 + 4 * Z.length + zgs Z.length - 3 - 4 - (zgs (0 + 1) - zgs 0)
      have : zgs (0 + 1) = zgs 1 := rfl
      omega
    · rintro K i _ w hi - ⟨rfl, xs, S, kw, hc, hs⟩ hK
      have hbw := hbM.keep kw (fun _ _ q => q.elim)
      obtain ⟨b0, ⟨fa, ba, va⟩, ⟨fb, bb, vb⟩, ⟨fc, bc, vc⟩⟩ := hbw
      refine z_gI b0 rfl (pk_le l.length i (fun hle => ?_) (fun hlt => ?_))
      · rw [List.take_of_length_le hle, ← hz] at S
        exact ⟨sl, xs, rfl, f1, S, kw⟩
      · have hx : l[i]? = some l[i] := List.getElem?_eq_getElem hlt
        have hok : zstOk (zn σ) l[i] := zsteps_ok hw hk hm (by rw [hl]; exact hx)
        have hT := zsps_take hx
        have hNs := hNi (i + 1)
        rw [hT, List.length_append, ← Nat.add_assoc] at hNs
        have va1 := va i _ hx
        have vb1 := vb i _ hx
        have vc1 := vc i _ hx
        generalize l[i] = st at hx hok hT hNs va1 vb1 vc1
        -- on to the next
        have nxt : ∀ (xs' : List Nat) (w' : wv_W), zSL w'.1 sl xs' (((101, nI m, none, -1) :: zsps 0 (l.take i)) ++ zsp1 i st) → kp kn h w'.1 → (Z.length - (1 + (zsps 0 (l.take i)).length + (zsp1 i st).length)) + (zgc Z.length - zgc (1 + (zsps 0 (l.take i)).length + (zsp1 i st).length)) ≤ w'.2.1 → 4 * (Z.length - (1 + (zsps 0 (l.take i)).length + (zsp1 i st).length)) + (zgs Z.length - zgs (1 + (zsps 0 (l.take i)).length + (zsp1 i st).length)) ≤ w'.2.2 → K (some sl, some (B 120 (6 * k + m) 0), nI i + 1) w' := by
          intro xs' w' S' k' c' s'
          refine hK _ w' hlt ?_ ⟨?_, xs', ?_, k', ?_, ?_⟩
          · show nI i + 1 = _
            rw [← nI_succ]
          · rw [← nI_succ]
          · rw [hT]
            exact S'
          · rw [hT, List.length_append, ← Nat.add_assoc]
            exact c'
          · rw [hT, List.length_append, ← Nat.add_assoc]
            exact s'
        have n0 : ((101, nI m, none, -1) :: zsps 0 (l.take i) : List zSp).length = 1 + (zsps 0 (l.take i)).length := Nat.add_comm _ _
        generalize hq : 1 + (zsps 0 (l.take i)).length = q at hNs hc hs nxt n0
        refine z_gA b0 rfl (z_li ba (by omega) (by decide) ?_)
        rw [va1]
        refine z_cI (z4_isOneOf hG (k := 18) (q := wv_sx.getD 18 (0, [])) rfl (by decide) st.1) (by omega) ⟨fun q1 => ?_, fun q1 => ?_⟩
        · have q1 : ¬ (st.1 = 99 ∨ st.1 = 103 ∨ st.1 = 115 ∨ st.1 = 104) := fun e => by
            have h9 : [99, 103, 115, 104].contains st.1 = false := zbI_e0 q1
            rw [(zl4_k st.1).mpr e] at h9
            cases h9
          refine ⟨fun q2 => ?_, fun q2 => ?_⟩
          · rw [zsp1_2 q2] at hNs nxt
            have hNs : q + 2 ≤ Z.length := hNs
            have ga := zgc_le (n := q) (by omega)
            have gb := zgc_le (n := q + 1) (by omega)
            have gz := hgm (q + 2) hNs
            have e22 : zgc (q + 1 + 1) = zgc (q + 2) ∧ zgs (q + 1 + 1) = zgs (q + 2) := ⟨rfl, rfl⟩
            have hz9 : ∃ d, d < 6 ∧ st.2.1 = nI d := by
              rcases hok with (e | e | e) | ⟨e, -⟩ | ⟨-, ⟨d, hd, ed⟩, -⟩ | ⟨e | e, -⟩
              · rw [q2] at e; exact absurd e (by decide)
              · rw [q2] at e; exact absurd e (by decide)
              · rw [q2] at e; exact absurd e (by decide)
              · rw [q2] at e; exact absurd e (by decide)
              · exact ⟨d, by omega, ed⟩
              · rw [q2] at e; exact absurd e (by decide)
              · rw [q2] at e; exact absurd e (by decide)
            obtain ⟨d, hd, ed⟩ := hz9
            have eA : zoN (some (zAt st.2.1)) = st.2.1 := by
              rw [ed, zAt_nI (by omega)]
              rfl
            refine z_no (149, 0, 0, 0) (by omega) (by omega) (fun a1 ha1 _ => ?_)
            have ha1 : w.1 a1 = none := ha1
            have bb2 := kn.at (kp.new (S := kn) (x := ((149, 0, 0, 0), wo_o ciX20 [.int 0, .int 0, .int 0, .int 0])) ha1) bb
            have b02 := kn.at (kp.new (S := kn) (x := ((149, 0, 0, 0), wo_o ciX20 [.int 0, .int 0, .int 0, .int 0])) ha1) b0
            refine z_gA b02 rfl (z_li bb2 (by omega) (by decide) (z_gA b02 rfl (z_li bb2 (by omega) (by decide) ?_)))
            rw [vb1]
            refine S.pushM hG (sp := (109, st.2.1, some (zAt st.2.1), nI i)) ha1 eA ⟨rfl, rfl⟩ (by rw [n0]; omega) (by omega) (by rw [n0]; show zgc (q + 1) - zgc q ≤ w.2.1 - 1; omega) (by rw [n0]; show zgs (q + 1) - zgs q ≤ w.2.2 - 4; omega) (fun h3 S3 k3 => ?_)
            rw [n0]
            have k03 : kp kn h h3 := fun b z hb _ => k3 b z (kn.at kw hb) (fun q => z_nw f1 hb q)
            have hb3 := hbM.keep k03 (fun _ _ q => q.elim)
            have n1 : (((101, nI m, none, -1) :: zsps 0 (l.take i)) ++ [(109, st.2.1, some (zAt st.2.1), nI i)] : List zSp).length = q + 1 := by rw [List.length_append, n0]; rfl
            refine z_no (149, 0, 0, 0) (by show 1 ≤ w.2.1 - 1 - (zgc (q + 1) - zgc q); omega) (by show 4 ≤ w.2.2 - 4 - (zgs (q + 1) - zgs q); omega) (fun a2 ha2 _ => ?_)
            have ha2 : h3 a2 = none := ha2
            have kn3 : kp kn h3 (wv_up h3 a2 ((149, 0, 0, 0), wo_o ciX20 [.int 0, .int 0, .int 0, .int 0])) := kp.new ha2
            have hb4 := hbM.keep (k03.trans kn3) (fun _ _ q => q.elim)
            obtain ⟨c0, -, ⟨fb2, cb, wb2⟩, ⟨fc2, cc2, wc2⟩⟩ := hb4
            refine z_gA c0 rfl (z_li cc2 (by omega) (by decide) (z_gA c0 rfl (z_li cb (by omega) (by decide) ?_)))
            rw [wc2 i _ hx, wb2 i _ hx]
            refine S3.pushM hG (sp := (99, st.2.2, some (zAt st.2.1), nI i)) ha2 eA ⟨rfl, rfl⟩ (by rw [n1]; omega) (by omega) (by rw [n1]; show zgc (q + 1 + 1) - zgc (q + 1) ≤ w.2.1 - 1 - (zgc (q + 1) - zgc q) - 1; omega) (by rw [n1]; show zgs (q + 1 + 1) - zgs (q + 1) ≤ w.2.2 - 4 - (zgs (q + 1) - zgs q) - 4; omega) (fun h5 S5 k5 => ?_)
            rw [n1]
            have k05 : kp kn h h5 := fun b z hb _ => k5 b z (kn.at k03 hb) (fun q => z_nw f1 hb q)
            refine nxt ((xs ++ [a1]) ++ [a2]) _ ?_ k05 ?_ ?_
            · have e5 : (((101, nI m, none, -1) :: zsps 0 (l.take i)) ++ [(109, st.2.1, some (zAt st.2.1), nI i), (99, st.2.2, some (zAt st.2.1), nI i)] : List zSp) = (((101, nI m, none, -1) :: zsps 0 (l.take i)) ++ [(109, st.2.1, some (zAt st.2.1), nI i)]) ++ [(99, st.2.2, some (zAt st.2.1), nI i)] := by
                rw [List.append_assoc]
                rfl
              rw [e5]
              exact S5
            · show (Z.length - (q + 2)) + (zgc Z.length - zgc (q + 2)) ≤ w.2.1 - 1 - (zgc (q + 1) - zgc q) - 1 - (zgc (q + 1 + 1) - zgc (q + 1))
              have : zgc (q + 1 + 1) = zgc (q + 2) := rfl
              omega
            · show 4 * (Z.length - (q + 2)) + (zgs Z.length - zgs (q + 2)) ≤ w.2.2 - 4 - (zgs (q + 1) - zgs q) - 4 - (zgs (q + 1 + 1) - zgs (q + 1))
              have : zgs (q + 1 + 1) = zgs (q + 2) := rfl
              omega
          · rw [zsp1_0 q2 q1] at nxt
            refine nxt xs w ?_ kw hc hs
            rw [List.append_nil]
            exact S
        · have q1 : st.1 = 99 ∨ st.1 = 103 ∨ st.1 = 115 ∨ st.1 = 104 := (zl4_k st.1).mp (zbI_n0 q1)
          have h109 : ¬ st.1 = 109 := by rcases q1 with e | e | e | e <;> rw [e] <;> decide
          have hfit : wv_fit .char st.1 := by rcases q1 with e | e | e | e <;> rw [e] <;> exact ⟨rfl, rfl⟩
          rw [zsp1_1 q1] at hNs nxt
          have hNs : q + 1 ≤ Z.length := hNs
          have ga := zgc_le (n := q) (by omega)
          have gz := hgm (q + 1) hNs
          refine z_no (149, 0, 0, 0) (by omega) (by omega) (fun a1 ha1 _ => ?_)
          have ha1 : w.1 a1 = none := ha1
          have bb2 := kn.at (kp.new (S := kn) (x := ((149, 0, 0, 0), wo_o ciX20 [.int 0, .int 0, .int 0, .int 0])) ha1) bb
          have b02 := kn.at (kp.new (S := kn) (x := ((149, 0, 0, 0), wo_o ciX20 [.int 0, .int 0, .int 0, .int 0])) ha1) b0
          refine z_gA b02 rfl (z_li bb2 (by omega) (by decide) ?_)
          rw [vb1]
          refine S.push hG (sp := (st.1, st.2.1, none, nI i)) ha1 hfit (by rw [n0]; omega) (by omega) (by rw [n0]; show zgc (q + 1) - zgc q ≤ w.2.1 - 1; omega) (by rw [n0]; show zgs (q + 1) - zgs q ≤ w.2.2 - 4; omega) (fun h3 S3 k3 => ?_)
          rw [n0]
          have k03 : kp kn h h3 := fun b z hb _ => k3 b z (kn.at kw hb) (fun q => z_nw f1 hb q)
          refine ⟨fun e => absurd e h109, fun _ => nxt _ _ S3 k03 ?_ ?_⟩
          · show (Z.length - (q + 1)) + (zgc Z.length - zgc (q + 1)) ≤ w.2.1 - 1 - (zgc (q + 1) - zgc q)
            omega
          · show 4 * (Z.length - (q + 1)) + (zgs Z.length - zgs (q + 1)) ≤ w.2.2 - 4 - (zgs (q + 1) - zgs q)
            omega
end ZTG
