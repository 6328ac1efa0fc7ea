/-! THE REFERENCE: a point's advices, one after another -/
section ZTX
variable {G : wv_G} {B B' : zA} {σ σ' : zS} {h h0 h1 h2 h' : wv_H} {w : wv_W} {fr fr' kc ks : Nat} {P : wv_R → wv_H → Prop} {KX : String → Nat → wv_W → Prop} {a b L : Nat} {t : wv_T} {n k m p : Nat} {ps : List Nat} {l : List zIn} {th : Int32} {wov : Bool} {s s1 s2 s' : zR} {cp : Nat × Nat} {D : zD} {T : Nat × Nat × Nat}
variable {act : Int32 → zM} {F al at' : Nat} {full rest : List Nat} {Q : zX × zR} {v' : Int32}
theorem z26_140 (hG : wv_G0 G) (hw : zwf σ) (hn : n < σ.2.2.1.length) (R : zTS G B σ th L D wov ps l T s' w.1) (k : kp (zSD D T) h w.1) (hQ : Q = (match zadd σ n v' s' with | none => (zup, zRe s') | some s1 => (.inl v', s1))) (hf : 7 < fr) (hc : zdc σ cp s' Q.2 ≤ w.2.1) (hs : zds σ cp s' Q.2 ≤ w.2.2) :
    vc_X26_goes_140 G fr (zDo G B σ th L D wov ps l T Q h) (some D.1) (nI n) v' w := by
  rcases zadd_cases (σ := σ) n v' s' with ⟨hl, ea⟩ | ⟨hl, ea⟩
  · rw [ea] at hQ
    have hQ : Q = (zup, zRe s') := hQ
    subst hQ
    obtain ⟨-, c1, c2⟩ := zdl_e (σ := σ) (cp := cp) s'
    have hc : zdc σ cp s' (zRe s') ≤ w.2.1 := hc
    have hs : zds σ cp s' (zRe s') ≤ w.2.2 := hs
    exact z26_acts (cp := cp) hG hw hn R hf (fun hl2 => absurd hl hl2) (fun _ => ⟨by omega, by omega, fun q h3 R3 k3 ex3 => ⟨R3, k.trans k3, q, rfl, ex3⟩⟩)
  · rw [ea] at hQ
    have hQ : Q = (.inl v', zRt ((zadv σ n).2.1, v', n) s') := hQ
    subst hQ
    exact z26_acts (cp := cp) hG hw hn R hf (fun _ => ⟨hc, hs, fun h3 R3 k3 => ⟨R3, k.trans k3, rfl⟩⟩) (fun hl2 => absurd hl2 hl)
theorem z26_112 (hG : wv_G0 G) (hw : zwf σ) (hn : n < σ.2.2.1.length) {x : Nat} {z : Int32} (R : zTS G B σ th L D wov ps l T s' w.1) (k : kp (zSD D T) h w.1) (ex : zEx4 w.1 x (some z)) (hQ : Q = (match zadd σ n z s' with | none => (zup, zRe s') | some s1 => (zraise z, s1))) (hf : 7 < fr) (hc : zdc σ cp s' Q.2 ≤ w.2.1) (hs : zds σ cp s' Q.2 ≤ w.2.2) :
    vc_X26_goes_112 G fr (zDo G B σ th L D wov ps l T Q h) (some D.1) (nI n) (some x) w := by
  obtain ⟨fs, x1, x2⟩ := id ex
  refine z_gI x1 x2 ?_
  rcases zadd_cases (σ := σ) n z s' with ⟨hl, ea⟩ | ⟨hl, ea⟩
  · rw [ea] at hQ
    have hQ : Q = (zup, zRe s') := hQ
    subst hQ
    obtain ⟨-, c1, c2⟩ := zdl_e (σ := σ) (cp := cp) s'
    have hc : zdc σ cp s' (zRe s') ≤ w.2.1 := hc
    have hs : zds σ cp s' (zRe s') ≤ w.2.2 := hs
    exact z26_acts (cp := cp) hG hw hn R hf (fun hl2 => absurd hl hl2) (fun _ => ⟨by omega, by omega, fun q h3 R3 k3 ex3 => ⟨R3, k.trans k3, q, rfl, ex3⟩⟩)
  · rw [ea] at hQ
    have hQ : Q = (zraise z, zRt ((zadv σ n).2.1, z, n) s') := hQ
    subst hQ
    refine z26_acts (cp := cp) hG hw hn R hf (fun _ => ⟨hc, hs, fun h3 R3 k3 => ?_⟩) (fun hl2 => absurd hl2 hl)
    have ex3 : zEx4 h3 x (some z) := ex.keep k3 zSD_150
    exact zEx4.at (w := (h3, w.2.1 - zdc σ cp s' (zRt ((zadv σ n).2.1, z, n) s'), w.2.2 - zds σ cp s' (zRt ((zadv σ n).2.1, z, n) s'))) ex3 ⟨R3, k.trans k3, x, rfl, ex3⟩
/-- goes from a place on, with rest for the advices left -/
def zGo (G : wv_G) (B : zA) (σ : zS) (th : Int32) (L : Nat) (D : zD) (wov : Bool) (ps : List Nat) (l : List zIn) (T : Nat × Nat × Nat) (cp : Nat × Nat) (h0 : wv_H) (b al F : Nat) (act : Int32 → zM) (at' : Nat) (rest : List Nat) : Prop := ∀ (v : Int32) (s : zR) (h : wv_H), zTS G B σ th L D wov ps l T s h → kp (zSD D T) h0 h → wv_C G yX26_goes [.ref D.1, .ref b, .ref T.1, .ref al, .int (nI at'), .int v] h F (zdc σ cp s (zgo σ act rest v s).2) (zds σ cp s (zgo σ act rest v s).2) (zDo G B σ th L D wov ps l T (zgo σ act rest v s) h)
/-- what a point is, done: comes to act -/
def zAc4 (G : wv_G) (B : zA) (σ : zS) (th : Int32) (L : Nat) (D : zD) (wov : Bool) (ps : List Nat) (l : List zIn) (T : Nat × Nat × Nat) (cp : Nat × Nat) (h0 : wv_H) (b F : Nat) (act : Int32 → zM) : Prop := ∀ (v : Int32) (s : zR) (h : wv_H), zTS G B σ th L D wov ps l T s h → kp (zSD D T) h0 h → wv_C G yX26_does [.ref D.1, .ref b, .ref T.1, .int v] h F (zdc σ cp s (act v (zRa s)).2) (zds σ cp s (act v (zRa s)).2) (zDo G B σ th L D wov ps l T (act v (zRa s)) h)
theorem z26_78 (hG : wv_G0 G) (hw : zwf σ) (hn : n < σ.2.2.1.length) (h114 : ¬ (zadv σ n).2.1 = 114) (hF : F < fr) (hF7 : 7 < fr) (hm : ∀ v s, zdl σ cp s (act v s).2) (hgo : zGo G B σ th L D wov ps l T cp h0 b al F act (at' + 1) rest) (v : Int32) (R : zTS G B σ th L D wov ps l T s w.1) (k0 : kp (zSD D T) h0 w.1) (kh : kp (zSD D T) h w.1) (hQ : Q = if (zadv σ n).2.1 = 98 then zgo σ act rest v s else zbeh σ n (zgo σ act rest v s)) (hc : zdc σ cp s Q.2 ≤ w.2.1) (hs : zds σ cp s Q.2 ≤ w.2.2) :
    vc_X26_goes_78 G fr (zDo G B σ th L D wov ps l T Q h) (some D.1) (some b) (some T.1) (some al) (nI at') v (nI n) (zadv σ n).2.1 w := by
  have m1 := zdl_go (σ := σ) (cp := cp) hm rest v s
  have hC := hgo v s w.1 R k0
  rw [nI_succ] at hC
  generalize zgo σ act rest v s = q at hC m1 hQ
  have m2 : zdl σ cp q.2 Q.2 := by
    rw [hQ]
    split
    · exact zdl.refl _
    · exact zdl_beh n q
  have ec := zdc_add m1 m2
  have es := zds_add m1 m2
  obtain ⟨x, S⟩ := q
  have ec : zdc σ cp s S + zdc σ cp S Q.2 = zdc σ cp s Q.2 := ec
  have es : zds σ cp s S + zds σ cp S Q.2 = zds σ cp s Q.2 := es
  have hkind := (zadv_ok hw hn).2.1
  cases x with
  | inl v' =>
    refine ⟨D.1, rfl, R.is, z_dPl hC (by omega) (by show zdc σ cp s S ≤ _; omega) (by show zds σ cp s S ≤ _; omega) (fun h2 R2 k2 => ?_)⟩
    have kh2 := kh.trans k2
    have go : ∀ (hQ2 : Q = (match zadd σ n v' S with | none => (zup, zRe S) | some s1 => (.inl v', s1))), vc_X26_goes_140 G fr (zDo G B σ th L D wov ps l T Q h) (some D.1) (nI n) v' (h2, w.2.1 - zdc σ cp s S, w.2.2 - zds σ cp s S) := fun hQ2 => z26_140 (w := (h2, w.2.1 - zdc σ cp s S, w.2.2 - zds σ cp s S)) hG hw hn R2 kh2 hQ2 (by omega) (by show zdc σ cp S Q.2 ≤ w.2.1 - zdc σ cp s S; omega) (by show zds σ cp S Q.2 ≤ w.2.2 - zds σ cp s S; omega)
    rcases hkind with e | e | e | e | e
    · rw [if_pos e] at hQ
      refine ⟨fun q => absurd (e.symm.trans q) (by decide), fun _ => ⟨fun _ => ?_, fun q => absurd (e.symm.trans q) (by decide)⟩⟩
      rw [hQ]
      exact ⟨R2, kh2, rfl⟩
    · rw [if_neg (by rw [e]; decide)] at hQ
      refine ⟨fun _ => go ?_, fun q => absurd e q⟩
      rw [hQ]
      show (if _ then _ else _) = _
      rw [if_neg (by rw [e]; decide)]
      cases zadd σ n v' S <;> rfl
    · rw [if_neg (by rw [e]; decide)] at hQ
      refine ⟨fun q => absurd (e.symm.trans q) (by decide), fun _ => ⟨fun _ => ?_, fun q => absurd (e.symm.trans q) (by decide)⟩⟩
      have e9 : zbeh σ n (.inl v', S) = (.inl v', S) := if_pos e
      rw [hQ, e9]
      exact ⟨R2, kh2, rfl⟩
    · rw [if_neg (by rw [e]; decide)] at hQ
      refine ⟨fun q => absurd (e.symm.trans q) (by decide), fun _ => ⟨fun q => absurd e q, fun _ => go ?_⟩⟩
      rw [hQ]
      show (if _ then _ else _) = _
      rw [if_neg (by rw [e]; decide)]
      cases zadd σ n v' S <;> rfl
    · exact absurd e h114
  | inr o =>
    cases o with
    | none =>
      have e9 : Q = (zup, S) := by
        rw [hQ]
        split
        · rfl
        · rfl
      refine ⟨D.1, rfl, R.is, z_dPr hC (by omega) (by show zdc σ cp s S ≤ _; omega) (by show zds σ cp s S ≤ _; omega) (fun x h2 R2 k2 ex => ⟨fun q => absurd q (by decide), fun _ => ⟨zN_GR hG, ?_⟩⟩)⟩
      rw [e9]
      exact ⟨R2, kh.trans k2, x, rfl, ex⟩
    | some z =>
      refine ⟨D.1, rfl, R.is, z_dPr hC (by omega) (by show zdc σ cp s S ≤ _; omega) (by show zds σ cp s S ≤ _; omega) (fun x h2 R2 k2 ex => ⟨fun _ => ?_, fun q => absurd rfl q⟩)⟩
      have kh2 := kh.trans k2
      have go : ∀ (hQ2 : Q = (match zadd σ n z S with | none => (zup, zRe S) | some s1 => (zraise z, s1))), vc_X26_goes_112 G fr (zDo G B σ th L D wov ps l T Q h) (some D.1) (nI n) (some x) (h2, w.2.1 - zdc σ cp s S, w.2.2 - zds σ cp s S) := fun hQ2 => z26_112 (w := (h2, w.2.1 - zdc σ cp s S, w.2.2 - zds σ cp s S)) hG hw hn R2 kh2 ex hQ2 (by omega) (by show zdc σ cp S Q.2 ≤ w.2.1 - zdc σ cp s S; omega) (by show zds σ cp S Q.2 ≤ w.2.2 - zds σ cp s S; omega)
      have on : Q = (zraise z, S) → vc_X26_goes_123 G fr (zDo G B σ th L D wov ps l T Q h) (some x) (h2, w.2.1 - zdc σ cp s S, w.2.2 - zds σ cp s S) := by
        intro e9
        rw [e9]
        exact zEx4.at (w := (h2, w.2.1 - zdc σ cp s S, w.2.2 - zds σ cp s S)) ex ⟨R2, kh2, x, rfl, ex⟩
      rcases hkind with e | e | e | e | e
      · rw [if_pos e] at hQ
        exact ⟨fun q => absurd (e.symm.trans q) (by decide), fun _ => ⟨fun _ => on hQ, fun q => absurd (e.symm.trans q) (by decide)⟩⟩
      · rw [if_neg (by rw [e]; decide)] at hQ
        refine ⟨fun q => absurd (e.symm.trans q) (by decide), fun _ => ⟨fun _ => on ?_, fun q => absurd (e.symm.trans q) (by decide)⟩⟩
        rw [hQ]
        exact if_pos e
      · rw [if_neg (by rw [e]; decide)] at hQ
        refine ⟨fun _ => go ?_, fun q => absurd e q⟩
        rw [hQ]
        show (if _ then _ else _) = _
        rw [if_neg (by rw [e]; decide)]
        cases zadd σ n z S <;> rfl
      · rw [if_neg (by rw [e]; decide)] at hQ
        refine ⟨fun q => absurd (e.symm.trans q) (by decide), fun _ => ⟨fun q => absurd e q, fun _ => go ?_⟩⟩
        rw [hQ]
        show (if _ then _ else _) = _
        rw [if_neg (by rw [e]; decide)]
        cases zadd σ n z S <;> rfl
      · exact absurd e h114
theorem z26_replaces (hG : wv_G0 G) (hw : zwf σ) (hn : n < σ.2.2.1.length) (h1 : (zadv σ n).2.1 = 114) (hF : 7 < F) (hm : ∀ v s, zdl σ cp s (act v s).2) (hL : zLx h0 al (147, 0, 0, 0) (full.map (wb G))) (hfu : full[at']? = some n) (hgo : zGo G B σ th L D wov ps l T cp h0 b al F act (at' + 1) rest) (v : Int32) (R : zTS G B σ th L D wov ps l T s h) (k0 : kp (zSD D T) h0 h) :
    wv_C G yX26_replaces [.ref D.1, .ref b, .ref T.1, .ref al, .int (nI at'), .int v] h (F + 1) (zdc σ cp s (zgo σ act (n :: rest) v s).2) (zds σ cp s (zgo σ act (n :: rest) v s).2) (zDo G B σ th L D wov ps l T (zgo σ act (n :: rest) v s) h) := by
  have h12 := hw.2.2.2.2.1
  have hmon := zdl_go (σ := σ) (cp := cp) (act := act) hm rest
  have ht2 := (zadv_ok hw hn).2.2.2
  have eg := zgo_r (s := s) (act := act) (l := rest) (v := v) h1
  have hL1 : zLx h al (147, 0, 0, 0) (full.map (wb G)) := hL.keep k0 (zSD_n 147 (by decide) rfl)
  have hxw : (full.map (wb G))[at']? = some (wb G n) := by rw [List.getElem?_map, hfu]; rfl
  refine wk_X26_replaces (v0 := some D.1) (v1 := some b) (v2 := some T.1) (v3 := some al) hG (hL1.vget hG hxw (by omega) (z_cc (wb_is (k := n) (by omega)) (z_vI (wb_is (k := n) (by omega)) (wl_intValue hG (k := n) (by omega)) (by omega) ?_)))
  rcases zadd_cases (σ := σ) n v s with ⟨hl, ea⟩ | ⟨hl, ea⟩
  · rw [ea] at eg
    have eg : zgo σ act (n :: rest) v s = (zup, zRe s) := eg
    rw [eg]
    obtain ⟨-, c1, c2⟩ := zdl_e (σ := σ) (cp := cp) s
    exact z26_acts (cp := cp) hG hw hn R (by omega) (fun hl2 => absurd hl hl2) (fun _ => ⟨by show 1 ≤ zdc σ cp s (zRe s); omega, by show 6 ≤ zds σ cp s (zRe s); omega, fun q h3 R3 k3 ex3 => ⟨R3, k3, q, rfl, ex3⟩⟩)
  · rw [ea] at eg
    have eg : zgo σ act (n :: rest) v s = zrep (zgo σ act rest) (zadv σ n).2.2.2.1 (zadv σ n).2.2.2.2.1 v (zRt ((zadv σ n).2.1, v, n) s) := eg
    rw [eg]
    have m0 := zdl_t1 (σ := σ) (cp := cp) ((zadv σ n).2.1, v, n) s
    have m9 := zdl_rep (σ := σ) (cp := cp) hmon (zadv σ n).2.2.2.1 (zadv σ n).2.2.2.2.1 v (zRt ((zadv σ n).2.1, v, n) s)
    have e0 := zdc_add m0 m9
    have e0s := zds_add m0 m9
    generalize hQ : zrep (zgo σ act rest) (zadv σ n).2.2.2.1 (zadv σ n).2.2.2.2.1 v (zRt ((zadv σ n).2.1, v, n) s) = Q at e0 e0s ⊢
    refine z26_acts (cp := cp) hG hw hn R (by omega) (fun _ => ⟨by show zdc σ cp s _ ≤ zdc σ cp s Q.2; omega, by show zds σ cp s _ ≤ zds σ cp s Q.2; omega, fun h3 R3 k3 => ?_⟩) (fun hl2 => absurd hl2 hl)
    refine z_loop (zadv σ n).2.2.2.2.1 (by omega) (fun v => v.2.2.2.2.2.2.2) (fun j u w => ∃ lastv sj, u = (some D.1, some b, some T.1, some al, nI at', nI n, lastv, nI j) ∧ zTS G B σ th L D wov ps l T sj w.1 ∧ kp (zSD D T) h w.1 ∧ zrep (zgo σ act rest) (zadv σ n).2.2.2.1 ((zadv σ n).2.2.2.2.1 - j) lastv sj = Q ∧ zdc σ cp sj Q.2 ≤ w.2.1 ∧ zds σ cp sj Q.2 ≤ w.2.2) rfl ⟨v, zRt ((zadv σ n).2.1, v, n) s, rfl, R3, k3, hQ, ?_, ?_⟩ ?_
    · show zdc σ cp _ Q.2 ≤ zdc σ cp s Q.2 - zdc σ cp s _
      omega
    · show zds σ cp _ Q.2 ≤ zds σ cp s Q.2 - zds σ cp s _
      omega
    rintro K j _ w hj - ⟨lastv, sj, rfl, Rj, kj, hQj, b1, b2⟩ hK
    obtain ⟨f8, m8, u8⟩ := id Rj.1.2.2.2.2.2.2.2.2.2.1
    obtain ⟨f7, m7, u7⟩ := id Rj.1.2.2.2.2.2.2.2.2.1
    refine z_gA Rj.2.1 rfl (z_gA Rj.1.1 rfl (z_li m8 (by omega) (by decide) ?_))
    rw [u8 n _ (zadv_get hn)]
    refine pk_le (zadv σ n).2.2.2.2.1 j (fun hle => ?_) (fun hlt => ?_)
    · have e9 : (zadv σ n).2.2.2.2.1 - j = 0 := by omega
      rw [e9] at hQj
      have hQj : (.inl lastv, sj) = Q := hQj
      subst hQj
      exact ⟨Rj, kj, rfl⟩
    · obtain ⟨t, ht⟩ : ∃ t, (zadv σ n).2.2.2.2.1 - j = t + 1 := ⟨(zadv σ n).2.2.2.2.1 - j - 1, by omega⟩
      rw [ht] at hQj
      have hQj : (match zgo σ act rest (lastv + (zadv σ n).2.2.2.1) sj with | (.inl v', s') => zrep (zgo σ act rest) (zadv σ n).2.2.2.1 t v' s' | e => e) = Q := hQj
      have hC := hgo (lastv + (zadv σ n).2.2.2.1) sj w.1 Rj (k0.trans kj)
      rw [nI_succ] at hC
      have m1 := hmon (lastv + (zadv σ n).2.2.2.1) sj
      generalize hq : zgo σ act rest (lastv + (zadv σ n).2.2.2.1) sj = q at hC m1 hQj
      obtain ⟨x, s'⟩ := q
      have m2 : zdl σ cp s' Q.2 := by
        cases x with
        | inl v' => rw [← hQj]; exact zdl_rep hmon _ _ _ _
        | inr o => rw [← hQj]; exact zdl.refl _
      have ec := zdc_add m1 m2
      have es := zds_add m1 m2
      have ec : zdc σ cp sj s' + zdc σ cp s' Q.2 = zdc σ cp sj Q.2 := ec
      have es : zds σ cp sj s' + zds σ cp s' Q.2 = zds σ cp sj Q.2 := es
      refine z_gA Rj.2.1 rfl (z_gA Rj.1.1 rfl (z_li m7 (by omega) (by decide) ?_))
      rw [u7 n _ (zadv_get hn)]
      refine ⟨D.1, rfl, Rj.is, z_dP hC (by omega) (by show zdc σ cp sj s' ≤ _; omega) (by show zds σ cp sj s' ≤ _; omega) (fun v' h4 e1 R4 k4 => ?_) (fun o x4 h4 e1 R4 k4 ex4 => ?_)⟩
      · have e1 : x = .inl v' := e1
        subst e1
        refine hK _ (h4, w.2.1 - zdc σ cp sj s', w.2.2 - zds σ cp sj s') hlt (nI_succ j).symm ⟨v', s', ?_, R4, kj.trans k4, ?_, ?_, ?_⟩
        · rw [nI_succ]
        · rw [show (zadv σ n).2.2.2.2.1 - (j + 1) = t by omega]
          exact hQj
        · show zdc σ cp s' Q.2 ≤ w.2.1 - zdc σ cp sj s'
          omega
        · show zds σ cp s' Q.2 ≤ w.2.2 - zds σ cp sj s'
          omega
      · have e1 : x = .inr o := e1
        subst e1
        have hQj : (.inr o, s') = Q := hQj
        subst hQj
        exact ⟨R4, kj.trans k4, x4, rfl, ex4⟩
/-- goes -/
theorem z26_goes (hG : wv_G0 G) (hw : zwf σ) (hF : 10 ≤ F) (hA : zAc4 G B σ th L D wov ps l T cp h0 b F act) (hm : ∀ v s, zdl σ cp s (act v s).2) (hL : zLx h0 al (147, 0, 0, 0) (full.map (wb G))) (hfl : ∀ n ∈ full, n < σ.2.2.1.length) (hlen : full.length ≤ 12) : ∀ (rest : List Nat) (at' : Nat), full.drop at' = rest → at' ≤ full.length → zGo G B σ th L D wov ps l T cp h0 b al (F + 3 + 2 * rest.length) act at' rest := by
  have h12 := hw.2.2.2.2.1
  intro rest
  induction rest with
  | nil =>
    intro i hd hi v s h R k0
    have hL1 : zLx h al (147, 0, 0, 0) (full.map (wb G)) := hL.keep k0 (zSD_n 147 (by decide) rfl)
    have e : i = full.length := by
      have := congrArg List.length hd
      rw [List.length_drop] at this
      have : full.length - i = 0 := this
      omega
    refine wk_X26_goes (v0 := some D.1) (v1 := some b) (v2 := some T.1) (v3 := some al) hG (hL1.vsize hG (by omega) ?_)
    rw [List.length_map]
    refine ⟨fun q => absurd (by rw [e]) q, fun _ => ⟨D.1, rfl, R.is, ?_⟩⟩
    exact z_dPo (w := (h, _, _)) (hA v s h R k0) (by omega) (Nat.le_refl _) (Nat.le_refl _) (kp.refl h)
  | cons n rest ih =>
    intro i hd hi v s h R k0
    have hlt : i < full.length := by
      rcases Nat.lt_or_ge i full.length with h9 | h9
      · exact h9
      · rw [List.drop_of_length_le h9] at hd
        cases hd
    have hd2 := List.drop_eq_getElem_cons hlt
    rw [hd] at hd2
    injection hd2 with d1 d2
    have hfu : full[i]? = some n := by rw [List.getElem?_eq_getElem hlt, ← d1]
    have hnl := hfl n (List.mem_of_getElem? hfu)
    have hgo := ih (i + 1) d2.symm (by omega)
    have hFl : F + 3 + 2 * (n :: rest).length = F + 3 + 2 * rest.length + 2 := by rw [List.length_cons]; omega
    have hL1 : zLx h al (147, 0, 0, 0) (full.map (wb G)) := hL.keep k0 (zSD_n 147 (by decide) rfl)
    have hxw : (full.map (wb G))[i]? = some (wb G n) := by rw [List.getElem?_map, hfu]; rfl
    rw [hFl]
    refine wk_X26_goes (v0 := some D.1) (v1 := some b) (v2 := some T.1) (v3 := some al) hG (hL1.vsize hG (by omega) ?_)
    rw [List.length_map]
    refine ⟨fun _ => ?_, fun q => absurd ((nI_eq (by omega) (by omega)).mp q) (by omega)⟩
    refine hL1.vget hG hxw (by omega) (z_cc (wb_is (k := n) (by omega)) (z_vI (wb_is (k := n) (by omega)) (wl_intValue hG (k := n) (by omega)) (by omega) ?_))
    obtain ⟨f9, m9, u9⟩ := id R.1.2.2.2.2.2.2.2.2.2.2.2.1
    refine z_gA R.2.1 rfl (z_gA R.1.1 rfl (z_li m9 (by omega) (by decide) ?_))
    rw [u9 n _ (zadv_get hnl)]
    refine ⟨fun q => ⟨fun q2 => ?_, fun q2 => ?_⟩, fun q => ⟨D.1, rfl, R.is, ?_⟩⟩
    · have hQ : zgo σ act (n :: rest) v s = if (zadv σ n).2.1 = 98 then zgo σ act rest v s else zbeh σ n (zgo σ act rest v s) := by
        rw [zgo_o q q2, if_neg q2]
      generalize hc : zdc σ cp s (zgo σ act (n :: rest) v s).2 = c
      generalize hs : zds σ cp s (zgo σ act (n :: rest) v s).2 = c2
      generalize zgo σ act (n :: rest) v s = Q at hQ hc hs ⊢
      exact z26_78 (w := (h, c, c2)) hG hw hnl q (by omega) (by omega) hm hgo v R k0 (kp.refl h) hQ (Nat.le_of_eq hc) (Nat.le_of_eq hs)
    · have eg := zgo_b (s := s) (act := act) (l := rest) (v := v) q2
      rcases zadd_cases (σ := σ) n v s with ⟨hl, ea⟩ | ⟨hl, ea⟩
      · rw [ea] at eg
        have eg : zgo σ act (n :: rest) v s = (zup, zRe s) := eg
        rw [eg]
        obtain ⟨-, c1, c2⟩ := zdl_e (σ := σ) (cp := cp) s
        exact z26_acts (cp := cp) hG hw hnl R (by omega) (fun hl2 => absurd hl hl2) (fun _ => ⟨by show 1 ≤ zdc σ cp s (zRe s); omega, by show 6 ≤ zds σ cp s (zRe s); omega, fun q h3 R3 k3 ex3 => ⟨R3, k3, q, rfl, ex3⟩⟩)
      · rw [ea] at eg
        have eg : zgo σ act (n :: rest) v s = zgo σ act rest v (zRt ((zadv σ n).2.1, v, n) s) := eg
        rw [eg]
        have m0 := zdl_t1 (σ := σ) (cp := cp) ((zadv σ n).2.1, v, n) s
        have m9 := zdl_go (σ := σ) (cp := cp) hm rest v (zRt ((zadv σ n).2.1, v, n) s)
        have e0 := zdc_add m0 m9
        have e0s := zds_add m0 m9
        have hQ : zgo σ act rest v (zRt ((zadv σ n).2.1, v, n) s) = if (zadv σ n).2.1 = 98 then zgo σ act rest v (zRt ((zadv σ n).2.1, v, n) s) else zbeh σ n (zgo σ act rest v (zRt ((zadv σ n).2.1, v, n) s)) := by rw [if_pos q2]
        refine z26_acts (cp := cp) hG hw hnl R (by omega) (fun _ => ⟨by show zdc σ cp s (zRt ((zadv σ n).2.1, v, n) s) ≤ zdc σ cp s (zgo σ act rest v (zRt ((zadv σ n).2.1, v, n) s)).2; omega, by show zds σ cp s (zRt ((zadv σ n).2.1, v, n) s) ≤ zds σ cp s (zgo σ act rest v (zRt ((zadv σ n).2.1, v, n) s)).2; omega, fun h3 R3 k3 => ?_⟩) (fun hl2 => absurd hl2 hl)
        refine z26_78 (w := (h3, _, _)) hG hw hnl q (by omega) (by omega) hm hgo v R3 (k0.trans k3) k3 hQ ?_ ?_
        · show zdc σ cp _ (zgo σ act rest v (zRt ((zadv σ n).2.1, v, n) s)).2 ≤ zdc σ cp s _ - zdc σ cp s _
          omega
        · show zds σ cp _ (zgo σ act rest v (zRt ((zadv σ n).2.1, v, n) s)).2 ≤ zds σ cp s _ - zds σ cp s _
          omega
    · exact z_dPo (w := (h, _, _)) (z26_replaces hG hw hnl q (by omega) hm hL hfu hgo v R k0) (by omega) (Nat.le_refl _) (Nat.le_refl _) (kp.refl h)
end ZTX
