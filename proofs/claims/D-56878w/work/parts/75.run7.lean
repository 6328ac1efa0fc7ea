/-! THE COMPONENT: a step done -/
section ZX5
variable {G : wv_G} {A A' : zA} {σ σ' : zS} {h h0 h1 h2 h' : wv_H} {w : wv_W} {fr fr' kc ks : Nat} {P : wv_R → wv_H → Prop} {KX : String → Nat → wv_W → Prop} {a b : Nat} {t ta tb : wv_T} {r : Nat} {tr : List zAc} {e : Bool × Int32 × Int32} {ch : List (Nat × zIn)} {th : Nat × Nat × Nat} {s s1 s2 : zR}
variable {act : Int32 → zM} {lam F : Nat} {c : Int32} {i n k m p d : Nat} {l : List Nat} {pt : zPF} {st : zSt}
-- ===== the word of a step =====
def zsw (c : Int32) : Int32 := if c = 110 then 0 else if c = 99 then 1 else if c = 109 then 2 else if c = 103 then 3 else if c = 115 then 4 else if c = 116 then 5 else -1
theorem zstOk.kinds {x y : Int32} (hk : zstOk n (c, x, y)) : c = 99 ∨ c = 103 ∨ c = 109 ∨ c = 110 ∨ c = 115 ∨ c = 116 ∨ c = 104 := by
  rcases hk with (e | e | e) | ⟨e, -⟩ | ⟨e, -⟩ | ⟨e | e, -⟩ <;> simp at e <;> simp [e]
theorem z_seq7 (hG : wv_G0 G) {fr : Nat} {w : wv_W} {i j : Nat} (hj : i < 19) (hs : G.2.2.2.2 (400 + j) = G.2.2.2.2 (400 + i)) {K : Int32 → wv_W → Prop} {KX : String → Nat → wv_W → Prop} (hf : 0 < fr) (hK : K 1 w) : wv_cV G fr yJ8_equals (some (G.2.2.2.2 (400 + i))) [va_rf (some (G.2.2.2.2 (400 + j)))] w (wv_rI K KX) := by
  rw [hs]
  exact z_seq hG hj hf hK
theorem z2_word (hG : wv_G0 G) {v0 v1 v2 d : Option Nat} {v3 v5 v6 v7 x y : Int32} (ha : w.1 a = some (t, wo_o ciX7 [.int c, .int x, .int y])) (hc : c = 99 ∨ c = 103 ∨ c = 109 ∨ c = 110 ∨ c = 115 ∨ c = 116 ∨ c = 104) (hf : 1 < fr) (hK : vc_X2_done_205 G fr P v0 v1 v2 v3 (some a) v5 v6 v7 d (zsw c) w) : vc_X2_done_36 G fr P v0 v1 v2 v3 (some a) v5 v6 v7 d w := by
  obtain ⟨s0, s1, s2, s3, s4, s5⟩ := wst_same hG
  refine z_vA (z_is ha ccX7) (z7_word hG ha) (by omega) ?_
  rcases hc with rfl | rfl | rfl | rfl | rfl | rfl | rfl
  · exact z_str hG (j := 1) (q := wv_sx.getD 1 (0, [])) rfl (by omega) ⟨fun e => absurd e (by decide), fun _ => ⟨fun e => absurd e (by decide), fun _ => ⟨fun e => absurd e (by decide), fun _ => ⟨fun _ => z_seq7 hG (i := 1) (j := 8) (by decide) s1.symm (by omega) ⟨fun e => absurd e (by decide), fun _ => hK⟩, fun e => absurd rfl e⟩⟩⟩⟩
  · exact z_str hG (j := 3) (q := wv_sx.getD 3 (0, [])) rfl (by omega) ⟨fun e => absurd e (by decide), fun _ => ⟨fun _ => z_seq7 hG (i := 3) (j := 10) (by decide) s3.symm (by omega) ⟨fun e => absurd e (by decide), fun _ => hK⟩, fun e => absurd rfl e⟩⟩
  · exact z_str hG (j := 2) (q := wv_sx.getD 2 (0, [])) rfl (by omega) ⟨fun e => absurd e (by decide), fun _ => ⟨fun e => absurd e (by decide), fun _ => ⟨fun e => absurd e (by decide), fun _ => ⟨fun e => absurd e (by decide), fun _ => ⟨fun _ => z_seq7 hG (i := 2) (j := 9) (by decide) s2.symm (by omega) ⟨fun e => absurd e (by decide), fun _ => hK⟩, fun e => absurd rfl e⟩⟩⟩⟩⟩
  · exact z_str hG (j := 0) (q := wv_sx.getD 0 (0, [])) rfl (by omega) ⟨fun _ => z_seq7 hG (i := 0) (j := 7) (by decide) s0.symm (by omega) ⟨fun e => absurd e (by decide), fun _ => hK⟩, fun e => absurd rfl e⟩
  · exact z_str hG (j := 4) (q := wv_sx.getD 4 (0, [])) rfl (by omega) ⟨fun e => absurd e (by decide), fun _ => ⟨fun e => absurd e (by decide), fun _ => ⟨fun _ => z_seq7 hG (i := 4) (j := 11) (by decide) s4.symm (by omega) ⟨fun e => absurd e (by decide), fun _ => hK⟩, fun e => absurd rfl e⟩⟩⟩
  · exact z_str hG (j := 5) (q := wv_sx.getD 5 (0, [])) rfl (by omega) ⟨fun e => absurd e (by decide), fun _ => ⟨fun e => absurd e (by decide), fun _ => ⟨fun e => absurd e (by decide), fun _ => ⟨fun e => absurd e (by decide), fun _ => ⟨fun e => absurd e (by decide), fun _ => ⟨fun _ => z_seq7 hG (i := 5) (j := 12) (by decide) s5.symm (by omega) ⟨fun e => absurd e (by decide), fun _ => hK⟩, fun e => absurd rfl e⟩⟩⟩⟩⟩⟩
  · exact z_str hG (j := 6) (q := wv_sx.getD 6 (0, [])) rfl (by omega) ⟨fun e => absurd e (by decide), fun _ => ⟨fun e => absurd e (by decide), fun _ => ⟨fun e => absurd e (by decide), fun _ => ⟨fun e => absurd e (by decide), fun _ => ⟨fun e => absurd e (by decide), fun _ => ⟨fun e => absurd e (by decide), fun _ => hK⟩⟩⟩⟩⟩⟩
-- ===== what a step does, place kept =====
/-- zdone, after its place -/
def zdn1 (wov : Bool) (pt : zPF) (ty k m p : Nat) (st : zSt) (v : Int32) : zM := fun s =>
  if st.1 = 110 then (.inl (v + st.2.1), s)
  else if st.1 = 99 then pt (99, st.2.1, ty, some (k, m, p)) v s
  else if st.1 = 109 then match pt (109, st.2.1, zAt st.2.1, some (k, m, p)) v (zRF (fun _ => 0) (zRm s)) with
    | (.inl v1, s1) => match pt (99, st.2.2, zAt st.2.1, some (k, m, p + 1)) v1 (zRk wov k m (p + 1) s1) with
      | (x, s2) => (x, zRF s.2.2.2.1 s2)
    | (x, s1) => (x, zRF s.2.2.2.1 s1)
  else if st.1 = 103 ∨ st.1 = 115 then pt (st.1, st.2.1, ty, some (k, m, p)) v s
  else if st.1 = 116 then (if st.2.2 < v then (zraise st.2.1, zRe s) else (.inl v, s))
  else (.inl v, s)
theorem zdone_eq (wov : Bool) (pt : zPF) (ty k m p : Nat) (st : zSt) (v : Int32) (s : zR) : zdone wov pt ty k m p st v s = zdn1 wov pt ty k m p st v (if 0 < zplaces st then zRk wov k m p s else s) := rfl
theorem zThg_other {th' : Nat × Nat × Nat} {F : Nat → Int32} (T : zThg G A σ th F h) (h9 : h th'.2.1 = none) (k1 : kp kn h h1) (k2 : kp (zSR r th') h1 h2) : zThg G A σ th F h2 := by
  obtain ⟨t1, t2, t3⟩ := T
  refine ⟨t1, k2 _ _ (kn.at k1 t2) (fun q => ?_), k2 _ _ (kn.at k1 t3) (fun q => ?_)⟩
  · rcases q with q | q | q
    · exact absurd q.2 (show ¬ 62 ≤ 60 by decide)
    · exact absurd q.2.1 (show ¬ 62 ≤ 55 by decide)
    · exact absurd q.1 (show ¬ 62 = 61 by decide)
  · rcases q with q | q | q
    · exact absurd q.2 (show ¬ 61 ≤ 60 by decide)
    · exact absurd q.2.1 (show ¬ 61 ≤ 55 by decide)
    · rw [q.2, h9] at t3
      cases t3
theorem z2_add110 (R : zRS G A σ r e ch th s h) : True := trivial
/-- a point with a method that only answers: of the singleton -/
theorem z2_lone (hG : wv_G0 G) (hw : zwf σ) (hr : zring σ = false) (hd : d + ch.length = 20) {q : zPi} {v : Int32} (hfit : wv_fit .char q.1) (h1 : q.1 = 109 ∨ q.1 = 104) {j : Nat} (hj : j = 2 ∨ j = 5) (hty : q.2.2.1 < zn σ) {dd : Option Nat} (R : zRS G A σ r e ch th s h) (hp : zPa σ e.1 q.2.2.2 dd h) :
    wv_C G yX2_point [.ref (A 51 r 0), .int q.1, .int q.2.1, .ref (A 4 q.2.2.1 0), .int v, va_rf dd, .int (zinfo q v).2.2.2.1, .ref (wv_lone G j)] h (36 * d + 73) (zcc σ s (zpoint σ e.1 d (ch.map (fun x => x.2)) q v s).2 - 1) (zcs σ s (zpoint σ e.1 d (ch.map (fun x => x.2)) q v s).2 - 4) (zPo G A σ r e ch th (zpoint σ e.1 d (ch.map (fun x => x.2)) q v s) h) :=
  z2_point (F := 36 * d + 44) hG hw hr hd hfit hty R hp (by omega) (fun d' hdd a' => zac_m hG h1 hj)
end ZX5
