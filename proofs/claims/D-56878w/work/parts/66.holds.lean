/-! THE COMPONENT: patterns at points -/
section ZR
variable {G : wv_G} {A A' : zA} {σ σ' : zS} {h h1 h2 h' : wv_H} {w : wv_W} {fr fr' kc ks : Nat} {P : wv_R → wv_H → Prop} {KX : String → Nat → wv_W → Prop} {a b : Nat} {t ta tb : wv_T} {f g : Nat → Nat → Nat} {i : zIn} {o : Option Nat} {x1 x2 : Int32}
/-- a point's object -/
def zPto (A : zA) (i : zIn) (o : Option Nat) (x1 x2 : Int32) : wv_O := wo_o ciX25 [.int i.1, .int i.2.1, va_rf (some (A 4 i.2.2.1 0)), .int i.2.2.2.1, .int i.2.2.2.2, va_rf o, .int x1, .int x2]
/-- what a point keeps of patterns -/
def zHv (σ : zS) (l : List zIn) (x1 x2 : Int32) : Prop := ∀ n, n < 32 → (zb x1 n = true → n < σ.2.1.length ∧ zb x2 n = zhold σ n l) ∧ (zb x1 n = false → zb x2 n = false)
/-- the open points -/
def zCh (A : zA) (σ : zS) (h : wv_H) : List (Nat × zIn) → Prop
  | [] => True
  | (a, i) :: l => i.2.2.1 < zn σ ∧ (∃ x1 x2, h a = some ((60, 0, 0, 0), zPto A i (l.head?.map (fun q => q.1)) x1 x2) ∧ zHv σ (i :: l.map (fun q => q.2)) x1 x2) ∧ a ∉ l.map (fun q => q.1) ∧ zCh A σ h l
theorem zCh_tag : ∀ {l : List (Nat × zIn)}, zCh A σ h l → ∀ b, b ∈ l.map (fun q => q.1) → ∃ o, h b = some ((60, 0, 0, 0), o)
  | [], _, b, hb => by cases hb
  | (a, i) :: l, hc, b, hb => by
    obtain ⟨-, ⟨x1, x2, e1, -⟩, -, c4⟩ := hc
    rcases List.mem_cons.mp hb with rfl | hb
    · exact ⟨_, e1⟩
    · exact zCh_tag c4 b hb
theorem zCh_eq : ∀ {l : List (Nat × zIn)}, zCh A σ h l → (∀ b, b ∈ l.map (fun q => q.1) → h1 b = h b) → zCh A σ h1 l
  | [], _, _ => trivial
  | (a, i) :: l, hc, he => by
    obtain ⟨c0, ⟨x1, x2, e1, e2⟩, c3, c4⟩ := hc
    exact ⟨c0, ⟨x1, x2, by rw [he a List.mem_cons_self]; exact e1, e2⟩, c3, zCh_eq c4 (fun b hb => he b (List.mem_cons_of_mem _ hb))⟩
theorem zCh.keep {S : Nat → wv_T → Prop} {l : List (Nat × zIn)} (hc : zCh A σ h l) (k : kp S h h1) (hS : ∀ a t, S a t → t.1 ≠ 60) : zCh A σ h1 l := by
  refine zCh_eq hc (fun b hb => ?_)
  obtain ⟨o, ho⟩ := zCh_tag hc b hb
  rw [ho]
  exact k b _ ho (fun q => hS _ _ q rfl)
theorem zCh_drop : ∀ {pre s : List (Nat × zIn)}, zCh A σ h (pre ++ s) → zCh A σ h s
  | [], _, hc => hc
  | (_, _) :: _, _, hc => zCh_drop hc.2.2.2
theorem zCh_notin : ∀ {pre s : List (Nat × zIn)}, zCh A σ h (pre ++ s) → ∀ b, b ∈ pre.map (fun q => q.1) → b ∉ s.map (fun q => q.1)
  | [], _, _, b, hb => by cases hb
  | (a, i) :: pre, s, hc, b, hb => by
    obtain ⟨-, -, c3, c4⟩ := hc
    rcases List.mem_cons.mp hb with rfl | hb
    · intro q
      exact c3 (by show b ∈ List.map (fun q => q.1) (pre ++ s); rw [List.map_append]; exact List.mem_append_right _ q)
    · exact zCh_notin c4 b hb
theorem zCh_glue {s : List (Nat × zIn)} : ∀ {pre : List (Nat × zIn)}, zCh A σ h (pre ++ s) → zCh A σ h1 s → (∀ b, b ∉ s.map (fun q => q.1) → h1 b = h b) → zCh A σ h1 (pre ++ s)
  | [], _, hs, _ => hs
  | (a, i) :: pre, hc, hs, he => by
    have hn := zCh_notin (pre := (a, i) :: pre) hc a List.mem_cons_self
    obtain ⟨c0, ⟨x1, x2, e1, e2⟩, c3, c4⟩ := hc
    exact ⟨c0, ⟨x1, x2, by rw [he a hn]; exact e1, e2⟩, c3, zCh_glue c4 hs he⟩
abbrev zS6 : Nat → wv_T → Prop := fun _ t => t.1 = 60
theorem zS6_50 : ∀ (a : Nat) (t : wv_T), zS6 a t → 50 ≤ t.1 := fun _ t e => by rw [e]; decide
theorem zCh_kp {l : List (Nat × zIn)} (hc : zCh A σ h l) (he : ∀ b, b ∉ l.map (fun q => q.1) → h1 b = h b) : kp zS6 h h1 := by
  intro b x hb hn
  rw [he b (fun q => ?_)]
  · exact hb
  · obtain ⟨o, ho⟩ := zCh_tag hc b q
    rw [ho] at hb
    cases hb
    exact hn rfl
-- ===== patterns that only look =====
theorem z9_holds (hG : wv_G0 G) {x : Int32} (ha : h a = some (ta, zPto A i o x1 x2)) (hb : h b = some (tb, wo_o ciX9 [.int x])) : wv_C G yX9_holds [.ref b, .ref a] h 0 0 0 (fun r h' => r = .inl (some (.int (zbI (decide (i.2.1 = x))))) ∧ h' = h) := by
  refine wk_X9_holds (v0 := some b) (v1 := some a) hG (z_gI ha rfl (z_gI hb rfl ⟨fun e => ?_, fun e => ?_⟩))
  · rw [decide_eq_false e]; exact ⟨rfl, rfl, rfl⟩
  · rw [decide_eq_true e]; exact ⟨rfl, rfl, rfl⟩
theorem z11_holds (hG : wv_G0 G) {x : Int32} (ha : h a = some (ta, zPto A i o x1 x2)) (hb : h b = some (tb, wo_o ciX11 [.int x])) : wv_C G yX11_holds [.ref b, .ref a] h 0 0 0 (fun r h' => r = .inl (some (.int (zbI (decide (i.2.2.2.1 = x))))) ∧ h' = h) := by
  refine wk_X11_holds (v0 := some b) (v1 := some a) hG (z_gI ha rfl (z_gI hb rfl ⟨fun e => ?_, fun e => ?_⟩))
  · rw [decide_eq_false e]; exact ⟨rfl, rfl, rfl⟩
  · rw [decide_eq_true e]; exact ⟨rfl, rfl, rfl⟩
theorem z17_holds (hG : wv_G0 G) {x : Int32} (ha : h a = some (ta, zPto A i o x1 x2)) (hb : h b = some (tb, wo_o ciX17 [.int x])) : wv_C G yX17_holds [.ref b, .ref a] h 0 0 0 (fun r h' => r = .inl (some (.int (zbI (decide (i.1 = x))))) ∧ h' = h) := by
  refine wk_X17_holds (v0 := some b) (v1 := some a) hG (z_gI ha rfl (z_gI hb rfl ⟨fun e => ?_, fun e => ?_⟩))
  · rw [decide_eq_false e]; exact ⟨rfl, rfl, rfl⟩
  · rw [decide_eq_true e]; exact ⟨rfl, rfl, rfl⟩
theorem z12_holds (hG : wv_G0 G) {x : Int32} (ha : h a = some (ta, zPto A i o x1 x2)) (hb : h b = some (tb, wo_o ciX12 [.int x])) : wv_C G yX12_holds [.ref b, .ref a] h 0 0 0 (fun r h' => r = .inl (some (.int (zbI (decide (x < i.2.2.2.2))))) ∧ h' = h) := by
  refine wk_X12_holds (v0 := some b) (v1 := some a) hG (z_gI ha rfl (z_gI hb rfl ⟨fun e => ?_, fun e => ?_⟩))
  · rw [decide_eq_false (Int32.not_lt.mpr e)]; exact ⟨rfl, rfl, rfl⟩
  · rw [decide_eq_true (Int32.not_le.mp e)]; exact ⟨rfl, rfl, rfl⟩
theorem z10_holds (hG : wv_G0 G) (hw : zwf σ) (C : zCf G A σ h) (hi : i.2.2.1 < zn σ) {x : Int32} {z : Option Nat} (ha : h a = some (ta, zPto A i o x1 x2)) (hb : h b = some (tb, wo_o ciX10 [.int x, va_rf z])) : wv_C G yX10_holds [.ref b, .ref a] h 8 0 0 (fun r h' => r = .inl (some (.int (zbI (zbelow σ i.2.2.1 x)))) ∧ h' = h) := by
  have hn := hw.1
  exact wk_X10_holds (v0 := some b) (v1 := some a) hG (z_gA ha rfl (z_gI hb rfl (z_vI (z_is (C.type hi) ccX6) (z6_isBelow hG hw C x _ hi) (by omega) ⟨zbI_n _, rfl, rfl⟩)))
-- ===== the rest =====
/-- what a pattern's holding comes to: the open points may keep more -/
def zHoP (A : zA) (σ : zS) (l : List (Nat × zIn)) (h : wv_H) (v : Bool) : wv_R → wv_H → Prop := fun r h' => r = .inl (some (.int (zbI v))) ∧ zCh A σ h' l ∧ ∀ b, b ∉ l.map (fun q => q.1) → h' b = h b
theorem zHoP.of {y : MethodName} {av : List Value} {v : Bool} {l : List (Nat × zIn)} (hc : zCh A σ h l) (hC : wv_C G y av h fr kc ks (fun r h' => r = .inl (some (.int (zbI v))) ∧ h' = h)) : wv_C G y av h fr kc ks (zHoP A σ l h v) := by
  refine hC.mono ?_
  rintro r h' ⟨rfl, rfl⟩
  exact ⟨rfl, hc, fun _ _ => rfl⟩
theorem zHoP.call {w : wv_W} {y : MethodName} {Cn : String} {v : Bool} {l : List (Nat × zIn)} {fr' : Nat} {K : Int32 → wv_W → Prop} {KX : String → Nat → wv_W → Prop} (hi : wv_is G w.1 b Cn) (hF : wv_face Cn (⟨"Weaversgate$Pattern", "holds", "(LWeaversgate$Point;)Z"⟩ : MethodName) y) (hC : wv_C G y [.ref b, .ref a] w.1 fr' 0 0 (zHoP A σ l w.1 v)) (hf : fr' < fr)
    (hK : ∀ h', zCh A σ h' l → (∀ b, b ∉ l.map (fun q => q.1) → h' b = w.1 b) → K (zbI v) (h', w.2)) : wv_cF G fr (⟨"Weaversgate$Pattern", "holds", "(LWeaversgate$Point;)Z"⟩ : MethodName) (some b) [va_rf (some a)] w (wv_rI K KX) := by
  refine ⟨b, Cn, y, rfl, hi, hF, z_c hC hf (Nat.zero_le _) (Nat.zero_le _) ?_⟩
  rintro r h' ⟨rfl, k1, k2⟩
  exact Or.inl ⟨_, rfl, hK h' k1 k2⟩
theorem zHv_add {n : Nat} {l : List zIn} (hv : zHv σ l x1 x2) (hn : n < 32) (hl : n < σ.2.1.length) : zHv σ l (x1 ||| nI (2 ^ n)) (x2 ||| (if zhold σ n l = true then nI (2 ^ n) else 0)) := by
  intro j hj
  have key : zb (x2 ||| (if zhold σ n l = true then nI (2 ^ n) else 0)) j = (zb x2 j || (zhold σ n l && decide (j = n))) := by
    rw [zb_or]
    by_cases hc : zhold σ n l = true
    · rw [if_pos hc, zb_p n j hn, hc, Bool.true_and]
    · rw [if_neg hc, zb_0]
      simp at hc
      rw [hc, Bool.false_and]
  rw [zb_or, zb_p n j hn, key]
  obtain ⟨h1, h2⟩ := hv j hj
  by_cases hjn : j = n
  · subst hjn
    refine ⟨fun _ => ⟨hl, ?_⟩, fun q => by simp at q⟩
    cases hk : zb x1 j
    · rw [h2 hk]
      simp
    · rw [(h1 hk).2]
      simp
  · rw [decide_eq_false hjn, Bool.or_false, Bool.and_false, Bool.or_false]
    exact ⟨h1, h2⟩
/-- how many of a row stand from a on -/
def zpos (a : Nat) : List (Nat × zIn) → Nat
  | [] => 0
  | (b, _) :: r => if b = a then r.length + 1 else zpos a r
theorem zpos_at {a : Nat} {i : zIn} {r : List (Nat × zIn)} : ∀ {pre : List (Nat × zIn)}, a ∉ pre.map (fun q => q.1) → zpos a (pre ++ (a, i) :: r) = r.length + 1
  | [], _ => if_pos rfl
  | (b, j) :: pre, hn => by
    have h1 : ¬ b = a := fun q => hn (by rw [← q]; exact List.mem_cons_self)
    show (if b = a then _ else zpos a (pre ++ (a, i) :: r)) = _
    rw [if_neg h1]
    exact zpos_at (fun q => hn (List.mem_cons_of_mem _ q))
theorem z12_ho (hG : wv_G0 G) (hw : zwf σ) {n : Nat} {p : zPt} (hp : σ.2.1[n]? = some p) {l : List (Nat × zIn)} (C : zCf G A σ h) (hc : zCh A σ h ((a, i) :: l))
    (ih : ∀ m, m < n → ∀ (h : wv_H) (a : Nat) (i : zIn) (l : List (Nat × zIn)), zCf G A σ h → zCh A σ h ((a, i) :: l) → wv_C G yX18_holds [.ref (A 11 m 0), .ref a] h (2 * m + 12) 0 0 (zHoP A σ ((a, i) :: l) h (zhold σ m (i :: l.map (fun q => q.2))))) :
    ∃ (Cn : String) (y : MethodName), wv_is G h (A 12 n 0) Cn ∧ wv_face Cn (⟨"Weaversgate$Pattern", "holds", "(LWeaversgate$Point;)Z"⟩ : MethodName) y ∧ ∃ fr', fr' ≤ 2 * n + 11 ∧ wv_C G y [.ref (A 12 n 0), .ref a] h fr' 0 0 (zHoP A σ ((a, i) :: l) h (zholdB σ (zhold σ) p i (l.map (fun q => q.2)))) := by
  have hb := C.inner hp
  have hl := (List.getElem?_eq_some_iff.mp hp).1
  have h24 := hw.2.2.1
  have hpt : ∀ m, m < n → ∃ p', σ.2.1[m]? = some p' := fun m hm => ⟨_, List.getElem?_eq_getElem (by omega)⟩
  obtain ⟨hin, ⟨x1, x2, ha, hv⟩, -, -⟩ := id hc
  rcases hw.2.2.2.1 n p hp with e | ⟨e, m, hm, em⟩ | ⟨e, ⟨m, hm, em⟩, m2, hm2, em2⟩
  · rcases e with e | e | e | e | e | e | e | e | e | e
    · have e1 : zin A p = wo_o ciX9 [.int p.2.1] := by simp [zin, e]
      have e2 : zholdB σ (zhold σ) p i (l.map (fun q => q.2)) = decide (i.2.1 = p.2.1) := by simp [zholdB, e]
      rw [e1] at hb
      rw [e2]
      exact ⟨_, _, z_is hb ccX9, zfH_X9, 0, by omega, zHoP.of hc (z9_holds hG ha hb)⟩
    · have e1 : zin A p = wo_o ciX10 [.int p.2.1, va_rf (some (A 2 0 0))] := by simp [zin, e]
      have e2 : zholdB σ (zhold σ) p i (l.map (fun q => q.2)) = zbelow σ i.2.2.1 p.2.1 := by simp [zholdB, e]
      rw [e1] at hb
      rw [e2]
      exact ⟨_, _, z_is hb ccX10, zfH_X10, 8, by omega, zHoP.of hc (z10_holds hG hw C hin ha hb)⟩
    · have e1 : zin A p = wo_o ciX11 [.int p.2.1] := by simp [zin, e]
      have e2 : zholdB σ (zhold σ) p i (l.map (fun q => q.2)) = decide (i.2.2.2.1 = p.2.1) := by simp [zholdB, e]
      rw [e1] at hb
      rw [e2]
      exact ⟨_, _, z_is hb ccX11, zfH_X11, 0, by omega, zHoP.of hc (z11_holds hG ha hb)⟩
    · have e1 : zin A p = wo_o ciX12 [.int p.2.1] := by simp [zin, e]
      have e2 : zholdB σ (zhold σ) p i (l.map (fun q => q.2)) = decide (p.2.1 < i.2.2.2.2) := by simp [zholdB, e]
      rw [e1] at hb
      rw [e2]
      exact ⟨_, _, z_is hb ccX12, zfH_X12, 0, by omega, zHoP.of hc (z12_holds hG ha hb)⟩
    all_goals
      have e1 : zin A p = wo_o ciX17 [.int p.1] := by simp [zin, e]
      have e2 : zholdB σ (zhold σ) p i (l.map (fun q => q.2)) = decide (i.1 = p.1) := by simp [zholdB, e]
      rw [e1] at hb
      rw [e2]
      exact ⟨_, _, z_is hb ccX17, zfH_X17, 0, by omega, zHoP.of hc (z17_holds hG ha hb)⟩
  · have em' : zAt p.2.1 = m := by rw [em]; exact zAt_nI (by omega)
    obtain ⟨p', hp'⟩ := hpt m hm
    rcases e with e | e
    · have e1 : zin A p = wo_o ciX13 [va_rf (some (A 11 m 0))] := by simp [zin, e, em']
      have e2 : zholdB σ (zhold σ) p i (l.map (fun q => q.2)) = zany (zhold σ m) (i :: l.map (fun q => q.2)) := by simp [zholdB, e, em']
      rw [e1] at hb
      rw [e2]
      refine ⟨_, _, z_is hb ccX13, zfH_X13, 2 * m + 13, by omega, ?_⟩
      refine wk_X13_holds (v0 := some (A 12 n 0)) (v1 := some a) hG ?_
      refine ⟨fun v w => ∃ pre s, (a, i) :: l = pre ++ s ∧ v = (some (A 12 n 0), s.head?.map (fun q => q.1)) ∧ zCh A σ w.1 ((a, i) :: l) ∧ (∀ b, b ∉ ((a, i) :: l).map (fun q => q.1) → w.1 b = h b) ∧ zany (zhold σ m) (i :: l.map (fun q => q.2)) = zany (zhold σ m) (s.map (fun q => q.2)), fun v _ => match v.2 with | none => 0 | some b => zpos b ((a, i) :: l), ⟨[], (a, i) :: l, rfl, rfl, hc, fun _ _ => rfl, rfl⟩, ?_⟩
      rintro _ ⟨h1, c, s9⟩ ⟨pre, s, epre, rfl, hc1, hfr, hany⟩
      have hc1 : zCh A σ h1 ((a, i) :: l) := hc1
      have hfr : ∀ b, b ∉ ((a, i) :: l).map (fun q => q.1) → h1 b = h b := hfr
      have k1 := zCh_kp hc hfr
      have C1 := C.keep k1 zS6_50
      cases s with
      | nil =>
        refine ⟨fun _ => ⟨fun _ => ⟨rfl, ?_, hc1, hfr⟩, fun q => absurd rfl q⟩, fun q => absurd rfl q⟩
        rw [hany]
        rfl
      | cons y s =>
        obtain ⟨b, j⟩ := y
        refine ⟨fun q => (by cases q), fun _ => ?_⟩
        have hb1 := C1.inner hp
        rw [e1] at hb1
        have hcs : zCh A σ h1 ((b, j) :: s) := zCh_drop (pre := pre) (by rw [← epre]; exact hc1)
        have hnot : b ∉ pre.map (fun q => q.1) := fun q => zCh_notin (pre := pre) (s := (b, j) :: s) (by rw [← epre]; exact hc1) b q List.mem_cons_self
        refine z_gA hb1 rfl (zHoP.call (z_is (C1.pat hp') ccX18) zfH_X18 (ih m hm h1 b j s C1 hcs) (by omega) (fun h2 hc2 he2 => ?_))
        have hc3 : zCh A σ h2 ((a, i) :: l) := by
          rw [epre]
          exact zCh_glue (h := h1) (by rw [← epre]; exact hc1) hc2 he2
        have hfr3 : ∀ b9, b9 ∉ ((a, i) :: l).map (fun q => q.1) → h2 b9 = h b9 := by
          intro b9 hb9
          rw [he2 b9 (fun q => hb9 ?_)]
          · exact hfr b9 hb9
          · rw [epre, List.map_append]
            exact List.mem_append_right _ q
        refine ⟨fun q => ?_, fun q => ?_⟩
        · refine ⟨fun q => (by cases q), fun _ => ⟨rfl, ?_, hc3, hfr3⟩⟩
          rw [hany]
          show _ = Sum.inl (some (Value.int (zbI (zhold σ m (j :: s.map (fun q => q.2)) || zany (zhold σ m) (s.map (fun q => q.2))))))
          rw [zbI_n0 q, Bool.true_or]
          rfl
        · obtain ⟨-, ⟨y1, y2, e9, -⟩, -, -⟩ := hc2
          refine z_gA e9 rfl ⟨⟨pre ++ [(b, j)], s, ?_, rfl, hc3, hfr3, ?_⟩, ?_⟩
          · rw [epre, List.append_assoc]
            rfl
          · rw [hany]
            show (zhold σ m (j :: s.map (fun q => q.2)) || zany (zhold σ m) (s.map (fun q => q.2))) = _
            rw [zbI_e0 q, Bool.false_or]
          · show (match s.head?.map (fun q => q.1) with | none => 0 | some b => zpos b ((a, i) :: l)) < zpos b ((a, i) :: l)
            rw [epre, zpos_at hnot]
            cases hs : s with
            | nil => exact Nat.succ_pos _
            | cons z s' =>
              obtain ⟨d, j2⟩ := z
              show zpos d (pre ++ (b, j) :: (d, j2) :: s') < _
              have h9 : d ∉ (pre ++ [(b, j)]).map (fun q => q.1) := fun q => zCh_notin (A := A) (σ := σ) (h := h1) (pre := pre ++ [(b, j)]) (s := (d, j2) :: s') (by rw [List.append_assoc]; show zCh A σ h1 (pre ++ (b, j) :: (d, j2) :: s'); rw [← hs, ← epre]; exact hc1) d q List.mem_cons_self
              have h10 := zpos_at (i := j2) (r := s') h9
              rw [List.append_assoc] at h10
              have h10 : zpos d (pre ++ (b, j) :: (d, j2) :: s') = s'.length + 1 := h10
              rw [h10]
              show s'.length + 1 < s'.length + 1 + 1
              omega
    · have e1 : zin A p = wo_o ciX16 [va_rf (some (A 11 m 0))] := by simp [zin, e, em']
      have e2 : zholdB σ (zhold σ) p i (l.map (fun q => q.2)) = !zhold σ m (i :: l.map (fun q => q.2)) := by simp [zholdB, e, em']
      rw [e1] at hb
      rw [e2]
      refine ⟨_, _, z_is hb ccX16, zfH_X16, 2 * m + 13, by omega, ?_⟩
      refine wk_X16_holds (v0 := some (A 12 n 0)) (v1 := some a) hG ?_
      refine z_gA hb rfl (zHoP.call (z_is (C.pat hp') ccX18) zfH_X18 (ih m hm h a i l C hc) (by omega) (fun h2 hc2 he2 => ⟨fun q => ?_, fun q => ?_⟩))
      · exact ⟨rfl, by rw [zbI_n0 q]; rfl, hc2, he2⟩
      · exact ⟨rfl, by rw [zbI_e0 q]; rfl, hc2, he2⟩
  · have em' : zAt p.2.1 = m := by rw [em]; exact zAt_nI (by omega)
    have em2' : zAt p.2.2 = m2 := by rw [em2]; exact zAt_nI (by omega)
    obtain ⟨p', hp'⟩ := hpt m hm
    obtain ⟨p2, hp2⟩ := hpt m2 hm2
    rcases e with e | e
    · have e1 : zin A p = wo_o ciX15 [.int 1, va_rf (some (A 11 m 0)), va_rf (some (A 11 m2 0)), .int 110] := by simp [zin, e, em', em2']
      have e2 : zholdB σ (zhold σ) p i (l.map (fun q => q.2)) = (zhold σ m (i :: l.map (fun q => q.2)) && zhold σ m2 (i :: l.map (fun q => q.2))) := by simp [zholdB, e, em', em2']
      rw [e1] at hb
      rw [e2]
      refine ⟨_, _, z_is hb ccX15, zfH_X15, 2 * n + 11, by omega, ?_⟩
      refine wk_X15_holds (v0 := some (A 12 n 0)) (v1 := some a) hG (z_gI hb rfl ⟨fun q => absurd q (by decide), fun _ => ?_⟩)
      refine z_gA hb rfl (zHoP.call (z_is (C.pat hp') ccX18) zfH_X18 (ih m hm h a i l C hc) (by omega) (fun h2 hc2 he2 => ⟨fun q => ?_, fun q => ?_⟩))
      · exact ⟨rfl, by rw [zbI_e0 q]; rfl, hc2, he2⟩
      · have C2 := C.keep (zCh_kp hc he2) zS6_50
        have hb2 := C2.inner hp
        rw [e1] at hb2
        refine z_gA hb2 rfl (zHoP.call (z_is (C2.pat hp2) ccX18) zfH_X18 (ih m2 hm2 h2 a i l C2 hc2) (by omega) (fun h3 hc3 he3 => ⟨fun q2 => ?_, fun q2 => ?_⟩))
        · exact ⟨rfl, by rw [zbI_n0 q, zbI_e0 q2]; rfl, hc3, fun b hb => (he3 b hb).trans (he2 b hb)⟩
        · exact ⟨rfl, by rw [zbI_n0 q, zbI_n0 q2]; rfl, hc3, fun b hb => (he3 b hb).trans (he2 b hb)⟩
    · have e1 : zin A p = wo_o ciX15 [.int 0, va_rf (some (A 11 m 0)), va_rf (some (A 11 m2 0)), .int 121] := by simp [zin, e, em', em2']
      have e2 : zholdB σ (zhold σ) p i (l.map (fun q => q.2)) = (zhold σ m (i :: l.map (fun q => q.2)) || zhold σ m2 (i :: l.map (fun q => q.2))) := by simp [zholdB, e, em', em2']
      rw [e1] at hb
      rw [e2]
      refine ⟨_, _, z_is hb ccX15, zfH_X15, 2 * n + 11, by omega, ?_⟩
      refine wk_X15_holds (v0 := some (A 12 n 0)) (v1 := some a) hG (z_gI hb rfl ⟨fun _ => ?_, fun q => absurd rfl q⟩)
      refine z_gA hb rfl (zHoP.call (z_is (C.pat hp') ccX18) zfH_X18 (ih m hm h a i l C hc) (by omega) (fun h2 hc2 he2 => ⟨fun q => ?_, fun q => ?_⟩))
      · exact ⟨rfl, by rw [zbI_n0 q]; rfl, hc2, he2⟩
      · have C2 := C.keep (zCh_kp hc he2) zS6_50
        have hb2 := C2.inner hp
        rw [e1] at hb2
        refine z_gA hb2 rfl (zHoP.call (z_is (C2.pat hp2) ccX18) zfH_X18 (ih m2 hm2 h2 a i l C2 hc2) (by omega) (fun h3 hc3 he3 => ⟨fun q2 => ?_, fun q2 => ?_⟩))
        · exact ⟨rfl, by rw [zbI_e0 q, zbI_e0 q2]; rfl, hc3, fun b hb => (he3 b hb).trans (he2 b hb)⟩
        · exact ⟨rfl, by rw [zbI_e0 q, zbI_n0 q2]; rfl, hc3, fun b hb => (he3 b hb).trans (he2 b hb)⟩
theorem z18_57 (hG : wv_G0 G) {n : Nat} {w : wv_W} {d : Option Nat} {l : List zIn} {KK : wv_R → wv_H → Prop} (ha : w.1 a = some (ta, zPto A i o x1 x2)) (hb : w.1 b = some (tb, wo_o ciX18 [va_rf d, .int (nI (2 ^ n))])) (hn : n < 32) (hv : zHv σ l x1 x2) (hk : zb x1 n = true) (hK : KK (.inl (some (.int (zbI (zhold σ n l))))) w.1) : vc_X18_holds_57 G fr KK (some b) (some a) w := by
  obtain ⟨-, h2⟩ := (hv n hn).1 hk
  refine z_gI ha rfl (z_gI hb rfl ⟨fun e => ?_, fun e => ?_⟩)
  · rw [zb_and0 hn, h2] at e
    rw [e] at hK
    exact ⟨rfl, hK⟩
  · rw [zb_and0 hn, h2] at e
    simp at e
    rw [e] at hK
    exact ⟨rfl, hK⟩
/-- a numbered pattern at an open point -/
theorem z18_holds (hG : wv_G0 G) (hw : zwf σ) : ∀ (n : Nat), n < σ.2.1.length → ∀ (h : wv_H) (a : Nat) (i : zIn) (l : List (Nat × zIn)), zCf G A σ h → zCh A σ h ((a, i) :: l) → wv_C G yX18_holds [.ref (A 11 n 0), .ref a] h (2 * n + 12) 0 0 (zHoP A σ ((a, i) :: l) h (zhold σ n (i :: l.map (fun q => q.2)))) := by
  intro n
  induction n using Nat.strongRecOn with
  | ind n ih =>
    intro hl h a i l C hc
    have hp := List.getElem?_eq_getElem hl
    have h24 := hw.2.2.1
    have hb := C.pat hp
    obtain ⟨hin, ⟨x1, x2, ha, hv⟩, hnot, hcl⟩ := id hc
    refine wk_X18_holds (v0 := some (A 11 n 0)) (v1 := some a) hG ?_
    refine z_gI ha rfl (z_gI hb rfl ⟨fun e => ?_, fun e => ?_⟩)
    · rw [zb_and0 (by omega)] at e
      exact z18_57 hG (w := (h, 0, 0)) ha hb (by omega) hv (by simpa using e) ⟨rfl, hc, fun _ _ => rfl⟩
    · obtain ⟨Cn, y, hi, hF, fr', hfr, hC⟩ := z12_ho hG hw hp C hc (fun m hm h a i l C hc => ih m hm (by omega) h a i l C hc)
      rw [← zhold_eq hw hp] at hC
      refine z_gA hb rfl (zHoP.call hi hF hC (by omega) (fun h2 hc2 he2 => ?_))
      have C2 := C.keep (zCh_kp hc he2) zS6_50
      have hb2 := C2.pat hp
      obtain ⟨-, ⟨y1, y2, ha2, hv2⟩, -, hcl2⟩ := id hc2
      have fin : ∀ s0 s1, s1 = y2 → s0 = (if zhold σ n (i :: l.map (fun q => q.2)) = true then nI (2 ^ n) else 0) → vc_X18_holds_40 G (2 * n + 12) (zHoP A σ ((a, i) :: l) h (zhold σ n (i :: l.map (fun q => q.2)))) (some (A 11 n 0)) (some a) s0 s1 (some a) (h2, 0, 0) := by
        rintro s0 s1 rfl rfl
        refine z_pt ha2 (by decide) (by simp) ?_
        have k3 : kp zS6 h2 (wv_up h2 a ((60, 0, 0, 0), zPto A i (l.head?.map (fun q => q.1)) y1 (s1 ||| (if zhold σ n (i :: l.map (fun q => q.2)) = true then nI (2 ^ n) else 0)))) := kp.put ha2 rfl
        have C3 := C2.keep k3 zS6_50
        refine z_gI wv_up_self rfl (z_gI (C3.pat hp) rfl (z_pt wv_up_self (by decide) (by simp) ?_))
        rw [z_uu]
        have k4 : kp zS6 h2 (wv_up h2 a ((60, 0, 0, 0), zPto A i (l.head?.map (fun q => q.1)) (y1 ||| nI (2 ^ n)) (s1 ||| (if zhold σ n (i :: l.map (fun q => q.2)) = true then nI (2 ^ n) else 0)))) := kp.put ha2 rfl
        have C4 := C2.keep k4 zS6_50
        have hv4 := zHv_add hv2 (n := n) (by omega) hl
        refine z18_57 hG (w := (wv_up h2 a ((60, 0, 0, 0), zPto A i (l.head?.map (fun q => q.1)) (y1 ||| nI (2 ^ n)) (s1 ||| (if zhold σ n (i :: l.map (fun q => q.2)) = true then nI (2 ^ n) else 0))), 0, 0)) wv_up_self (C4.pat hp) (by omega) hv4 ?_ ⟨rfl, ⟨hin, ⟨_, _, wv_up_self, hv4⟩, hnot, ?_⟩, ?_⟩
        · rw [zb_or, zb_p n n (by omega)]
          simp
        · refine zCh_eq hcl2 (fun b hb => ?_)
          exact wv_up_ne (fun q => hnot (by rw [← q]; exact hb))
        · intro b hb
          show wv_up h2 a _ b = h b
          rw [wv_up_ne (fun q => hb (by rw [q]; exact List.mem_cons_self))]
          exact he2 b hb
      refine z_gI ha2 rfl ⟨fun q => ?_, fun q => z_gI hb2 rfl ?_⟩
      · exact fin 0 y2 rfl (by rw [zbI_e0 q]; rfl)
      · exact fin (nI (2 ^ n)) y2 rfl (by rw [zbI_n0 q]; rfl)
-- ===== goingOn =====
theorem z25_goingOn (hG : wv_G0 G) : ∀ (l : List (Nat × zIn)) (a : Nat) (i : zIn), l.length ≤ 20 → zCh A σ h ((a, i) :: l) → wv_C G yX25_goingOn [.ref a] h l.length 0 0 (fun r h' => r = .inl (some (.int (nI (l.length + 1)))) ∧ h' = h)
  | [], a, i, _, hc => by
    obtain ⟨-, ⟨x1, x2, ha, -⟩, -, -⟩ := hc
    exact wk_X25_goingOn (v0 := some a) hG (z_gA ha rfl ⟨fun q => absurd rfl q, fun _ => ⟨rfl, rfl⟩⟩)
  | (b, j) :: l, a, i, hl, hc => by
    obtain ⟨-, ⟨x1, x2, ha, -⟩, -, hcl⟩ := hc
    obtain ⟨-, ⟨y1, y2, hb, -⟩, -, -⟩ := id hcl
    refine wk_X25_goingOn (v0 := some a) hG (z_gA ha rfl ⟨fun _ => z_gA ha rfl (z_vI (z_is hb ccX25) (z25_goingOn hG l b j (by simp at hl; omega) hcl) (by simp) ⟨?_, rfl⟩), fun q => by cases q⟩)
    rw [← nI_succ]
    rfl
end ZR
