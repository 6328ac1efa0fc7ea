/-! THE COMPONENT: a numbered pattern matched with a place -/
section ZC2
variable {G : wv_G} {A : zA} {σ : zS} {h h1 h' : wv_H} {fr kc ks : Nat} {P : wv_R → wv_H → Prop} {a b : Nat} {ta tb : wv_T} {q : zPl} {x1 x2 x3 : Int32}
theorem z12_in (hG : wv_G0 G) (hw : zwf σ) {n : Nat} {p : zPt} (hp : σ.2.1[n]? = some p) (C : zCf G A σ h) (ha : h a = some ((59, 0, 0, 0), zPlo σ q x1 x2 x3)) (hv : zPv σ q x1 x2 x3)
    (ih : ∀ m, m < n → ∀ (h : wv_H) (x1 x2 x3 : Int32), zCf G A σ h → h a = some ((59, 0, 0, 0), zPlo σ q x1 x2 x3) → zPv σ q x1 x2 x3 → wv_C G yX18_at [.ref (A 11 m 0), .ref a] h (2 * m + 12) 0 0 (zAtP σ q a h (zat σ q m))) :
    ∃ (Cn : String) (y : MethodName), wv_is G h (A 12 n 0) Cn ∧ wv_face Cn (⟨"Weaversgate$Pattern", "at", "(LWeaversgate$Place;)C"⟩ : MethodName) y ∧ ∃ fr', fr' ≤ 2 * n + 11 ∧ wv_C G y [.ref (A 12 n 0), .ref a] h fr' 0 0 (zAtP σ q a h (zatB σ q (zat σ q) p)) := by
  have hb := C.inner hp
  have hl := (List.getElem?_eq_some_iff.mp hp).1
  have h24 := hw.2.2.1
  have hpt : ∀ m, m < n → ∃ p', σ.2.1[m]? = some p' := fun m hm => ⟨_, List.getElem?_eq_getElem (by omega)⟩
  rcases hw.2.2.2.1 n p hp with e | ⟨e, m, hm, em⟩ | ⟨e, ⟨m, hm, em⟩, m2, hm2, em2⟩
  · rcases e with e | e | e | e | e | e | e | e | e | e
    · have e1 : zin A p = wo_o ciX9 [.int p.2.1] := by simp [zin, e]
      have e2 : zatB σ q (zat σ q) p = (if q.1 = 104 then (if q.2.1 < p.2.1 then 110 else 109) else zsure (decide (q.2.1 = p.2.1))) := by simp [zatB, e]
      rw [e1] at hb
      rw [e2]
      exact ⟨_, _, z_is hb ccX9, zfA_X9, 1, by omega, zAtP.of ha hv (z9_at hG ha hb)⟩
    · have e1 : zin A p = wo_o ciX10 [.int p.2.1, va_rf (some (A 2 0 0))] := by simp [zin, e]
      have e2 : zatB σ q (zat σ q) p = zatT σ q p.2.1 := by simp [zatB, e]
      rw [e1] at hb
      rw [e2]
      exact ⟨_, _, z_is hb ccX10, zfA_X10, 8, by omega, zAtP.of ha hv (z10_at hG hw C ha hb)⟩
    · have e1 : zin A p = wo_o ciX11 [.int p.2.1] := by simp [zin, e]
      have e2 : zatB σ q (zat σ q) p = zsure (decide (q.2.2.1 = p.2.1)) := by simp [zatB, e]
      rw [e1] at hb
      rw [e2]
      exact ⟨_, _, z_is hb ccX11, zfA_X11, 1, by omega, zAtP.of ha hv (z11_at hG ha hb)⟩
    · have e1 : zin A p = wo_o ciX12 [.int p.2.1] := by simp [zin, e]
      have e2 : zatB σ q (zat σ q) p = 109 := by simp [zatB, e]
      rw [e1] at hb
      rw [e2]
      exact ⟨_, _, z_is hb ccX12, zfA_X12, 0, by omega, zAtP.of ha hv (z12_at hG)⟩
    all_goals
      have e1 : zin A p = wo_o ciX17 [.int p.1] := by simp [zin, e]
      have e2 : zatB σ q (zat σ q) p = zsure (decide (q.1 = p.1)) := by simp [zatB, e]
      rw [e1] at hb
      rw [e2]
      exact ⟨_, _, z_is hb ccX17, zfA_X17, 1, by omega, zAtP.of ha hv (z17_at hG ha hb)⟩
  · have em' : zAt p.2.1 = m := by rw [em]; exact zAt_nI (by omega)
    obtain ⟨p', hp'⟩ := hpt m hm
    rcases e with e | e
    · have e1 : zin A p = wo_o ciX13 [va_rf (some (A 11 m 0))] := by simp [zin, e, em']
      have e2 : zatB σ q (zat σ q) p = (if zat σ q m = 121 then 121 else 109) := by simp [zatB, e, em']
      rw [e1] at hb
      rw [e2]
      refine ⟨_, _, z_is hb ccX13, zfA_X13, 2 * m + 13, by omega, ?_⟩
      refine wk_X13_at (v0 := some (A 12 n 0)) (v1 := some a) hG ?_
      refine z_gA hb rfl (zAtP.call (z_is (C.pat hp') ccX18) zfA_X18 (ih m hm h x1 x2 x3 C ha hv) (by omega) (fun y1 y2 y3 hy => ⟨fun q9 => ?_, fun q9 => ?_⟩))
      · rw [if_neg q9]
        exact ⟨rfl, rfl, y1, y2, y3, rfl, hy⟩
      · rw [if_pos q9]
        exact ⟨rfl, rfl, y1, y2, y3, rfl, hy⟩
    · have e1 : zin A p = wo_o ciX16 [va_rf (some (A 11 m 0))] := by simp [zin, e, em']
      have e2 : zatB σ q (zat σ q) p = (if zat σ q m = 109 then 109 else zsure (decide (zat σ q m = 110))) := by simp [zatB, e, em']
      rw [e1] at hb
      rw [e2]
      refine ⟨_, _, z_is hb ccX16, zfA_X16, 2 * m + 13, by omega, ?_⟩
      refine wk_X16_at (v0 := some (A 12 n 0)) (v1 := some a) hG ?_
      refine z_gA hb rfl (zAtP.call (z_is (C.pat hp') ccX18) zfA_X18 (ih m hm h x1 x2 x3 C ha hv) (by omega) (fun y1 y2 y3 hy => ⟨fun q9 => ⟨fun q8 => ?_, fun q8 => ?_⟩, fun q9 => ?_⟩))
      · rw [if_neg q9, decide_eq_false q8]
        exact z_cI (z14_sure hG false) (by omega) ⟨zsure_n _, rfl, y1, y2, y3, rfl, hy⟩
      · rw [if_neg q9, decide_eq_true q8]
        exact z_cI (z14_sure hG true) (by omega) ⟨zsure_n _, rfl, y1, y2, y3, rfl, hy⟩
      · rw [if_pos q9]
        exact ⟨rfl, rfl, y1, y2, y3, rfl, hy⟩
  · have em' : zAt p.2.1 = m := by rw [em]; exact zAt_nI (by omega)
    have em2' : zAt p.2.2 = m2 := by rw [em2]; exact zAt_nI (by omega)
    obtain ⟨p', hp'⟩ := hpt m hm
    obtain ⟨p2, hp2⟩ := hpt m2 hm2
    have main : ∀ (i c : Int32), (c = 110 ∨ c = 121) → zin A p = wo_o ciX15 [.int i, va_rf (some (A 11 m 0)), va_rf (some (A 11 m2 0)), .int c] → zatB σ q (zat σ q) p = (if zat σ q m = c ∨ zat σ q m2 = c then c else if zat σ q m = zat σ q m2 then zat σ q m else 109) →
        ∃ (Cn : String) (y : MethodName), wv_is G h (A 12 n 0) Cn ∧ wv_face Cn (⟨"Weaversgate$Pattern", "at", "(LWeaversgate$Place;)C"⟩ : MethodName) y ∧ ∃ fr', fr' ≤ 2 * n + 11 ∧ wv_C G y [.ref (A 12 n 0), .ref a] h fr' 0 0 (zAtP σ q a h (zatB σ q (zat σ q) p)) := by
      intro i c hc e1 e2
      rw [e1] at hb
      rw [e2]
      have hcn : narrow .char (.int c) = .int c := by rcases hc with rfl | rfl <;> rfl
      refine ⟨_, _, z_is hb ccX15, zfA_X15, 2 * n + 11, by omega, ?_⟩
      refine wk_X15_at (v0 := some (A 12 n 0)) (v1 := some a) hG ?_
      refine z_gA hb rfl (zAtP.call (z_is (C.pat hp') ccX18) zfA_X18 (ih m hm h x1 x2 x3 C ha hv) (by omega) (fun y1 y2 y3 hy => ?_))
      have C1 := C.pl (x := ((59, 0, 0, 0), zPlo σ q y1 y2 y3)) ha
      have hb1 := C1.inner hp
      rw [e1] at hb1
      refine z_gA hb1 rfl (zAtP.call (z_is (C1.pat hp2) ccX18) zfA_X18 (ih m2 hm2 _ y1 y2 y3 C1 wv_up_self hy) (by omega) (fun z1 z2 z3 hz => ?_))
      have C2 := C1.pl (x := ((59, 0, 0, 0), zPlo σ q z1 z2 z3)) wv_up_self
      have hb2 := C2.inner hp
      rw [e1] at hb2
      have fin : ∀ v : Int32, zAtP σ q a h v (.inl (some (.int v))) (wv_up (wv_up h a ((59, 0, 0, 0), zPlo σ q y1 y2 y3)) a ((59, 0, 0, 0), zPlo σ q z1 z2 z3)) := fun v => ⟨rfl, z1, z2, z3, z_uu, hz⟩
      refine z_gI hb2 rfl ⟨fun q8 => ?_, fun q8 => z_gI hb2 rfl ⟨fun q7 => ?_, fun q7 => ?_⟩⟩
      · rw [if_pos (Or.inl q8)]
        exact ⟨fun q => absurd q (by decide), fun _ => z_gI hb2 rfl ⟨hcn, fin c⟩⟩
      · rw [if_neg (fun q => q.elim q8 q7)]
        refine ⟨fun _ => ⟨fun q6 => ?_, fun q6 => ?_⟩, fun q => absurd rfl q⟩
        · rw [if_neg q6]
          exact ⟨rfl, fin _⟩
        · rw [if_pos q6]
          exact ⟨zat_n m, fin _⟩
      · rw [if_pos (Or.inr q7)]
        exact ⟨fun q => absurd q (by decide), fun _ => z_gI hb2 rfl ⟨hcn, fin c⟩⟩
    rcases e with e | e
    · exact main 1 110 (Or.inl rfl) (by simp [zin, e, em', em2']) (by simp [zatB, e, em', em2'])
    · exact main 0 121 (Or.inr rfl) (by simp [zin, e, em', em2']) (by simp [zatB, e, em', em2'])
/-- a numbered pattern, matched with a place -/
theorem z18_at (hG : wv_G0 G) (hw : zwf σ) : ∀ (n : Nat), n < σ.2.1.length → ∀ (h : wv_H) (x1 x2 x3 : Int32), zCf G A σ h → h a = some ((59, 0, 0, 0), zPlo σ q x1 x2 x3) → zPv σ q x1 x2 x3 → wv_C G yX18_at [.ref (A 11 n 0), .ref a] h (2 * n + 12) 0 0 (zAtP σ q a h (zat σ q n)) := by
  intro n
  induction n using Nat.strongRecOn with
  | ind n ih =>
    intro hl h x1 x2 x3 C ha hv
    have hp := List.getElem?_eq_getElem hl
    have h24 := hw.2.2.1
    have hb := C.pat hp
    refine wk_X18_at (v0 := some (A 11 n 0)) (v1 := some a) hG ?_
    refine z_gI ha rfl (z_gI hb rfl ⟨fun e => ?_, fun e => ?_⟩)
    · rw [zb_and0 (by omega)] at e
      exact z18_82 hG (w := (h, 0, 0)) ha hb (by omega) hv (by simpa using e) rfl ⟨rfl, x1, x2, x3, (z_same ha).symm, hv⟩
    · obtain ⟨Cn, y, hi, hF, fr', hfr, hC⟩ := z12_in hG hw hp C ha hv (fun m hm h x1 x2 x3 C ha hv => ih m hm (by omega) h x1 x2 x3 C ha hv)
      rw [← zat_eq hw hp] at hC
      refine z_gA hb rfl (zAtP.call hi hF hC (by omega) (fun y1 y2 y3 hy => ?_))
      have C1 := C.pl (x := ((59, 0, 0, 0), zPlo σ q y1 y2 y3)) ha
      have hb1 := C1.pat hp
      refine z_gI wv_up_self rfl (z_gI hb1 rfl (z_pt wv_up_self (by decide) (by simp) ?_))
      have C2 := C1.pl (x := ((59, 0, 0, 0), zPlo σ q (y1 ||| nI (2 ^ n)) y2 y3)) wv_up_self
      have hb2 := C2.pat hp
      have fin : ∀ z1 z2 z3, z1 = y1 ||| nI (2 ^ n) → z2 = y2 ||| (if zat σ q n = 121 then nI (2 ^ n) else 0) → z3 = y3 ||| (if zat σ q n = 110 then nI (2 ^ n) else 0) → vc_X18_at_82 G (2 * n + 12) (zAtP σ q a h (zat σ q n)) (some (A 11 n 0)) (some a) (wv_up h a ((59, 0, 0, 0), zPlo σ q z1 z2 z3), 0, 0) := by
        rintro z1 z2 z3 rfl rfl rfl
        have hz := zPv_add hy (by omega) hl (rfl : zat σ q n = zat σ q n)
        have C3 := C.pl (x := ((59, 0, 0, 0), zPlo σ q (y1 ||| nI (2 ^ n)) (y2 ||| (if zat σ q n = 121 then nI (2 ^ n) else 0)) (y3 ||| (if zat σ q n = 110 then nI (2 ^ n) else 0)))) ha
        refine z18_82 hG (w := (_, 0, 0)) wv_up_self (C3.pat hp) (by omega) hz ?_ rfl ⟨rfl, _, _, _, rfl, hz⟩
        rw [zb_or, zb_p n n (by omega)]
        simp
      have nxt : ∀ z2, z2 = y2 ||| (if zat σ q n = 121 then nI (2 ^ n) else 0) → ∀ s0 s1, s1 ||| s0 = z2 → s1 = y2 → vc_X18_at_55 G (2 * n + 12) (zAtP σ q a h (zat σ q n)) (some (A 11 n 0)) (some a) (zat σ q n) s0 s1 (some a) (wv_up (wv_up h a ((59, 0, 0, 0), zPlo σ q y1 y2 y3)) a ((59, 0, 0, 0), zPlo σ q (y1 ||| nI (2 ^ n)) y2 y3), 0, 0) := by
        rintro z2 hz2 s0 s1 hs rfl
        refine z_pt wv_up_self (by decide) (by simp) ?_
        refine z_gI wv_up_self rfl ⟨fun q9 => ?_, fun q9 => ?_⟩
        · refine z_pt wv_up_self (by decide) (by simp) ?_
          rw [z_uu, z_uu, z_uu]
          exact fin _ _ _ rfl (by rw [hs]; exact hz2) (by rw [if_neg q9])
        · have C4 := C2.pl (x := ((59, 0, 0, 0), zPlo σ q (y1 ||| nI (2 ^ n)) (s1 ||| s0) y3)) wv_up_self
          refine z_gI (C4.pat hp) rfl ?_
          refine z_pt wv_up_self (by decide) (by simp) ?_
          rw [z_uu, z_uu, z_uu]
          exact fin _ _ _ rfl (by rw [hs]; exact hz2) (by rw [if_pos q9])
      refine z_gI wv_up_self rfl ⟨fun q9 => ?_, fun q9 => z_gI hb2 rfl ?_⟩
      · exact nxt _ rfl 0 y2 (by rw [if_neg q9]) rfl
      · exact nxt _ rfl (nI (2 ^ n)) y2 (by rw [if_pos q9]) rfl
end ZC2
