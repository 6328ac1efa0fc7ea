/-! THE COMPONENT: places forgotten and counted -/
section ZH
variable {G : wv_G} {A : zA} {σ : zS} {h h1 h2 h' : wv_H} {w : wv_W} {fr fr' kc ks : Nat} {P : wv_R → wv_H → Prop} {KX : String → Nat → wv_W → Prop} {a : Nat} {t : wv_T} {f g : Nat → Nat → Nat}
/-- lists of places, of any content -/
def zPl0 (A : zA) (n : Nat) (h : wv_H) (D : Nat → Nat → Prop) : Prop := ∀ k m, k < n → m < 6 → ∃ xs, zL h (A 58 k m) (58, k, m, 0) xs ∧ (D k m → xs = [])
abbrev zS5 : Nat → wv_T → Prop := fun _ t => t.1 = 58
theorem z1_forget (hG : wv_G0 G) (hw : zn σ ≤ 6) (C : zCf G A σ h) (L : zPl0 A (zn σ) h (fun _ _ => False)) : wv_C G yX1_forgetPlaces [.ref (A 2 0 0)] h 3 0 0 (fun r h' => r = .inl none ∧ zPl0 A (zn σ) h' (fun _ _ => True) ∧ kp zS5 h h') := by
  refine wk_X1_forgetPlaces (v0 := some (A 2 0 0)) hG ?_
  refine z_loopW (zn σ) (by omega) (fun v => v.2) (fun i => (some (A 2 0 0), nI i)) (fun i w => kp zS5 h w.1 ∧ zPl0 A (zn σ) w.1 (fun k _ => k < i)) (fun _ => rfl) rfl ⟨kp.refl h, fun k m hk hm => (L k m hk hm).imp (fun xs q => ⟨q.1, fun e => absurd e (Nat.not_lt_zero _)⟩)⟩ (fun K i w hi hI hK => ?_)
  obtain ⟨k1, L1⟩ := hI
  have C1 := C.keep k1 (fun _ t e => by rw [e]; decide)
  refine z_gA C1.comp rfl (C1.types.vsizeR hG (by omega) (pk_le (zn σ) i (fun hle => ?_) (fun hlt => ?_)))
  · have e9 : i = zn σ := by omega
    subst e9
    exact ⟨rfl, fun k m hk hm => (L1 k m hk hm).imp (fun xs q => ⟨q.1, fun _ => q.2 hk⟩), k1⟩
  · refine z_loopW 6 (by decide) (fun v => v.2.2) (fun j => (some (A 2 0 0), nI i, nI j)) (fun j w => kp zS5 h w.1 ∧ zPl0 A (zn σ) w.1 (fun k m => k < i ∨ (k = i ∧ m < j))) (fun _ => rfl) rfl ⟨k1, fun k m hk hm => (L1 k m hk hm).imp (fun xs q => ⟨q.1, fun e => q.2 (e.elim id (fun x => absurd x.2 (Nat.not_lt_zero _)))⟩)⟩ (fun K2 j w hj hI hK2 => ?_)
    obtain ⟨k2, L2⟩ := hI
    have C2 := C.keep k2 (fun _ t e => by rw [e]; decide)
    refine pk_le 6 j (fun hle => ?_) (fun hlt2 => ?_)
    · show K (some (A 2 0 0), nI i + 1) w
      rw [← nI_succ]
      refine hK _ hlt ⟨k2, fun k m hk hm => (L2 k m hk hm).imp (fun xs q => ⟨q.1, fun e => q.2 ?_⟩)⟩
      have e : k < i + 1 := e
      by_cases e2 : k = i
      · exact Or.inr ⟨e2, by omega⟩
      · exact Or.inl (by omega)
    · obtain ⟨xs, l1, -⟩ := L2 i j hlt hlt2
      refine z_gA C2.comp rfl (C2.types.vgetR hG hlt (by omega) (z_cc (z_is (C2.type hlt) ccX6) (z_gA (C2.type hlt) rfl ((C2.plcs hlt).vgetR hG hlt2 (by omega) (z_cc l1.is (l1.clear hG (by omega) (fun h3 l3 hb => ?_)))))))
      obtain ⟨md, cap, -, l4⟩ := l1
      have k3 : kp zS5 w.1 h3 := kp.of l4 rfl hb
      show K2 (some (A 2 0 0), nI i, nI j + 1) (h3, w.2)
      rw [← nI_succ]
      refine hK2 (h3, w.2) hlt2 ⟨k2.trans k3, fun k m hk hm => ?_⟩
      by_cases e : k = i ∧ m = j
      · obtain ⟨rfl, rfl⟩ := e
        exact ⟨[], l3, fun _ => rfl⟩
      · obtain ⟨ys, l5, l6⟩ := L2 k m hk hm
        obtain ⟨md2, cap2, l7, l8⟩ := l5
        refine ⟨ys, ⟨md2, cap2, l7, ?_⟩, fun e2 => l6 ?_⟩
        · show h3 (A 58 k m) = _
          rw [hb _ (z_ne l8 l4 (fun q => ?_))]
          · exact l8
          · injection q with _ q
            injection q with q1 q
            injection q with q2 _
            exact e ⟨q1, q2⟩
        · have e2 : k < i ∨ (k = i ∧ m < j + 1) := e2
          omega
theorem zPls.of0 (L : zPl0 A (zn σ) h (fun _ _ => True)) : zPls G A σ (fun _ _ => 0) h := by
  intro k m hk hm
  obtain ⟨xs, l1, l2⟩ := L k m hk hm
  have l2 := l2 trivial
  subst l2
  exact ⟨[], l1, rfl, Nat.zero_le _, fun p a hp => by simp at hp⟩
theorem zPls.to0 (L : zPls G A σ f h) : zPl0 A (zn σ) h (fun _ _ => False) := by
  intro k m hk hm
  obtain ⟨xs, l1, -⟩ := L k m hk hm
  exact ⟨xs, l1, fun q => q.elim⟩
-- ===== counting =====
def zcnt (σ : zS) (q : zPl) (c : Int32) (j : Nat) : Nat := if (zadv σ j).2.2.2.2.2 = true ∧ zat σ q (zadv σ j).2.2.1 = c then 1 else 0
theorem zadv_eq {n : Nat} {x : zAd} (hp : σ.2.2.1[n]? = some x) : zadv σ n = x := by
  unfold zadv
  rw [List.getD_eq_getElem?_getD, hp]
  rfl
theorem zadv_ok (hw : zwf σ) {n : Nat} (hn : n < σ.2.2.1.length) : zadOk σ.2.1.length (zadv σ n) := by
  rw [zadv_eq (List.getElem?_eq_getElem hn)]
  exact hw.2.2.2.2.2.1 _ (List.getElem_mem hn)
theorem zcnt_le (q : zPl) (c : Int32) (j : Nat) : zcnt σ q c j ≤ 1 := by
  unfold zcnt
  split <;> omega
theorem zsm_le1 {f : Nat → Nat} {b : Nat} (hf : ∀ j, f j ≤ b) : ∀ n, zsm f n ≤ n * b
  | 0 => Nat.zero_le _
  | n + 1 => by
    rw [zsm, Nat.succ_mul]
    have := zsm_le1 hf n
    have := hf n
    omega
theorem zat_ext {q q' : zPl} (h1 : q.1 = q'.1) (h2 : q.2.1 = q'.2.1) (h3 : q.2.2.1 = q'.2.2.1) (h4 : ∀ j, j < zn σ → q.2.2.2 j = q'.2.2.2 j) : ∀ n, zat σ q n = zat σ q' n := by
  have hT : ∀ x, zatT σ q x = zatT σ q' x := by
    intro x
    have e1 : (List.range (zn σ)).all (fun j => !(q.2.2.2 j && zbelow σ j x)) = (List.range (zn σ)).all (fun j => !(q'.2.2.2 j && zbelow σ j x)) := by
      rw [Bool.eq_iff_iff, List.all_eq_true, List.all_eq_true]
      exact ⟨fun e j hj => by rw [← h4 j (List.mem_range.mp hj)]; exact e j hj, fun e j hj => by rw [h4 j (List.mem_range.mp hj)]; exact e j hj⟩
    have e2 : (List.range (zn σ)).all (fun j => !(q.2.2.2 j && !zbelow σ j x)) = (List.range (zn σ)).all (fun j => !(q'.2.2.2 j && !zbelow σ j x)) := by
      rw [Bool.eq_iff_iff, List.all_eq_true, List.all_eq_true]
      exact ⟨fun e j hj => by rw [← h4 j (List.mem_range.mp hj)]; exact e j hj, fun e j hj => by rw [h4 j (List.mem_range.mp hj)]; exact e j hj⟩
    unfold zatT
    rw [e1, e2]
  have key : ∀ f n, zatF σ q f n = zatF σ q' f n := by
    intro f
    induction f with
    | zero => intro n; rfl
    | succ f ih =>
      intro n
      unfold zatF zatB
      simp only [h1, h2, h3, hT, ih]
  exact fun n => key _ _
theorem zPlA.up {b : Nat} {q q' : zPl} {x1 x2 x3 : Int32} (hn : zn σ ≤ 32) (hp : zPlA σ h b q') (ha : h a = some ((59, 0, 0, 0), zPlo σ q x1 x2 x3)) {y1 y2 y3 : Int32} (hv : zPv σ q y1 y2 y3) : zPlA σ (wv_up h a ((59, 0, 0, 0), zPlo σ q y1 y2 y3)) b q' := by
  obtain ⟨z1, z2, z3, e1, e2⟩ := hp
  by_cases e : b = a
  · subst e
    rw [ha] at e1
    have e3 : [Value.int q.1, .int q.2.1, .int q.2.2.1, .int (zm q.2.2.2 (zn σ)), .int x1, .int x2, .int x3] = [Value.int q'.1, .int q'.2.1, .int q'.2.2.1, .int (zm q'.2.2.2 (zn σ)), .int z1, .int z2, .int z3] := by
      injection e1 with e1
      injection e1 with _ e1
      injection e1 with e1
      injection e1 with e1
      injection e1
    injection e3 with f1 e3
    injection e3 with f2 e3
    injection e3 with f3 e3
    injection e3 with f4 _
    injection f1 with f1
    injection f2 with f2
    injection f3 with f3
    injection f4 with f4
    refine ⟨y1, y2, y3, ?_, ?_⟩
    · rw [wv_up_self]
      unfold zPlo
      rw [f1, f2, f3, f4]
    · have f5 : ∀ j, j < zn σ → q.2.2.2 j = q'.2.2.2 j := by
        intro j hj
        have := zb_zm (f := q.2.2.2) hn j
        rw [f4, zb_zm hn, decide_eq_true hj, Bool.true_and, Bool.true_and] at this
        exact this.symm
      intro n hn
      rw [← zat_ext f1 f2 f3 f5]
      exact hv n hn
  · exact ⟨z1, z2, z3, z_upo e e1, e2⟩
/-- all places stand when one of them keeps more -/
theorem zPls.up (hn : zn σ ≤ 32) {q : zPl} {x1 x2 x3 y1 y2 y3 : Int32} (L : zPls G A σ f h) (ha : h a = some ((59, 0, 0, 0), zPlo σ q x1 x2 x3)) (hv : zPv σ q y1 y2 y3) : zPls G A σ f (wv_up h a ((59, 0, 0, 0), zPlo σ q y1 y2 y3)) := by
  intro k m hk hm
  obtain ⟨xs, l1, l2, l3, l4⟩ := L k m hk hm
  refine ⟨xs, l1.keep (S := fun b t => t.1 = 59) (kp.put ha rfl) (fun q => by cases q), l2, l3, fun p b hp => (l4 p b hp).up hn ha hv⟩
theorem z1_countAt (hG : wv_G0 G) (hw : zwf σ) {q : zPl} {x1 x2 x3 c : Int32} (C : zCf G A σ h) (ha : h a = some ((59, 0, 0, 0), zPlo σ q x1 x2 x3)) (hv : zPv σ q x1 x2 x3) : wv_C G yX1_countAt [.ref (A 2 0 0), .ref a, .int c] h 62 0 0 (fun r h' => r = .inl (some (.int (nI (zsm (zcnt σ q c) σ.2.2.1.length)))) ∧ ∃ x1 x2 x3, h' = wv_up h a ((59, 0, 0, 0), zPlo σ q x1 x2 x3) ∧ zPv σ q x1 x2 x3) := by
  refine wk_X1_countAt (v0 := some (A 2 0 0)) (v1 := some a) hG ?_
  have h12 := hw.2.2.2.2.1
  have h24 := hw.2.2.1
  refine z_loopW σ.2.2.1.length (by omega) (fun v => v.2.2.2.2) (fun i => (some (A 2 0 0), some a, c, nI (zsm (zcnt σ q c) i), nI i)) (fun _ w => ∃ x1 x2 x3, w = (wv_up h a ((59, 0, 0, 0), zPlo σ q x1 x2 x3), 0, 0) ∧ zPv σ q x1 x2 x3) (fun _ => rfl) rfl ⟨x1, x2, x3, by rw [z_same ha], hv⟩ (fun K i w hi hI hK => ?_)
  obtain ⟨y1, y2, y3, rfl, hy⟩ := hI
  have C1 := C.pl (x := ((59, 0, 0, 0), zPlo σ q y1 y2 y3)) ha
  refine z_gA C1.comp rfl (C1.advs.vsizeR hG (by omega) (pk_le σ.2.2.1.length i (fun hle => ?_) (fun hlt => ?_)))
  · have e9 : i = σ.2.2.1.length := by omega
    subst e9
    exact ⟨rfl, y1, y2, y3, rfl, hy⟩
  · have hx : σ.2.2.1[i]? = some (zadv σ i) := by
      have := List.getElem?_eq_getElem hlt
      rw [zadv_eq this]
      exact this
    have hadv := C1.adv hx
    have hok := zadv_ok hw hlt
    have hpl := hok.2.2.1
    have hpt := List.getElem?_eq_getElem (l := σ.2.1) hok.2.2.1
    have k9 : ∀ (w' : wv_W) (x : Int32), x = nI (zcnt σ q c i) → (∃ x1 x2 x3, w' = (wv_up h a ((59, 0, 0, 0), zPlo σ q x1 x2 x3), 0, 0) ∧ zPv σ q x1 x2 x3) → K (some (A 2 0 0), some a, c, (nI (zsm (zcnt σ q c) i) + x), (nI i + 1)) w' := by
      rintro w' x rfl hI
      have := hK w' hlt hI
      simp only [zsm, nI_succ] at this
      rw [← nI_add] at this
      exact this
    refine z_gA C1.comp rfl (C1.advs.vgetR hG hlt (by omega) (z_cc (z_is hadv ccX19) (z_gI hadv rfl ⟨fun e => ?_, fun e => ?_⟩)))
    · have e1 := zbI_e0 e
      exact k9 _ _ (by unfold zcnt; rw [if_neg (by rw [e1]; simp)]; rfl) ⟨y1, y2, y3, rfl, hy⟩
    · have e1 := zbI_n0 e
      refine z_gA hadv rfl (zAtP.call (z_is (C1.pat hpt) ccX18) zfA_X18 (z18_at hG hw _ hok.2.2.1 _ y1 y2 y3 C1 wv_up_self hy) (by omega) (fun z1 z2 z3 hz => ⟨fun e2 => ?_, fun e2 => ?_⟩))
      · refine k9 _ _ ?_ ⟨z1, z2, z3, by rw [z_uu], hz⟩
        unfold zcnt
        rw [if_neg (fun q => e2 q.2)]
        rfl
      · refine k9 _ _ ?_ ⟨z1, z2, z3, by rw [z_uu], hz⟩
        unfold zcnt
        rw [if_pos ⟨e1, e2⟩]
        rfl
end ZH
