/-! THE COMPONENT: patterns and advice told -/
section ZN
variable {G : wv_G} {A A' : zA} {σ σ' : zS} {h h1 h2 h' : wv_H} {w : wv_W} {fr fr' kc ks : Nat} {P : wv_R → wv_H → Prop} {KX : String → Nat → wv_W → Prop} {a : Nat} {t : wv_T} {f g : Nat → Nat → Nat}
-- ===== what rests on the classes alone =====
theorem zpar_1 (e : σ'.1 = σ.1) (k : Nat) : zpar σ' k = zpar σ k := by unfold zpar; rw [e]
theorem zbody_1 (e : σ'.1 = σ.1) (k m : Nat) : zbody σ' k m = zbody σ k m := by unfold zbody; rw [e]
theorem zn_1 (e : σ'.1 = σ.1) : zn σ' = zn σ := by unfold zn; rw [e]
theorem zancF_1 (e : σ'.1 = σ.1) : ∀ f k, zancF σ' f k = zancF σ f k
  | 0, _ => rfl
  | f + 1, k => by
    unfold zancF
    rw [zpar_1 e]
    cases zpar σ k with
    | none => rfl
    | some p => show k :: zancF σ' f p = k :: zancF σ f p; rw [zancF_1 e f p]
theorem zbelow_1 (e : σ'.1 = σ.1) (k : Nat) (t : Int32) : zbelow σ' k t = zbelow σ k t := by unfold zbelow zanc; rw [zancF_1 e]
theorem zfind_1 (e : σ'.1 = σ.1) (m k : Nat) : zfind σ' m k = zfind σ m k := by
  unfold zfind zanc
  rw [zancF_1 e]
  congr 1
  funext j
  rw [zbody_1 e]
theorem zspots_1 (e : σ'.1 = σ.1) (k m : Nat) : zspots σ' k m = zspots σ k m := by unfold zspots; rw [zbody_1 e]
theorem zposs_1 (e : σ'.1 = σ.1) (k m : Nat) (sp : zSp) : zposs σ' k m sp = zposs σ k m sp := by
  funext j
  unfold zposs
  rw [zfind_1 e]
theorem zpl_1 (e : σ'.1 = σ.1) (k m p : Nat) : zpl σ' k m p = zpl σ k m p := by
  unfold zpl zspot
  rw [zspots_1 e, zposs_1 e]
theorem zatT_1 (e : σ'.1 = σ.1) (q : zPl) (x : Int32) : zatT σ' q x = zatT σ q x := by
  unfold zatT
  rw [zn_1 e]
  have e1 : (fun j => !(q.2.2.2 j && zbelow σ' j x)) = (fun j => !(q.2.2.2 j && zbelow σ j x)) := by funext j; rw [zbelow_1 e]
  have e2 : (fun j => !(q.2.2.2 j && !zbelow σ' j x)) = (fun j => !(q.2.2.2 j && !zbelow σ j x)) := by funext j; rw [zbelow_1 e]
  rw [e1, e2]
theorem zatB_1 (e : σ'.1 = σ.1) (q : zPl) (r : Nat → Int32) (p : zPt) : zatB σ' q r p = zatB σ q r p := by
  unfold zatB
  simp only [zatT_1 e]
/-- matches of the patterns that were there before -/
theorem zat_1 (hw : zwf σ) (e : σ'.1 = σ.1) (hp : ∀ n, n < σ.2.1.length → zpat σ' n = zpat σ n) (q : zPl) : ∀ n, n < σ.2.1.length → zat σ' q n = zat σ q n := by
  have key : ∀ f n, n < σ.2.1.length → zatF σ' q f n = zatF σ q f n := by
    intro f
    induction f with
    | zero => intro n _; rfl
    | succ f ih =>
      intro n hn
      have hx := List.getElem?_eq_getElem hn
      rw [zatF, zatF, hp n hn, zatB_1 e, zpat_eq hx]
      exact zatB_congr (by have := hw.2.2.1; omega) (hw.2.2.2.1 n _ hx) (fun a ha => ih a (by omega))
  exact fun n hn => key _ n hn
theorem zPls_1 (hw : zwf σ) (e : σ'.1 = σ.1) (hp : ∀ n, n < σ.2.1.length → zpat σ' n = zpat σ n) (hl : σ.2.1.length ≤ σ'.2.1.length) (L : zPls G A σ f h) : zPls G A σ' f h := by
  intro k m hk hm
  rw [zn_1 e] at hk
  obtain ⟨xs, l1, l2, l3, l4⟩ := L k m hk hm
  refine ⟨xs, l1, l2, by rw [zspots_1 e]; exact l3, fun p a hpa => ?_⟩
  obtain ⟨x1, x2, x3, e1, e2⟩ := l4 p a hpa
  rw [zpl_1 e]
  refine ⟨x1, x2, x3, ?_, fun n hn => ?_⟩
  · unfold zPlo at e1 ⊢
    rw [zn_1 e]
    exact e1
  · obtain ⟨v1, v2⟩ := e2 n hn
    refine ⟨fun q => ?_, v2⟩
    obtain ⟨u1, u2, u3⟩ := v1 q
    rw [zat_1 hw e hp _ n u1]
    exact ⟨by omega, u2, u3⟩
theorem zPls.keep {S : Nat → wv_T → Prop} (L : zPls G A σ f h) (k : kp S h h1) (hS : ∀ a t, S a t → t.1 ≠ 58 ∧ t.1 ≠ 59) : zPls G A σ f h1 := by
  intro q m hk hm
  obtain ⟨xs, l1, l2, l3, l4⟩ := L q m hk hm
  exact ⟨xs, l1.keep k (fun e => (hS _ _ e).1 rfl), l2, l3, fun p a hp => (l4 p a hp).keep k (fun b t e => (hS b t e).2)⟩
theorem zPls.congrA (e : ∀ k m, k < zn σ → A' 58 k m = A 58 k m) (L : zPls G A σ f h) : zPls G A' σ f h := by
  intro k m hk hm
  rw [e k m hk]
  exact L k m hk hm
theorem zaddP_pat (p : zPt) : ∀ n, n < σ.2.1.length → zpat (zaddP σ p) n = zpat σ n := by
  intro n hn
  unfold zpat
  rw [List.getD_eq_getElem?_getD, List.getD_eq_getElem?_getD]
  show ((σ.2.1 ++ [p])[n]?).getD _ = _
  rw [List.getElem?_append_left hn]
-- ===== made =====
def zptR (c a : Int32) : Bool :=
  if c = 110 ∨ c = 116 ∨ c = 119 then zir a 0 5 else if c = 118 then zir a (-99) 99 else decide (c = 99 ∨ c = 101 ∨ c = 103 ∨ c = 115 ∨ c = 104 ∨ c = 109 ∨ c = 102 ∨ c = 38 ∨ c = 124 ∨ c = 33)
theorem zptR_k {c a : Int32} (e : zptR c a = true) : c = 110 ∨ c = 116 ∨ c = 119 ∨ c = 118 ∨ c = 99 ∨ c = 101 ∨ c = 103 ∨ c = 115 ∨ c = 104 ∨ c = 109 ∨ c = 102 ∨ c = 38 ∨ c = 124 ∨ c = 33 := by
  unfold zptR at e
  by_cases h1 : c = 110 ∨ c = 116 ∨ c = 119
  · rcases h1 with h1 | h1 | h1 <;> simp [h1]
  rw [if_neg h1] at e
  by_cases h2 : c = 118
  · simp [h2]
  rw [if_neg h2, decide_eq_true_eq] at e
  rcases e with e | e | e | e | e | e | e | e | e | e <;> simp [e]

theorem z1_isPatternRight (hG : wv_G0 G) (c a : Int32) : wv_C G yX1_isPatternRight [.int c, .int a] h 1 0 0 (fun r h' => r = .inl (some (.int (zbI (zptR c a)))) ∧ h' = h) := by
  refine wk_X1_isPatternRight hG ?_
  unfold vc_X1_isPatternRight_0 vc_X1_isPatternRight_124
  refine ⟨fun e => ?_, fun n33 => ⟨fun e => ?_, fun n38 => ⟨fun e => ?_, fun n99 => ⟨fun e => ?_, fun n101 => ⟨fun e => ?_, fun n102 => ⟨fun e => ?_, fun n103 => ⟨fun e => ?_, fun n104 => ⟨fun e => ?_, fun n109 => ⟨fun e => ?_, fun n110 => ⟨fun e => ?_, fun n115 => ⟨fun e => ?_, fun n116 => ⟨fun e => ?_, fun n118 => ⟨fun e => ?_, fun n119 => ⟨fun e => ?_, fun n124 => ?_⟩⟩⟩⟩⟩⟩⟩⟩⟩⟩⟩⟩⟩⟩
  · subst e
    exact ⟨rfl, by simp [zptR, zbI], rfl⟩
  · subst e
    exact ⟨rfl, by simp [zptR, zbI], rfl⟩
  · subst e
    exact ⟨rfl, by simp [zptR, zbI], rfl⟩
  · subst e
    exact ⟨rfl, by simp [zptR, zbI], rfl⟩
  · subst e
    exact ⟨rfl, by simp [zptR, zbI], rfl⟩
  · subst e
    exact ⟨rfl, by simp [zptR, zbI], rfl⟩
  · subst e
    exact ⟨rfl, by simp [zptR, zbI], rfl⟩
  · subst e
    exact ⟨rfl, by simp [zptR, zbI], rfl⟩
  · subst e
    exact z_cI (z1_inRange hG _ _ _) (by omega) ⟨zbI_n _, by simp [zptR], rfl⟩
  · subst e
    exact ⟨rfl, by simp [zptR, zbI], rfl⟩
  · subst e
    exact z_cI (z1_inRange hG _ _ _) (by omega) ⟨zbI_n _, by simp [zptR], rfl⟩
  · subst e
    exact z_cI (z1_inRange hG _ _ _) (by omega) ⟨zbI_n _, by simp [zptR], rfl⟩
  · subst e
    exact z_cI (z1_inRange hG _ _ _) (by omega) ⟨zbI_n _, by simp [zptR], rfl⟩
  · subst e
    exact ⟨rfl, by simp [zptR, zbI], rfl⟩
  · exact ⟨rfl, by simp [zptR, zbI, n33, n38, n99, n101, n102, n103, n104, n109, n110, n115, n116, n118, n119, n124], rfl⟩
theorem z14_not (hG : wv_G0 G) (t : wv_T) (ht : t.1 ≠ 0) (x : Nat) : wv_C G yX14_not [.ref x] h 2 1 1 (fun r h' => ∃ d, r = .inl (some (va_rf (some d))) ∧ h d = none ∧ h' = wv_up h d (t, wo_o ciX16 [va_rf (some x)])) :=
  wk_X14_not (v0 := some x) hG (z_no t (Nat.le_refl _) (Nat.le_refl _) (fun d hd _ => z_iV (z16_init hG ht) (by omega) ⟨d, rfl, hd, rfl⟩))
theorem z14_join (hG : wv_G0 G) (t : wv_T) (ht : t.1 ≠ 0) (x y : Nat) (b : Bool) : wv_C G yX14_join [.ref x, .ref y, .int (zbI b)] h 2 1 4 (fun r h' => ∃ d, r = .inl (some (va_rf (some d))) ∧ h d = none ∧ h' = wv_up h d (t, wo_o ciX15 [.int (zbI b), va_rf (some x), va_rf (some y), .int (if b = true then 110 else 121)])) := by
  refine wk_X14_join (v0 := some x) (v1 := some y) hG ?_
  cases b
  · exact ⟨fun _ => z_no t (Nat.le_refl _) (Nat.le_refl _) (fun d hd _ => z_iV (z15_init hG ht ⟨rfl, rfl⟩ ⟨rfl, rfl⟩) (by omega) ⟨d, rfl, hd, rfl⟩), fun q => absurd rfl q⟩
  · exact ⟨fun q => absurd q (by decide), fun _ => z_no t (Nat.le_refl _) (Nat.le_refl _) (fun d hd _ => z_iV (z15_init hG ht ⟨rfl, rfl⟩ ⟨rfl, rfl⟩) (by omega) ⟨d, rfl, hd, rfl⟩)⟩
/-- a pattern refers to one that isn't there -/
abbrev zmE (σ : zS) (c x y : Int32) : Prop := ((c = 102 ∨ c = 33) ∧ zix x σ.2.1.length = none) ∨ ((c = 38 ∨ c = 124) ∧ (zix x σ.2.1.length = none ∨ zix y σ.2.1.length = none))
theorem zptOk_of (hn : σ.2.1.length ≤ 24) {c x y : Int32} (hr : zptR c x = true) (hE : ¬ zmE σ c x y) : zptOk σ.2.1.length (c, x, y) := by
  have some1 : ∀ z, zix z σ.2.1.length ≠ none → ∃ a, a < σ.2.1.length ∧ z = nI a := by
    intro z hz
    cases hk : zix z σ.2.1.length with
    | none => exact absurd hk hz
    | some a => exact ⟨a, (zix_some (by omega)).mp hk⟩
  by_cases e1 : c = 102 ∨ c = 33
  · exact Or.inr (Or.inl ⟨e1, some1 x (fun q => hE (Or.inl ⟨e1, q⟩))⟩)
  by_cases e2 : c = 38 ∨ c = 124
  · exact Or.inr (Or.inr ⟨e2, some1 x (fun q => hE (Or.inr ⟨e2, Or.inl q⟩)), some1 y (fun q => hE (Or.inr ⟨e2, Or.inr q⟩))⟩)
  left
  rcases zptR_k hr with e | e | e | e | e | e | e | e | e | e | e | e | e | e <;> first | (simp [e]; done) | exact absurd (Or.inl e) e1 | exact absurd (Or.inr e) e1 | exact absurd (Or.inl e) e2 | exact absurd (Or.inr e) e2
theorem z1_made (hG : wv_G0 G) (hw : zwf σ) (C : zCf G A σ h) (t : wv_T) (ht : t.1 ≠ 0) {c x y : Int32} (hr : zptR c x = true) : wv_C G yX1_made [.ref (A 2 0 0), .int c, .int x, .int y] h 9 2 10 (fun r h' => (¬ zmE σ c x y ∧ ∃ d, r = .inl (some (va_rf (some d))) ∧ h d = none ∧ h' = wv_up h d (t, zin A (c, x, y))) ∨ (zmE σ c x y ∧ zTh zNSE h r h')) := by
  have h24 := hw.2.2.1
  have notE : (c = 110 ∨ c = 116 ∨ c = 119 ∨ c = 118 ∨ c = 99 ∨ c = 101 ∨ c = 103 ∨ c = 115 ∨ c = 104 ∨ c = 109) → ¬ zmE σ c x y := by
    intro e q
    rcases e with e | e | e | e | e | e | e | e | e | e <;> rw [zmE, e] at q <;> rcases q with ⟨q, -⟩ | ⟨q, -⟩ <;> revert q <;> decide
  refine wk_X1_made (v0 := some (A 2 0 0)) hG ⟨fun e => ?_, fun n33 => ⟨fun e => ?_, fun n38 => ⟨fun e => ?_, fun n102 => ⟨fun e => ?_, fun n110 => ⟨fun e => ?_, fun n116 => ⟨fun e => ?_, fun n118 => ⟨fun e => ?_, fun n119 => ⟨fun e => ?_, fun n124 => ?_⟩⟩⟩⟩⟩⟩⟩⟩
  · cases hk : zix x σ.2.1.length with
    | none => exact ⟨A 2 0 0, rfl, z_isC C, z_tA (z1_pattern0 hG C hk) (by omega) zle zle (fun q h' k => Or.inr ⟨Or.inl ⟨Or.inr e, hk⟩, ⟨q, rfl⟩, k⟩)⟩
    | some k =>
      have hE : ¬ zmE σ c x y := by
        rintro (⟨-, q⟩ | ⟨q, -⟩)
        · rw [hk] at q; cases q
        · rw [e] at q; revert q; decide
      refine z_vA (z_isC C) (z1_pattern hG hw C hk) (by omega) (z_c (z14_not hG t ht (A 11 k 0)) (by omega) zle zle ?_)
      rintro r h' ⟨d, rfl, hd, rfl⟩
      refine Or.inl ⟨_, rfl, Or.inl ⟨hE, d, rfl, hd, ?_⟩⟩
      have e1 : zin A (c, x, y) = wo_o ciX16 [va_rf (some (A 11 k 0))] := by simp [zin, e, zix_at hk]
      rw [e1]
  · cases hk : zix x σ.2.1.length with
    | none => exact ⟨A 2 0 0, rfl, z_isC C, z_tA (z1_pattern0 hG C hk) (by omega) zle zle (fun q h' k => Or.inr ⟨Or.inr ⟨Or.inl e, Or.inl hk⟩, ⟨q, rfl⟩, k⟩)⟩
    | some k =>
      refine z_vA (z_isC C) (z1_pattern hG hw C hk) (by omega) ?_
      cases hk2 : zix y σ.2.1.length with
      | none => exact ⟨A 2 0 0, rfl, z_isC C, z_tA (z1_pattern0 hG C hk2) (by omega) zle zle (fun q h' k => Or.inr ⟨Or.inr ⟨Or.inl e, Or.inr hk2⟩, ⟨q, rfl⟩, k⟩)⟩
      | some k2 =>
        have hE : ¬ zmE σ c x y := by
          rintro (⟨q, -⟩ | ⟨-, q | q⟩)
          · rw [e] at q; revert q; decide
          · rw [hk] at q; cases q
          · rw [hk2] at q; cases q
        refine z_vA (z_isC C) (z1_pattern hG hw C hk2) (by omega) (z_c (z14_join hG t ht (A 11 k 0) (A 11 k2 0) true) (by omega) zle zle ?_)
        rintro r h' ⟨d, rfl, hd, rfl⟩
        refine Or.inl ⟨_, rfl, Or.inl ⟨hE, d, rfl, hd, ?_⟩⟩
        have e1 : zin A (c, x, y) = wo_o ciX15 [.int 1, va_rf (some (A 11 k 0)), va_rf (some (A 11 k2 0)), .int 110] := by simp [zin, e, zix_at hk, zix_at hk2]
        rw [e1]
        rfl
  · refine z_no t zle zle (fun d hd _ => ?_)
    have hd : h d = none := hd
    have C1 : zCf G A σ (wv_up h d (t, wo_o ciX13 [va_rf none])) := C.keepn (kp.new hd)
    cases hk : zix x σ.2.1.length with
    | none => exact ⟨A 2 0 0, rfl, z_isC C1, z_tA (z1_pattern0 hG C1 hk) (by omega) zle zle (fun q h' k => Or.inr ⟨Or.inl ⟨Or.inl e, hk⟩, ⟨q, rfl⟩, (kp.new hd).trans k⟩)⟩
    | some k =>
      have hE : ¬ zmE σ c x y := by
        rintro (⟨-, q⟩ | ⟨q, -⟩)
        · rw [hk] at q; cases q
        · rw [e] at q; revert q; decide
      refine z_vA (z_isC C1) (z1_pattern hG hw C1 hk) (by omega) (z_iV (z13_init hG ht) (by omega) (Or.inl ⟨hE, d, rfl, hd, ?_⟩))
      have e1 : zin A (c, x, y) = wo_o ciX13 [va_rf (some (A 11 k 0))] := by simp [zin, e, zix_at hk]
      rw [e1]
  · exact z_no t zle zle (fun d hd _ => z_iV (z9_init hG ht) (by omega) (Or.inl ⟨notE (by simp [e]), d, rfl, hd, by rw [show zin A (c, x, y) = wo_o ciX9 [.int x] by simp [zin, e]]⟩))
  · exact z_no t zle zle (fun d hd _ => z_iV (z10_init hG ht) (by omega) (Or.inl ⟨notE (by simp [e]), d, rfl, hd, by rw [show zin A (c, x, y) = wo_o ciX10 [.int x, va_rf (some (A 2 0 0))] by simp [zin, e]]⟩))
  · exact z_no t zle zle (fun d hd _ => z_iV (z12_init hG ht) (by omega) (Or.inl ⟨notE (by simp [e]), d, rfl, hd, by rw [show zin A (c, x, y) = wo_o ciX12 [.int x] by simp [zin, e]]⟩))
  · exact z_no t zle zle (fun d hd _ => z_iV (z11_init hG ht) (by omega) (Or.inl ⟨notE (by simp [e]), d, rfl, hd, by rw [show zin A (c, x, y) = wo_o ciX11 [.int x] by simp [zin, e]]⟩))
  · cases hk : zix x σ.2.1.length with
    | none => exact ⟨A 2 0 0, rfl, z_isC C, z_tA (z1_pattern0 hG C hk) (by omega) zle zle (fun q h' k => Or.inr ⟨Or.inr ⟨Or.inr e, Or.inl hk⟩, ⟨q, rfl⟩, k⟩)⟩
    | some k =>
      refine z_vA (z_isC C) (z1_pattern hG hw C hk) (by omega) ?_
      cases hk2 : zix y σ.2.1.length with
      | none => exact ⟨A 2 0 0, rfl, z_isC C, z_tA (z1_pattern0 hG C hk2) (by omega) zle zle (fun q h' k => Or.inr ⟨Or.inr ⟨Or.inr e, Or.inr hk2⟩, ⟨q, rfl⟩, k⟩)⟩
      | some k2 =>
        have hE : ¬ zmE σ c x y := by
          rintro (⟨q, -⟩ | ⟨-, q | q⟩)
          · rw [e] at q; revert q; decide
          · rw [hk] at q; cases q
          · rw [hk2] at q; cases q
        refine z_vA (z_isC C) (z1_pattern hG hw C hk2) (by omega) (z_c (z14_join hG t ht (A 11 k 0) (A 11 k2 0) false) (by omega) zle zle ?_)
        rintro r h' ⟨d, rfl, hd, rfl⟩
        refine Or.inl ⟨_, rfl, Or.inl ⟨hE, d, rfl, hd, ?_⟩⟩
        have e1 : zin A (c, x, y) = wo_o ciX15 [.int 0, va_rf (some (A 11 k 0)), va_rf (some (A 11 k2 0)), .int 121] := by simp [zin, e, zix_at hk, zix_at hk2]
        rw [e1]
        rfl
  · have hc : c = 99 ∨ c = 101 ∨ c = 103 ∨ c = 115 ∨ c = 104 ∨ c = 109 := by
      rcases zptR_k hr with e | e | e | e | e | e | e | e | e | e | e | e | e | e <;> first | (simp [e]; done) | exact absurd e n110 | exact absurd e n116 | exact absurd e n119 | exact absurd e n118 | exact absurd e n102 | exact absurd e n38 | exact absurd e n124 | exact absurd e n33
    have hf : wv_fit .char c := by rcases hc with e | e | e | e | e | e <;> rw [e] <;> exact ⟨rfl, rfl⟩
    refine z_no t zle zle (fun d hd _ => z_iV (z17_init hG ht hf) (by omega) (Or.inl ⟨notE ?_, d, rfl, hd, ?_⟩))
    · rcases hc with e | e | e | e | e | e <;> simp [e]
    · have e1 : zin A (c, x, y) = wo_o ciX17 [.int c] := by simp [zin, n110, n116, n119, n118, n102, n33, n38, n124]
      rw [e1]
-- ===== addPattern =====
def zeP (σ : zS) (c x y : Int32) : Nat := if zptR c x = false then 1 else if zmE σ c x y then 2 else if σ.2.1.length < 24 then 0 else 3
theorem z1_addPattern (hG : wv_G0 G) (hw : zwf σ) (C : zCf G A σ h) (L : zPls G A σ f h) (c x y : Int32) : wv_C G yX1_addPattern [.ref (A 2 0 0), .int c, .int x, .int y] h 10 4 60 (zRes h (zeP σ c x y) [zIAE, zNSE, zISE] (fun r h' => r = .inl (some (.int (nI σ.2.1.length))) ∧ zNew G A (zaddP σ (c, x, y)) h h')) := by
  have h24 := hw.2.2.1
  refine wk_X1_addPattern (v0 := some (A 2 0 0)) hG (z_cI (z1_isPatternRight hG c x) (by omega) ?_)
  cases hr : zptR c x with
  | false => exact z_tV (z1_ckA0 hG) (by omega) zle zle (fun q h' k => zRes.err 1 (if_pos hr) (by decide) rfl k)
  | true =>
    have hr0 : ¬ zptR c x = false := by rw [hr]; decide
    refine z_cV (z1_ckA hG) (by omega) ⟨A 2 0 0, rfl, z_isC C, z_c (z1_made hG hw C (12, σ.2.1.length, 0, 0) (Nat.succ_ne_zero _) hr) (by omega) zle zle ?_⟩
    rintro r h1 (⟨hE, d, rfl, hd, rfl⟩ | ⟨hE, ⟨q, rfl⟩, k⟩)
    · refine Or.inl ⟨_, rfl, ?_⟩
      have hd : h d = none := hd
      have k1 : kp kn h (wv_up h d ((12, σ.2.1.length, 0, 0), zin A (c, x, y))) := kp.new hd
      have C1 := C.keepn k1
      refine z_gA C1.comp rfl (C1.pats.vsizeR hG (by omega) (pk_le 24 σ.2.1.length (fun hle => ?_) (fun hlt => ?_)))
      · refine z_tV (z1_ckS0 hG) (by omega) zle zle (fun q h' k => zRes.err 3 ?_ (by decide) rfl (k1.trans k))
        unfold zeP
        rw [if_neg hr0, if_neg hE, if_neg (by omega)]
      · have hc0 : zeP σ c x y = 0 := by
          unfold zeP
          rw [if_neg hr0, if_neg hE, if_pos hlt]
        have hok := zptOk_of h24 hr hE
        refine z_cV (z1_ckS hG) (by omega) (z_gA C1.comp rfl (z_no (11, σ.2.1.length, 0, 0) zle zle (fun b hb _ => ?_)))
        have hb : wv_up h d ((12, σ.2.1.length, 0, 0), zin A (c, x, y)) b = none := hb
        have C2 := C1.keepn (kp.new (x := ((11, σ.2.1.length, 0, 0), wo_o ciX18 [va_rf none, .int 0])) hb)
        refine z_gA C2.comp rfl (C2.pats.vsizeR hG (by omega) (z_iV (z18_init hG (Nat.succ_ne_zero _) (by omega)) (by omega) ?_))
        have k3 : kp kn (wv_up h d ((12, σ.2.1.length, 0, 0), zin A (c, x, y))) (wv_up (wv_up h d ((12, σ.2.1.length, 0, 0), zin A (c, x, y))) b ((11, σ.2.1.length, 0, 0), wo_o ciX18 [va_rf (some d), .int (nI (2 ^ σ.2.1.length))])) := kp.new hb
        have C3 := C1.keepn k3
        have hnc : wl_nc σ.2.1.length ≤ 34 := by
          unfold wl_nc
          split
          · omega
          · have := Nat.max_le.mpr ⟨(show 1 ≤ 11 by omega), (show σ.2.1.length / 2 ≤ 11 by omega)⟩
            omega
        refine C3.pats.cadd hG (z_el (z_is wv_up_self ccX18) q2623) (fun x hx => ?_) (by rw [z_rgl]; omega) (by omega) zle (by rw [z_rgl]; show _ ≤ 60 - 10 - 2; omega) (fun h4 c4 s4 l4 o4 g2 g3 => ?_)
        · obtain ⟨i, hi, rfl⟩ := List.mem_map.mp hx
          exact z_el (z_is (C3.pat (List.getElem?_eq_getElem (List.mem_range.mp hi))) ccX18) q2623
        · obtain ⟨md, cap, -, e9⟩ := C3.pats
          have k4 : kp (fun _ t => t = (10, 0, 0, 0)) (wv_up (wv_up h d ((12, σ.2.1.length, 0, 0), zin A (c, x, y))) b ((11, σ.2.1.length, 0, 0), wo_o ciX18 [va_rf (some d), .int (nI (2 ^ σ.2.1.length))])) h4 := kp.of e9 rfl o4
          obtain ⟨A', hA'⟩ : ∃ A' : zA, A' = fun r i j => if i = σ.2.1.length ∧ r = 11 then b else if i = σ.2.1.length ∧ r = 12 then d else A r i j := ⟨_, rfl⟩
          have hval : ∀ r i j, zval σ r i j → A' r i j = A r i j := by
            rintro r i j ⟨-, -, v3, -⟩
            rw [hA']
            show (if i = σ.2.1.length ∧ r = 11 then b else if i = σ.2.1.length ∧ r = 12 then d else A r i j) = A r i j
            rw [if_neg (by omega), if_neg (by omega)]
          have hAe : zAe A A' := by
            intro r i j hr
            rw [hA']
            show (if i = σ.2.1.length ∧ r = 11 then b else if i = σ.2.1.length ∧ r = 12 then d else A r i j) = A r i j
            rw [if_neg (by omega), if_neg (by omega)]
          have a11 : A' 11 σ.2.1.length 0 = b := by rw [hA']; simp
          have a12 : A' 12 σ.2.1.length 0 = d := by rw [hA']; simp
          have C4 := C3.congrA hw hval
          have C5 : zCf G A' (zaddP σ (c, x, y)) h4 := by
            refine C4.addP k4 ?_ ⟨?_, ?_⟩
            · rw [hval 10 0 0 (zval_o (by omega)), a11, zmapR (g := fun k => A 11 k 0) (fun i hi => hval 11 i 0 (zval_p (by omega) hi))]
              exact l4
            · rw [a11, a12]
              exact k4 _ _ wv_up_self (fun q => by cases q)
            · rw [a12, zin_congr (A := A) (n := σ.2.1.length) (by omega) hok (hval 2 0 0 (zval_o (by omega))) (fun i hi => hval 11 i 0 (zval_p (by omega) hi))]
              exact k4 _ _ (kn.at k3 wv_up_self) (fun q => by cases q)
          have L5 : zPls G A' (zaddP σ (c, x, y)) f h4 := by
            refine zPls_1 hw rfl (zaddP_pat (c, x, y)) ?_ (((L.keep k1 (fun _ _ q => q.elim)).keep k3 (fun _ _ q => q.elim)).keep k4 (fun _ t e => by rw [e]; exact ⟨by decide, by decide⟩) |>.congrA (fun k m hk => hval 58 k m (zval_c (by omega) hk)))
            show σ.2.1.length ≤ (σ.2.1 ++ [(c, x, y)]).length
            rw [List.length_append]
            omega
          have hcx := C5.comp
          have hps := C5.pats
          rw [hAe 2 0 0 (Or.inl rfl)] at hcx
          have hps : zL h4 (A' 10 0 0) (10, 0, 0, 0) ((List.range (σ.2.1 ++ [(c, x, y)]).length).map (fun n => A' 11 n 0)) := hps
          rw [List.length_append] at hps
          refine z_gA hcx rfl (hps.vsizeR hG (by omega) (zRes.ok hc0 ⟨?_, A', f, hAe, C5, L5, ?_⟩))
          · show Sum.inl (some (Value.int (nI (σ.2.1.length + 1) - 1))) = _
            rw [nI_pred]
          · exact (kn.to (k1.trans k3)).trans (k4.mono (fun _ t e => Or.inl (by rw [e]; decide)))
    · refine Or.inr ⟨_, q, rfl, zRes.err 2 ?_ (by decide) rfl k⟩
      unfold zeP
      rw [if_neg hr0, if_pos hE]

end ZN
