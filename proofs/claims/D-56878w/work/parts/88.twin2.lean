/-! THE REFERENCE: classes told, bodies dropped, found -/
section ZT2
variable {G : wv_G} {A B : zA} {σ σ' : zS} {h h0 h1 h2 h' : wv_H} {w : wv_W} {fr fr' kc ks : Nat} {P : wv_R → wv_H → Prop} {KX : String → Nat → wv_W → Prop} {a b c L : Nat} {k m n r : Nat} {t : wv_T} {x y v th : Int32}
abbrev zST : Nat → wv_T → Prop := fun _ t => 100 ≤ t.1 ∧ t.1 ≤ 123
/-- the reference's state is the one of σ' -/
def zTN (G : wv_G) (B : zA) (σ' : zS) (L : Nat) (h h' : wv_H) : Prop := ∃ B' : zA, B' 100 0 0 = B 100 0 0 ∧ zMf G B' σ' 0 L h' ∧ kp zST h h'
/-- a call's end: the answer, or the code and nothing told -/
def zTw (G : wv_G) (B : zA) (σ : zS) (L : Nat) (h : wv_H) (code : Nat) (bad : Value) (ok : wv_R → wv_H → Prop) : wv_R → wv_H → Prop := fun r h' => (code = 0 ∧ ok r h') ∨ (0 < code ∧ r = .inl (some bad) ∧ zMf G B σ (nI code) L h' ∧ kp zST h h')
theorem zTw.ok {code : Nat} {bad : Value} {ok : wv_R → wv_H → Prop} {r : wv_R} (hc : code = 0) (hk : ok r h') : zTw G B σ L h code bad ok r h' := Or.inl ⟨hc, hk⟩
theorem zTw.bad {code : Nat} {bad : Value} {ok : wv_R → wv_H → Prop} (c : Nat) (hc : code = c) (h0 : 0 < c) (M : zMf G B σ (nI c) L h') (k : kp zST h h') : zTw G B σ L h code bad ok (.inl (some bad)) h' := Or.inr ⟨by omega, rfl, by rw [hc]; exact M, k⟩
theorem z100T : ∀ a t, zS100 a t → zST a t := fun _ t q => ⟨by show 100 ≤ t.1; rw [show t.1 = 100 from q]; exact Nat.le_refl _, by show t.1 ≤ 123; rw [show t.1 = 100 from q]; exact zle⟩
/-- classes, when one more is told -/
theorem zaddC_body (σ : zS) (o : Option Nat) (k m : Nat) : zbody (zaddC σ o) k m = zbody σ k m := by
  unfold zbody zaddC
  show (match (σ.1 ++ [(o, fun _ => [])])[k]? with | some c => c.2 m | none => []) = _
  rcases Nat.lt_trichotomy k σ.1.length with hk | hk | hk
  · rw [List.getElem?_append_left hk]
    rfl
  · subst hk
    rw [List.getElem?_append_right (Nat.le_refl _), Nat.sub_self, List.getElem?_eq_none (Nat.le_refl _)]
    rfl
  · rw [List.getElem?_eq_none (by rw [List.length_append]; exact hk), List.getElem?_eq_none (Nat.le_of_lt hk)]
theorem zaddC_par (σ : zS) (o : Option Nat) {k : Nat} (hk : k < zn σ) : zpar (zaddC σ o) k = zpar σ k := by
  unfold zpar zaddC
  show ((σ.1 ++ [(o, fun _ => [])])[k]?).bind _ = _
  rw [List.getElem?_append_left hk]
theorem zaddC_parn (σ : zS) (o : Option Nat) : zpar (zaddC σ o) (zn σ) = o := by
  unfold zpar zaddC zn
  show ((σ.1 ++ [(o, fun _ => [])])[σ.1.length]?).bind _ = _
  rw [List.getElem?_append_right (Nat.le_refl _), Nat.sub_self]
  rfl
/-- another array written: what stands -/
theorem z_rk {r : Nat} {z : wv_T × wv_O} {N kk : Nat} {f : Nat → Int32} (hr : h (B r 0 0) = some ((r, 0, 0, 0), wo_i (wv_A G kk) N f)) : kp (fun _ t => t.1 = r) h (wv_up h (B r 0 0) z) := kp.put hr rfl
theorem z4_addClass (hG : wv_G0 G) (hw : zwf σ) (M : zMf G B σ th L h) (p : Int32) : wv_C G yX4_addClass [.ref (B 100 0 0), .int p] h 2 0 0 (zTw G B σ L h (zeC σ p) (.int 0) (fun r h' => r = .inl (some (.int (nI (zn σ)))) ∧ zTN G B (zaddC σ (ztoldC σ p)) L h h')) := by
  have hn6 := hw.1
  -- told wrong
  have bad : ∀ c : Nat, 0 < c → c ≤ 3 → zeC σ p = c → vc_X4_addClass_32 G 2 (zTw G B σ L h (zeC σ p) (.int 0) (fun r h' => r = .inl (some (.int (nI (zn σ)))) ∧ zTN G B (zaddC σ (ztoldC σ p)) L h h')) (some (B 100 0 0)) p (nI c) (some (B 100 0 0)) (h, 0, 0) := by
    intro c h0 h3 hc
    refine z4_put M (fun h1 M1 k1 => z_gI M1.1 rfl ⟨fun q => absurd q (nI_nle h0 (by omega)), fun _ => zTw.bad c hc h0 M1 (k1.mono z100T)⟩)
  -- told right, as far as the parent goes
  have good : ¬ (¬ p = -1 ∧ zix p (zn σ) = none) → zoN (ztoldC σ p) = p → vc_X4_addClass_18 G 2 (zTw G B σ L h (zeC σ p) (.int 0) (fun r h' => r = .inl (some (.int (nI (zn σ)))) ∧ zTN G B (zaddC σ (ztoldC σ p)) L h h')) (some (B 100 0 0)) p (some (B 100 0 0)) (h, 0, 0) := by
    intro h9 ho
    refine z_gI M.1 rfl ⟨fun q => ?_, fun q => ?_⟩
    · have hlt : zn σ < 6 := by
        rcases Nat.lt_or_ge (zn σ) 6 with hlt | hge
        · exact hlt
        · exact absurd (by rw [show zn σ = 6 by omega]; rfl) q
      have hc0 : zeC σ p = 0 := by unfold zeC; rw [if_neg h9, if_pos hlt]
      refine z4_put M (fun h1 M1 k1 => z_gI M1.1 rfl ⟨fun _ => ?_, fun q => absurd (Int32.le_refl _) q⟩)
      obtain ⟨m0, ⟨fb, m1, u1⟩, mb, ⟨f2, m2, u2⟩, m3, m4, m5, m6, m7, m8, m9, m10, m11, m12⟩ := M1
      have n0 : B 102 0 0 ≠ B 100 0 0 := z_ne m2 m0 (fun e => by cases e)
      refine z_gA m0 rfl (z_gI m0 rfl (z_si m2 (by show (102 : Nat) ≠ 0; decide) hlt (by decide) ?_))
      have k2 : kp (fun _ t => t.1 = 102) h1 (wv_up h1 (B 102 0 0) ((102, 0, 0, 0), wo_i (wv_A G 0) 6 (upd f2 (zn σ) p))) := kp.put m2 rfl
      have e2 : wv_up h1 (B 102 0 0) ((102, 0, 0, 0), wo_i (wv_A G 0) 6 (upd f2 (zn σ) p)) (B 102 0 0) = _ := wv_up_self
      have e0 := k2 _ _ m0 (fun q => by cases q)
      generalize wv_up h1 (B 102 0 0) ((102, 0, 0, 0), wo_i (wv_A G 0) 6 (upd f2 (zn σ) p)) = h2 at k2 e2 e0 ⊢
      refine z_gI e0 rfl (z_pt e0 (Nat.succ_ne_zero _) (by simp) (z_gI wv_up_self rfl (zTw.ok hc0 ⟨?_, B, rfl, ⟨?_, ?_⟩, ?_⟩)))
      · show Sum.inl (some (Value.int (nI (zn σ) + 1 - 1))) = _
        rw [← nI_succ, nI_pred]
      · refine wv_up_self.trans ?_
        unfold zMo
        rw [zaddC_n, nI_succ]
        rfl
      · have k3 : kp zS100 h2 (wv_up h2 (B 100 0 0) ((100, 0, 0, 0), wo_o ciX4 ([va_rf (some (B 101 0 0)), va_rf (some (B 102 0 0)), va_rf (some (B 103 0 0)), va_rf (some (B 104 0 0)), va_rf (some (B 105 0 0)), va_rf (some (B 106 0 0)), va_rf (some (B 107 0 0)), va_rf (some (B 108 0 0)), va_rf (some (B 109 0 0)), va_rf (some (B 110 0 0)), va_rf (some (B 111 0 0)), va_rf (some (B 112 0 0)), .int 0, .int (nI (zn σ)), .int (nI σ.2.1.length), .int (nI σ.2.2.1.length), va_rf (some L)].set 13 (.int (nI (zn σ) + 1))))) := kp.put e0 rfl
        refine zMh.keep (h := h2) ?_ k3 (fun _ t q x => by have q : t.1 = 100 := q; omega)
        have hr : ∀ r, r ≠ 102 → ∀ (a : Nat) (t : wv_T), t.1 = 102 → t.1 ≠ r := fun r hr a t q e => hr (e.symm.trans q)
        refine ⟨⟨fb, k2 _ _ m1 (fun q => by cases q), fun i j hi hj => by rw [zaddC_body]; exact u1 i j hi hj⟩, fun i j hi hj he => ?_, ⟨_, e2, fun i hi => ?_⟩, m3.keep k2 (hr 103 (by decide)), m4.keep k2 (hr 104 (by decide)), m5.keep k2 (hr 105 (by decide)), m6.keep k2 (hr 106 (by decide)), m7.keep k2 (hr 107 (by decide)), m8.keep k2 (hr 108 (by decide)), m9.keep k2 (hr 109 (by decide)), m10.keep k2 (hr 110 (by decide)), m11.keep k2 (hr 111 (by decide)), m12.keep k2 (hr 112 (by decide))⟩
        · rw [zaddC_body] at he ⊢
          exact (mb i j hi hj he).keep k2 (fun a t q x => by have q : t.1 = 102 := q; omega)
        · rw [zaddC_n] at hi
          rcases Nat.lt_or_ge i (zn σ) with hi2 | hi2
          · rw [pk_un (by omega), zaddC_par σ _ hi2]
            exact u2 i hi2
          · have : i = zn σ := by omega
            subst this
            rw [pk_us, zaddC_parn]
            exact ho.symm
      · refine ((k1.mono z100T).trans (k2.mono (fun _ t q => ?_))).trans (kp.put e0 ⟨zle, zle⟩)
        have q : t.1 = 102 := q
        exact ⟨by omega, by omega⟩
    · have hge : zn σ = 6 := (nI_eq (a := zn σ) (b := 6) (by omega) (by decide)).mp q
      exact bad 2 (by decide) (by decide) (by unfold zeC; rw [if_neg h9, if_neg (by omega)])
  refine wk_X4_addClass (v0 := some (B 100 0 0)) hG ⟨fun q => ?_, fun q => z_vI M.is (z4_isClass hG M p) (by omega) ?_⟩
  · refine good (fun x => x.1 q) ?_
    unfold ztoldC
    rw [if_pos q, q]
    rfl
  · cases hk : zix p (zn σ) with
    | none =>
      rw [zix_none.mp hk]
      exact ⟨fun q => absurd rfl q, fun _ => bad 1 (by decide) (by decide) (by unfold zeC; rw [if_pos ⟨q, hk⟩])⟩
    | some k =>
      rw [zir_of (by omega) hk]
      refine ⟨fun _ => good (fun x => by rw [hk] at x; cases x.2) ?_, fun q => absurd q (by decide)⟩
      unfold ztoldC
      rw [if_neg q, hk]
      exact ((zix_some (by omega)).mp hk).2.symm
-- ===== dropBody, finds =====
theorem z4_finds (hG : wv_G0 G) (hw : zwf σ) (M : zMf G B σ th L h) (x y : Int32) : wv_C G yX4_finds [.ref (B 100 0 0), .int x, .int y] h 3 0 0 (zTw G B σ L h (zwr σ x y) (.int 0) (fun r h' => r = .inl (some (.int (zfnd σ (zAt x) (zAt y)))) ∧ zTN G B σ L h h')) := by
  have hn6 := hw.1
  refine wk_X4_finds (v0 := some (B 100 0 0)) hG (z_vI M.is (z4_wrong hG M x y) (by omega) (z4_put M (fun h1 M1 k1 => z_gI M1.1 rfl ⟨fun q => ?_, fun q => ?_⟩)))
  · have hc0 : zwr σ x y = 0 := by
      rcases Nat.eq_zero_or_pos (zwr σ x y) with e | e
      · exact e
      · exact absurd q (nI_nle e (by unfold zwr; split <;> (try split) <;> decide))
    obtain ⟨k, hk⟩ : ∃ k, zix x (zn σ) = some k := by
      cases hk : zix x (zn σ) with
      | none => rw [zwr_1 hk] at hc0; cases hc0
      | some k => exact ⟨k, rfl⟩
    obtain ⟨m, hm⟩ : ∃ m, zix y 6 = some m := by
      cases hm : zix y 6 with
      | none => rw [zwr_2 hk hm] at hc0; cases hc0
      | some m => exact ⟨m, rfl⟩
    obtain ⟨hlt, exk⟩ := (zix_some (by omega)).mp hk
    obtain ⟨hm6, eym⟩ := (zix_some (by decide)).mp hm
    rw [zix_at hk, zix_at hm]
    have M2 : zMf G B σ 0 L h1 := by rw [hc0] at M1; exact M1
    subst exk
    subst eym
    refine z_vI M1.is (z4_found hG hw M1 hm6 hlt) (by omega) (zTw.ok hc0 ⟨?_, B, rfl, M2, k1.mono z100T⟩)
    unfold zfnd
    cases zfind σ m k <;> rfl
  · refine zTw.bad (zwr σ x y) rfl ?_ M1 (k1.mono z100T)
    rcases Nat.eq_zero_or_pos (zwr σ x y) with e | e
    · rw [e] at q
      exact absurd (Int32.le_refl _) q
    · exact e
end ZT2
