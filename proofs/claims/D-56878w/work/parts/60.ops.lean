/-! THE COMPONENT: addClass, addStep, dropBody, finds, places -/
section ZL
variable {G : wv_G} {A A' : zA} {σ : zS} {h h1 h2 h' : wv_H} {w : wv_W} {fr fr' kc ks : Nat} {P : wv_R → wv_H → Prop} {KX : String → Nat → wv_W → Prop} {a : Nat} {t : wv_T} {f g : Nat → Nat → Nat}
theorem zle {a b : Nat} (h : Nat.ble a b = true := by rfl) : a ≤ b := Nat.le_of_ble_eq_true h
abbrev zSc : Nat → wv_T → Prop := fun _ t => t.1 < 50 ∨ t.1 = 58
def zAe (A A' : zA) : Prop := ∀ r i j, (r = 2 ∨ (51 ≤ r ∧ r ≤ 56)) → A' r i j = A r i j
theorem zAe.refl (A : zA) : zAe A A := fun _ _ _ _ => rfl
/-- the component's state is the one of σ -/
def zNew (G : wv_G) (A : zA) (σ : zS) (h h' : wv_H) : Prop := ∃ (A' : zA) (f : Nat → Nat → Nat), zAe A A' ∧ zCf G A' σ h' ∧ zPls G A' σ f h' ∧ kp zSc h h'
def ztoldC (σ : zS) (p : Int32) : Option Nat := if p = -1 then none else zix p (zn σ)
def zeC (σ : zS) (p : Int32) : Nat := if ¬ p = -1 ∧ zix p (zn σ) = none then 1 else if zn σ < 6 then 0 else 2
theorem z1_addClass32 (hG : wv_G0 G) (hw : zwf σ) (C : zCf G A σ h) (L : zPls G A σ f h) {p : Int32} {o : Option Nat} (ho : ztoldC σ p = o) (hoq : ∀ q, o = some q → q < zn σ) (h1 : ¬ (¬ p = -1 ∧ zix p (zn σ) = none)) :
    vc_X1_addClass_14 G 12 (zRes h (zeC σ p) [zIOOB, zISE] (fun r h' => r = .inl (some (.int (nI (zn σ)))) ∧ zNew G A (zaddC σ (ztoldC σ p)) h h')) (some (A 2 0 0)) (o.map (fun q => A 4 q 0)) (h, 32, 184) := by
  have hn6 := hw.1
  refine z_gA C.comp rfl (C.types.vsizeR hG (by omega) (pk_le 6 (zn σ) (fun hle => ?_) (fun hlt => ?_)))
  · refine z_tV (z1_ckS0 hG) (by omega) zle zle (fun q h' k => zRes.err 2 ?_ (by decide) rfl k)
    unfold zeC
    rw [if_neg h1, if_neg (by omega)]
  · have hc0 : zeC σ p = 0 := by unfold zeC; rw [if_neg h1, if_pos hlt]
    refine z_cV (z1_ckS hG) (by omega) (z_gA C.comp rfl (z_no (4, zn σ, 0, 0) zle zle (fun a ha _ => ?_)))
    have ha : h a = none := ha
    have C1 : zCf G A σ (wv_up h a ((4, zn σ, 0, 0), wo_o ciX6 [.int 0, va_rf none, va_rf none, va_rf none])) := C.keepn (kp.new ha)
    refine z_gA C1.comp rfl (C1.types.vsizeR hG (by omega) ?_)
    refine ⟨a, rfl, z_c (z6_init hG (n := zn σ) (o := o.map (fun q => A 4 q 0)) ha) (by omega) (Nat.le_of_ble_eq_true rfl) (Nat.le_of_ble_eq_true rfl) ?_⟩
    rintro r h2 ⟨rfl, k2, bl, pl, bs, ps, ea, eb, ep, em⟩
    refine Or.inl ⟨rfl, ?_⟩
    have C2 : zCf G A σ h2 := C.keepn k2
    have L2 : zPl0 A (zn σ) h2 (fun _ _ => False) := L.to0.keep k2 (fun _ _ q => q.elim)
    obtain ⟨A', hA'⟩ : ∃ A' : zA, A' = fun r i j => if i = zn σ ∧ r = 4 then a else if i = zn σ ∧ r = 5 then bl else if i = zn σ ∧ r = 6 then pl else if i = zn σ ∧ r = 7 then bs j else if i = zn σ ∧ r = 58 then ps j else A r i j := ⟨_, rfl⟩
    have hval : ∀ r i j, zval σ r i j → A' r i j = A r i j := by
      rintro r i j ⟨v1, -⟩
      rw [hA']
      show (if i = zn σ ∧ r = 4 then a else if i = zn σ ∧ r = 5 then bl else if i = zn σ ∧ r = 6 then pl else if i = zn σ ∧ r = 7 then bs j else if i = zn σ ∧ r = 58 then ps j else A r i j) = A r i j
      rw [if_neg (by omega), if_neg (by omega), if_neg (by omega), if_neg (by omega), if_neg (by omega)]
    have hAe : zAe A A' := by
      intro r i j hr
      rw [hA']
      show (if i = zn σ ∧ r = 4 then a else if i = zn σ ∧ r = 5 then bl else if i = zn σ ∧ r = 6 then pl else if i = zn σ ∧ r = 7 then bs j else if i = zn σ ∧ r = 58 then ps j else A r i j) = A r i j
      rw [if_neg (by omega), if_neg (by omega), if_neg (by omega), if_neg (by omega), if_neg (by omega)]
    have a4 : A' 4 (zn σ) 0 = a := by rw [hA']; simp
    have a5 : A' 5 (zn σ) 0 = bl := by rw [hA']; simp
    have a6 : A' 6 (zn σ) 0 = pl := by rw [hA']; simp
    have a7 : ∀ m, A' 7 (zn σ) m = bs m := by intro m; rw [hA']; simp
    have a58 : ∀ m, A' 58 (zn σ) m = ps m := by intro m; rw [hA']; simp
    have e3 : A' 3 0 0 = A 3 0 0 := hval 3 0 0 (zval_o (by omega))
    have C3 := C2.congrA hw hval
    have hnc := wl_nc_6 (n := zn σ) (by omega)
    refine C2.types.cadd hG (z_el (z_is ea ccX6) q2611) (fun x hx => ?_) (by rw [z_rgl]; omega) (by omega) (Nat.le_of_ble_eq_true rfl) (by rw [z_rgl]; show _ ≤ 184 - 4 - 170; omega) (fun h3 c3 s3 l3 o3 g2 g3 => ?_)
    · obtain ⟨m, hm, rfl⟩ := List.mem_map.mp hx
      exact z_el (z_is (C2.type (List.mem_range.mp hm)) ccX6) q2611
    · have hty := C2.types
      obtain ⟨md, cap, -, e9⟩ := hty
      have k3 : kp (fun _ t => t = (3, 0, 0, 0)) h2 h3 := kp.of e9 rfl o3
      have key3 : ∀ {b : Nat} {t' : wv_T} {o' : wv_O}, t'.1 ≠ 3 → h2 b = some (t', o') → h3 b = some (t', o') := fun ht hb => k3 _ _ hb (fun q => ht (congrArg (fun x : wv_T => x.1) q))
      have keyL : ∀ {b : Nat} {t' : wv_T} {xs : List Nat}, t'.1 ≠ 3 → zL h2 b t' xs → zL h3 b t' xs := fun ht hb => hb.keep k3 (fun q => ht (congrArg (fun x : wv_T => x.1) q))
      have hb0 : zbody (zaddC σ o) (zn σ) = fun _ => [] := by
        funext m
        unfold zbody
        rw [zaddC_get2]
      have hp0 : zpar (zaddC σ o) (zn σ) = o := by
        unfold zpar
        rw [zaddC_get2]
        rfl
      have epar : o.map (fun p => A' 4 p 0) = o.map (fun p => A 4 p 0) := by
        cases ho2 : o with
        | none => rfl
        | some q =>
          show some (A' 4 q 0) = some (A 4 q 0)
          rw [hval 4 q 0 (zval_c (by omega) (hoq q ho2))]
      have Cn : zcl A' (zaddC σ o) h3 (zn σ) := by
        refine ⟨?_, ?_, ?_, fun m hm => ⟨?_, fun i st hi => ?_⟩⟩
        · rw [a4, hp0, epar, a5, a6]
          exact key3 (by show (4 : Nat) ≠ 3; decide) ea
        · rw [a5, zmapR (g := bs) (fun m _ => a7 m)]
          exact keyL (by show (5 : Nat) ≠ 3; decide) eb
        · rw [a6, zmapR (g := ps) (fun m _ => a58 m)]
          exact keyL (by show (6 : Nat) ≠ 3; decide) ep
        · rw [a7, hb0]
          exact keyL (by show (7 : Nat) ≠ 3; decide) (em m hm).1
        · rw [hb0] at hi
          simp at hi
      have C4 : zCf G A' (zaddC σ o) h3 := by
        refine C3.addC k3 ?_ Cn
        rw [e3, a4, zmapR (g := fun k => A 4 k 0) (fun i hi => hval 4 i 0 (zval_c (by omega) hi))]
        exact l3
      have L4 : zPl0 A' (zn (zaddC σ o)) h3 (fun _ _ => False) := by
        rw [zaddC_n]
        intro k m hk hm
        rcases Nat.lt_or_ge k (zn σ) with hlt2 | hge
        · rw [hval 58 k m (zval_c (by omega) hlt2)]
          obtain ⟨xs, l1, -⟩ := L2 k m hlt2 hm
          exact ⟨xs, keyL (by show (58 : Nat) ≠ 3; decide) l1, fun q => q.elim⟩
        · have e : k = zn σ := by omega
          subst e
          rw [a58]
          exact ⟨[], keyL (by show (58 : Nat) ≠ 3; decide) (em m hm).2, fun q => q.elim⟩
      have hw' := zaddC_wf hw hlt hoq
      have e2 : A' 2 0 0 = A 2 0 0 := hval 2 0 0 (zval_o (by omega))
      have hfg := z1_forget hG hw'.1 C4 L4
      rw [e2] at hfg
      have hcx : h3 (A 2 0 0) = some ((2, 0, 0, 0), wo_o ciX1 [va_rf (some (A 3 0 0)), va_rf (some (A 10 0 0)), va_rf (some (A 13 0 0)), va_rf (some (A 15 0 0)), va_rf (some (A 51 0 0)), va_rf (some (A 51 1 0)), va_rf (some (A 51 2 0))]) := key3 (by decide) C2.comp
      refine ⟨A 2 0 0, rfl, z_is hcx ccX1, z_c hfg (by omega) (Nat.zero_le _) (Nat.zero_le _) ?_⟩
      rintro r h4 ⟨rfl, m1, m2⟩
      refine Or.inl ⟨rfl, ?_⟩
      have C5 : zCf G A' (zaddC σ o) h4 := C4.keep m2 (fun _ t e => by rw [e]; decide)
      have hcx4 : h4 (A 2 0 0) = some ((2, 0, 0, 0), wo_o ciX1 [va_rf (some (A 3 0 0)), va_rf (some (A 10 0 0)), va_rf (some (A 13 0 0)), va_rf (some (A 15 0 0)), va_rf (some (A 51 0 0)), va_rf (some (A 51 1 0)), va_rf (some (A 51 2 0))]) := m2 _ _ hcx (fun q => by cases q)
      have hty4 := C5.types
      rw [e3, zaddC_n] at hty4
      refine z_gA hcx4 rfl (hty4.vsizeR hG (by omega) ?_)
      refine zRes.ok hc0 ⟨by rw [nI_pred], A', fun _ _ => 0, hAe, by rw [ho]; exact C5, by rw [ho]; exact zPls.of0 m1, ?_⟩
      exact (kn.to k2).trans ((k3.mono (fun _ t e => Or.inl (by rw [e]; decide))).trans (m2.mono (fun _ t e => Or.inr e)))
theorem z1_addClass (hG : wv_G0 G) (hw : zwf σ) (C : zCf G A σ h) (L : zPls G A σ f h) (p : Int32) : wv_C G yX1_addClass [.ref (A 2 0 0), .int p] h 12 32 184 (zRes h (zeC σ p) [zIOOB, zISE] (fun r h' => r = .inl (some (.int (nI (zn σ)))) ∧ zNew G A (zaddC σ (ztoldC σ p)) h h')) := by
  have hn6 := hw.1
  refine wk_X1_addClass (v0 := some (A 2 0 0)) hG ⟨fun e => ?_, fun e => ?_⟩
  · cases hk : zix p (zn σ) with
    | none =>
      refine ⟨A 2 0 0, rfl, z_isC C, z_tA (z1_type0 hG C hk) (by omega) zle zle (fun q h' k => zRes.err 1 ?_ (by decide) rfl k)⟩
      unfold zeC
      rw [if_pos ⟨e, hk⟩]
    | some k =>
      refine z_vA (z_isC C) (z1_type hG hw C hk) (by omega) ?_
      exact z1_addClass32 hG hw C L (o := some k) (by unfold ztoldC; rw [if_neg e, hk]) (fun q hq => by cases hq; exact ((zix_some (by omega)).mp hk).1) (fun q => by rw [hk] at q; cases q.2)
  · exact z1_addClass32 hG hw C L (o := none) (by unfold ztoldC; rw [if_pos e]) (fun q hq => by cases hq) (fun q => q.1 e)
end ZL
