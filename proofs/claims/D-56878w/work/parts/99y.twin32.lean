/-! THE REFERENCE: run, runAsking -/
section ZTZ3
variable {G : wv_G} {B B' : zA} {σ σ' : zS} {h h0 h1 h2 h' : wv_H} {w : wv_W} {fr fr' kc ks : Nat} {P : wv_R → wv_H → Prop} {KX : String → Nat → wv_W → Prop} {a b L L' : Nat} {t : wv_T} {n k m p i : Nat} {th : Int32} {wov : Bool} {s s1 s2 s' : zR} {cp : Nat × Nat} {D : zD} {x y v : Int32} {f : Nat → Nat → Nat}
-- ===== a run's cost, in numbers =====
def zRC (σ : zS) (cp : Nat × Nat) : Nat := 3493 + 120 * (σ.2.1.length + 7 + cp.1 * σ.2.2.1.length)
def zRL (σ : zS) (cp : Nat × Nat) : Nat := 19444 + 120 * (4 * σ.2.1.length + 66 + cp.2 * σ.2.2.1.length)
theorem zrun_cost4 (hw : zwf σ) (k m : Nat) (v : Int32) (f : Nat → Nat → Nat) : zdc σ cp (zr0 f) (zrun σ wov k m v f).2 ≤ zRC σ cp ∧ zds σ cp (zr0 f) (zrun σ wov k m v f).2 ≤ zRL σ cp := by
  obtain ⟨b1, b2, b3, b4, b5⟩ := zrun_room (wov := wov) hw k m v f
  generalize (zrun σ wov k m v f).2 = s at b1 b2 b3 b4 b5 ⊢
  have g1 := zgc_mono (n := min s.2.2.1.length 400) (n' := 400) (Nat.min_le_right _ _) (Nat.le_refl _)
  have g2 : zgc 400 = 11 ∧ zgs 400 = 1633 := by decide
  have m1 : s.1 * (σ.2.1.length + 7 + cp.1 * σ.2.2.1.length) ≤ 120 * (σ.2.1.length + 7 + cp.1 * σ.2.2.1.length) := Nat.mul_le_mul_right _ b1
  have m2 : s.1 * (4 * σ.2.1.length + 66 + cp.2 * σ.2.2.1.length) ≤ 120 * (4 * σ.2.1.length + 66 + cp.2 * σ.2.2.1.length) := Nat.mul_le_mul_right _ b1
  constructor
  · refine Nat.le_trans (Nat.sub_le _ _) ?_
    unfold zDc zRC
    omega
  · refine Nat.le_trans (Nat.sub_le _ _) ?_
    unfold zDs zRL
    omega
/-- its last result written -/
theorem z4_putL (M : zMf G B σ th L w.1) {K : wv_W → Prop} (hK : ∀ h1, zMf G B σ th L' h1 → kp zS100 w.1 h1 → K (h1, w.2)) : wv_pt w (some (B 100 0 0)) ciX4 16 (va_rf (some L')) K := by
  have k : kp zS100 w.1 (wv_up w.1 (B 100 0 0) ((100, 0, 0, 0), zMo B σ th L')) := kp.put M.1 rfl
  exact z_pt M.1 (Nat.succ_ne_zero _) (by simp) (hK _ ⟨wv_up_self, M.2.keep k (fun _ t q x => by have q : t.1 = 100 := q; omega)⟩ k)
theorem zMR.keep100 {l : zL9} (R : zMR L l h) (k : kp zS100 h h1) : zMR L l h1 := R.T (k.mono z100T)
theorem z4_ran (hG : wv_G0 G) (hw : zwf σ) (ht : zwt σ) (hcp : zcpo σ wov cp) (M : zMf G B σ th L h) (x y v : Int32) (f : Nat → Nat → Nat) : wv_C G yX4_ran [.ref (B 100 0 0), .int (zbI wov), .int x, .int y, .int v] h 667 (16 + zRC σ cp) (108 + zRL σ cp) (zTw G B σ L h (zeB σ x y v) (.int 32) (fun z h' => z = .inl (some (.int (zend (zrun σ wov (zAt x) (zAt y) v f)).1)) ∧ ∃ L', zMf G B σ 0 L' h' ∧ zMR L' (zend (zrun σ wov (zAt x) (zAt y) v f)) h' ∧ kp zST h h')) := by
  have hn6 := hw.1
  have key : ∀ (c : Nat) (h1 : wv_H) (cc cs : Nat), 11 + zRC σ cp ≤ cc → 65 + zRL σ cp ≤ cs → zMf G B σ th L h1 → kp kn h h1 → c ≤ 3 → zeB σ x y v = c → (c = 0 → ∃ k m, k < zn σ ∧ m < 6 ∧ x = nI k ∧ y = nI m ∧ zring σ = false) → vc_X4_ran_52 G 667 (zTw G B σ L h (zeB σ x y v) (.int 32) (fun z h' => z = .inl (some (.int (zend (zrun σ wov (zAt x) (zAt y) v f)).1)) ∧ ∃ L', zMf G B σ 0 L' h' ∧ zMR L' (zend (zrun σ wov (zAt x) (zAt y) v f)) h' ∧ kp zST h h')) (some (B 100 0 0)) (zbI wov) x y v (nI c) (some (B 100 0 0)) (h1, cc, cs) := by
    intro c h1 cc cs hcc hcs M1 k1 hc3 hcode hx
    refine z4_put M1 (fun h2 M2 k2 => z_gI M2.1 rfl (z4_code (by omega) (fun q0 => ?_) (fun q0 => ⟨rfl, zTw.bad c hcode q0 M2 ((kn.to k1).trans (k2.mono z100T))⟩)))
    obtain ⟨k, m, hk, hm, rfl, rfl, hr⟩ := hx q0
    rw [q0] at M2
    have hcode : zeB σ (nI k) (nI m) v = 0 := by rw [hcode, q0]
    rw [zAt_nI (by omega), zAt_nI (by omega)]
    refine z_no (140, 0, 0, 0) (by show 1 ≤ cc; omega) (by show 5 ≤ cs; omega) (fun a ha _ => ?_)
    have ha : h2 a = none := ha
    refine ⟨a, rfl, z_c (z26_init hG M2 ha wov) (by omega) (by show 8 ≤ cc - 1; omega) (by show 54 ≤ cs - 5; omega) ?_⟩
    rintro z h3 ⟨rfl, D, rfl, R3, n3, k3⟩
    obtain ⟨b1, b2⟩ := zrun_cost4 (cp := cp) (wov := wov) hw k m v f
    refine Or.inl ⟨rfl, D.1, rfl, z_is R3.2.1 ccX26, z_c (z26_runs hG hw ht hr hcp R3 hk hm v f) (by omega) (by show 2 + zdc σ cp (zr0 f) (zrun σ wov k m v f).2 ≤ cc - 1 - 8; omega) (by show 6 + zds σ cp (zr0 f) (zrun σ wov k m v f).2 ≤ cs - 5 - 54; omega) ?_⟩
    rintro z h4 ⟨rfl, M4, R4, k4⟩
    have k24 : kp kn h2 h4 := n3.kp k3 k4
    refine Or.inl ⟨_, rfl, z4_putL M4 (fun h5 M5 k5 => ?_)⟩
    have R5 := R4.keep100 k5
    obtain ⟨tl, md, cap, xs, r1, -⟩ := id R5
    exact z_gA M5.1 rfl (z_gI r1 rfl ⟨zend_fit _, zTw.ok hcode ⟨rfl, D.2.1, M5, R5, ((kn.to k1).trans (k2.mono z100T)).trans ((kn.to k24).trans (k5.mono z100T))⟩⟩)
  refine wk_X4_ran (v0 := some (B 100 0 0)) hG (z_vI M.is (z4_isClass hG M x) (by omega) ?_)
  cases hk : zix x (zn σ) with
  | none =>
    rw [zix_none.mp hk]
    exact ⟨fun q => absurd rfl q, fun _ => key 1 h _ _ (by omega) (by omega) M (kp.refl h) (by decide) (if_pos hk) (fun q => by cases q)⟩
  | some k =>
    obtain ⟨hlt, exk⟩ := (zix_some (by omega)).mp hk
    have hk0 : ¬ zix x (zn σ) = none := by rw [hk]; simp
    rw [zir_of (by omega) hk]
    refine ⟨fun _ => z_cI (z4_isMethod hG y) (by omega) ?_, fun q => absurd q (by decide)⟩
    rw [zir5]
    cases hm : zix y 6 with
    | none =>
      rw [zix_none.mp hm]
      exact ⟨fun _ => key 2 h _ _ (by omega) (by omega) M (kp.refl h) (by decide) (by unfold zeB; rw [if_neg hk0, if_pos (Or.inl hm)]) (fun q => by cases q), fun q => absurd rfl q⟩
    | some m =>
      obtain ⟨hm6, eym⟩ := (zix_some (by decide)).mp hm
      have hm0 : ¬ zix y 6 = none := by rw [hm]; simp
      rw [zir_of (n := 6) (by decide) hm]
      refine ⟨fun q => absurd q (by decide), fun _ => z_cI (z4_in hG v (-99) 99) (by omega) ?_⟩
      cases hv : zir v (-99) 99 with
      | false => exact ⟨fun q => absurd rfl q, fun _ => key 2 h _ _ (by omega) (by omega) M (kp.refl h) (by decide) (by unfold zeB; rw [if_neg hk0, if_pos (Or.inr hv)]) (fun q => by cases q)⟩
      | true =>
        have hv0 : ¬ (zix y 6 = none ∨ zir v (-99) 99 = false) := by rw [hm, hv]; simp
        refine ⟨fun _ => ⟨B 100 0 0, rfl, M.is, z_c (z4_order hG M) (by omega) (by show 5 ≤ 16 + zRC σ cp; omega) (by show 43 ≤ 108 + zRL σ cp; omega) ?_⟩, fun q => absurd q (by decide)⟩
        rintro z h1 ⟨ol, rfl, -, L1, k1⟩
        have M1 := M.keepn k1
        have hle := zord_le (σ := σ)
        refine Or.inl ⟨_, rfl, L1.vsize hG (by omega) ?_⟩
        rw [List.length_map]
        refine pk_le 4 (zord σ).length (fun h9 => ?_) (fun h9 => ?_)
        · have hr : zring σ = false := zord_len.mp (by omega)
          exact key 0 h1 _ _ (by show _ ≤ 16 + zRC σ cp - 5; omega) (by show _ ≤ 108 + zRL σ cp - 43; omega) M1 k1 (by decide) (by unfold zeB; rw [if_neg hk0, if_neg hv0, if_neg (by rw [hr]; decide)]) (fun _ => ⟨k, m, hlt, hm6, exk, eym, hr⟩)
        · have hr : zring σ = true := by
            cases hr : zring σ with
            | true => rfl
            | false => have := zord_len.mpr hr; omega
          exact key 3 h1 _ _ (by show _ ≤ 16 + zRC σ cp - 5; omega) (by show _ ≤ 108 + zRL σ cp - 43; omega) M1 k1 (by decide) (by unfold zeB; rw [if_neg hk0, if_neg hv0, if_pos hr]) (fun q => by cases q)
theorem z4_run (hG : wv_G0 G) (hw : zwf σ) (ht : zwt σ) (hcp : zcpo σ true cp) (M : zMf G B σ th L h) (x y v : Int32) (f : Nat → Nat → Nat) : wv_C G yX4_run [.ref (B 100 0 0), .int x, .int y, .int v] h 668 (16 + zRC σ cp) (108 + zRL σ cp) (zTw G B σ L h (zeB σ x y v) (.int 32) (fun z h' => z = .inl (some (.int (zend (zrun σ true (zAt x) (zAt y) v f)).1)) ∧ ∃ L', zMf G B σ 0 L' h' ∧ zMR L' (zend (zrun σ true (zAt x) (zAt y) v f)) h' ∧ kp zST h h')) := by
  refine wk_X4_run (v0 := some (B 100 0 0)) hG ⟨B 100 0 0, rfl, M.is, z_c (z4_ran (wov := true) hG hw ht hcp M x y v f) (by omega) (Nat.le_refl _) (Nat.le_refl _) ?_⟩
  rintro z h' (⟨hc, rfl, p⟩ | ⟨hc, rfl, p⟩)
  · exact Or.inl ⟨_, rfl, zend_fit _, zTw.ok hc ⟨rfl, p⟩⟩
  · exact Or.inl ⟨_, rfl, rfl, Or.inr ⟨hc, rfl, p⟩⟩
theorem z4_runAsking (hG : wv_G0 G) (hw : zwf σ) (ht : zwt σ) (M : zMf G B σ th L h) (x y v : Int32) (f : Nat → Nat → Nat) : wv_C G yX4_runAsking [.ref (B 100 0 0), .int x, .int y, .int v] h 668 (16 + zRC σ (0, 0)) (108 + zRL σ (0, 0)) (zTw G B σ L h (zeB σ x y v) (.int 32) (fun z h' => z = .inl (some (.int (zend (zrun σ false (zAt x) (zAt y) v f)).1)) ∧ ∃ L', zMf G B σ 0 L' h' ∧ zMR L' (zend (zrun σ false (zAt x) (zAt y) v f)) h' ∧ kp zST h h')) := by
  refine wk_X4_runAsking (v0 := some (B 100 0 0)) hG ⟨B 100 0 0, rfl, M.is, z_c (z4_ran (wov := false) hG hw ht (fun q => by cases q) M x y v f) (by omega) (Nat.le_refl _) (Nat.le_refl _) ?_⟩
  rintro z h' (⟨hc, rfl, p⟩ | ⟨hc, rfl, p⟩)
  · exact Or.inl ⟨_, rfl, zend_fit _, zTw.ok hc ⟨rfl, p⟩⟩
  · exact Or.inl ⟨_, rfl, rfl, Or.inr ⟨hc, rfl, p⟩⟩
end ZTZ3
