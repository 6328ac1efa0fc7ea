/-! THE REFERENCE: residues, woven, sureShare, meanSteps, traceSum, acted -/
section ZTZ4
variable {G : wv_G} {B B' : zA} {σ σ' : zS} {h h0 h1 h2 h' : wv_H} {w : wv_W} {fr fr' kc ks : Nat} {P : wv_R → wv_H → Prop} {KX : String → Nat → wv_W → Prop} {a b L L' : Nat} {t : wv_T} {n k m p i : Nat} {th : Int32} {c x y v : Int32} {l : zL9}
-- ===== sums =====
theorem zsm_six (g : Nat → Nat → Nat) : ∀ n, zsm (fun b => g (b / 6) (b % 6)) (6 * n) = zsm (fun k => zsm (fun m => g k m) 6) n
  | 0 => rfl
  | n + 1 => by
    have ih := zsm_six g n
    rw [show 6 * (n + 1) = 6 * n + 6 by omega]
    show zsm (fun b => g (b / 6) (b % 6)) (6 * n) + g ((6 * n) / 6) ((6 * n) % 6) + g ((6 * n + 1) / 6) ((6 * n + 1) % 6) + g ((6 * n + 2) / 6) ((6 * n + 2) % 6) + g ((6 * n + 3) / 6) ((6 * n + 3) % 6) + g ((6 * n + 4) / 6) ((6 * n + 4) % 6) + g ((6 * n + 5) / 6) ((6 * n + 5) % 6) = zsm (fun k => zsm (fun m => g k m) 6) n + (0 + g n 0 + g n 1 + g n 2 + g n 3 + g n 4 + g n 5)
    rw [ih, show (6 * n) / 6 = n by omega, show (6 * n) % 6 = 0 by omega, show (6 * n + 1) / 6 = n by omega, show (6 * n + 1) % 6 = 1 by omega, show (6 * n + 2) / 6 = n by omega, show (6 * n + 2) % 6 = 2 by omega, show (6 * n + 3) / 6 = n by omega, show (6 * n + 3) % 6 = 3 by omega, show (6 * n + 4) / 6 = n by omega, show (6 * n + 4) % 6 = 4 by omega, show (6 * n + 5) / 6 = n by omega, show (6 * n + 5) % 6 = 5 by omega]
    omega
theorem zsm_plus {f g : Nat → Nat} : ∀ n, zsm (fun j => f j + g j) n = zsm f n + zsm g n
  | 0 => rfl
  | n + 1 => by
    have ih := zsm_plus (f := f) (g := g) n
    show zsm (fun j => f j + g j) n + (f n + g n) = (zsm f n + f n) + (zsm g n + g n)
    omega
theorem zsm_tail {f : Nat → Nat} {n : Nat} (h0 : ∀ j, n ≤ j → f j = 0) : ∀ d, zsm f (n + d) = zsm f n
  | 0 => rfl
  | d + 1 => by
    show zsm f (n + d) + f (n + d) = zsm f n
    rw [zsm_tail h0 d, h0 _ (by omega)]
    rfl
-- ===== pairs =====
def zprb (σ : zS) (c : Int32) (k m : Nat) : Nat := zsm (fun p => zsm (zcn4 σ (zpl σ k m p) c) σ.2.2.1.length) (zspots σ k m).length
def zpr (σ : zS) (c : Int32) : Nat := zsm (fun b => zprb σ c (b / 6) (b % 6)) (6 * zn σ)
theorem zpr_c (hc : ¬ c = 32) : zpr σ c = zpairs σ c := by
  unfold zpr
  rw [zsm_six (fun k m => zprb σ c k m)]
  refine zsm_congr (fun k _ => zsm_congr (fun m _ => zsm_congr (fun p _ => zsm_congr (fun j _ => ?_))))
  unfold zcn4 zcnt
  by_cases e : (zadv σ j).2.2.2.2.2 = true ∧ zat σ (zpl σ k m p) (zadv σ j).2.2.1 = c
  · rw [if_pos e, if_pos ⟨e.1, Or.inr e.2⟩]
  · rw [if_neg e, if_neg (fun q => q.2.elim hc (fun q2 => e ⟨q.1, q2⟩))]
theorem zcn4_32 (q : zPl) (j : Nat) : zcn4 σ q 32 j = zcnt σ q 121 j + zcnt σ q 110 j + zcnt σ q 109 j := by
  unfold zcn4 zcnt
  by_cases e : (zadv σ j).2.2.2.2.2 = true
  · rw [if_pos ⟨e, Or.inl rfl⟩]
    rcases zat_3 (σ := σ) (q := q) (zadv σ j).2.2.1 with z | z | z <;> rw [z] <;> simp [e]
  · rw [if_neg (fun q => e q.1), if_neg (fun q => e q.1), if_neg (fun q => e q.1), if_neg (fun q => e q.1)]
theorem zpr_32 : zpr σ 32 = zpairs σ 121 + zpairs σ 110 + zpairs σ 109 := by
  unfold zpr zpairs
  rw [zsm_six (fun k m => zprb σ 32 k m), ← zsm_plus, ← zsm_plus]
  refine zsm_congr (fun k _ => ?_)
  rw [← zsm_plus, ← zsm_plus]
  refine zsm_congr (fun m _ => ?_)
  show zprb σ 32 k m = _
  unfold zprb
  rw [← zsm_plus, ← zsm_plus]
  refine zsm_congr (fun p _ => ?_)
  rw [← zsm_plus, ← zsm_plus]
  exact zsm_congr (fun j _ => zcn4_32 _ j)
theorem z6n (n : Nat) : (6 : Int32) * nI n = nI (6 * n) := by rw [show (6 : Int32) = nI 6 by decide, pk_mul]
theorem z4_pairs (hG : wv_G0 G) (hw : zwf σ) (ht : zwt σ) (M : zMf G B σ th L h) (c : Int32) : wv_C G yX4_pairs [.ref (B 100 0 0), .int c] h 28 792 4392 (fun y h' => y = .inl (some (.int (nI (zpr σ c)))) ∧ kp kn h h') := by
  have hn6 := hw.1
  refine wk_X4_pairs (v0 := some (B 100 0 0)) hG ?_
  refine z_loop (6 * zn σ) (by omega) (fun u => u.2.2.2) (fun b u w => u = (some (B 100 0 0), c, nI (zsm (fun b => zprb σ c (b / 6) (b % 6)) b), nI b) ∧ kp kn h w.1 ∧ 22 * (36 - b) ≤ w.2.1 ∧ 122 * (36 - b) ≤ w.2.2) rfl ⟨rfl, kp.refl h, Nat.le_refl 792, Nat.le_refl 4392⟩ ?_
  rintro K b _ w hb - ⟨rfl, kw, bc, bs⟩ hK
  have Mw := M.keepn kw
  refine z_gI Mw.1 rfl ?_
  rw [z6n]
  refine pk_le (6 * zn σ) b (fun hle => ?_) (fun hlt => ?_)
  · have e : b = 6 * zn σ := by omega
    subst e
    exact ⟨rfl, kw⟩
  · have hk9 : b / 6 < zn σ := by omega
    have hm9 : b % 6 < 6 := by omega
    have eb : b = 6 * (b / 6) + b % 6 := by omega
    have k9 := hK
    have ebs : zsm (fun b => zprb σ c (b / 6) (b % 6)) (b + 1) = zsm (fun b => zprb σ c (b / 6) (b % 6)) b + zprb σ c (b / 6) (b % 6) := rfl
    generalize zsm (fun b => zprb σ c (b / 6) (b % 6)) b = q0 at ebs ⊢
    generalize hk0 : b / 6 = k at hk9 ebs eb
    generalize hm0 : b % 6 = m at hm9 ebs eb
    have h17 := zspots_le hw (k := k) hm9
    have g17 := zg_17 h17
    obtain ⟨r, hr9⟩ : ∃ r, 36 - b = r + 1 := ⟨36 - b - 1, by omega⟩
    rw [hr9, Nat.mul_succ] at bc bs
    refine ⟨by decide, by decide, ?_⟩
    have e1 : nI b / 6 = nI k := by rw [eb]; exact z6div (by omega) hm9
    have e2 : nI b - nI b / 6 * 6 = nI m := by
      have := z6rem (k := k) (m := m) (by omega) hm9
      rw [← eb] at this
      exact this
    rw [e2, e1]
    refine ⟨B 100 0 0, rfl, Mw.is, z_c (z4_spots hG hw Mw hk9 hm9) (by omega) (by omega) (by omega) ?_⟩
    rintro z h1 ⟨sl, xs, rfl, f1, S1, k1⟩
    have hl1 := S1.2.1
    refine Or.inl ⟨_, rfl, S1.1.iter hG (by omega) (by show 1 ≤ w.2.1 - _; omega) (by show 4 ≤ w.2.2 - _; omega) (fun it h2 f2 k2 I2 => ?_)⟩
    have f2 : h1 it = none := f2
    have k2 : kp kn h1 h2 := k2
    have kh1 : kp kn h h1 := kw.trans k1
    refine z_loopI (zspots σ k m).length (fun p u w9 => u = (some (B 100 0 0), c, nI (q0 + zsm (fun p => zsm (zcn4 σ (zpl σ k m p) c) σ.2.2.1.length) p), nI b, some it) ∧ kp kn h1 w9.1 ∧ zIt w9.1 it sl (148, 0, 0, 0) xs p ∧ 22 * r ≤ w9.2.1 ∧ 122 * r ≤ w9.2.2) ⟨rfl, k2, I2, by show 22 * r ≤ w.2.1 - _ - 1; omega, by show 122 * r ≤ w.2.2 - _ - 4; omega⟩ (fun x y u w9 _ _ hx hy => zIt.unique (by omega) hx.2.2.1 hy.2.2.1) ?_
    rintro K2 p _ w9 hp ⟨rfl, kw9, I9, bc9, bs9⟩ hK2
    refine I9.has hG (by omega) ⟨fun q => ?_, fun q => ?_⟩
    · have e : p = (zspots σ k m).length := by
        by_cases e : p = xs.length
        · omega
        · rw [if_neg e] at q; exact absurd q (by decide)
      subst e
      refine hK _ w9 hlt ?_ ⟨?_, kh1.trans kw9, ?_, ?_⟩
      · show nI b + 1 = _
        rw [← nI_succ]
      · rw [ebs, ← nI_succ]
        rfl
      · rw [show 36 - (b + 1) = r by omega]
        exact bc9
      · rw [show 36 - (b + 1) = r by omega]
        exact bs9
    · have hlt2 : p < (zspots σ k m).length := by
        by_cases e : p = xs.length
        · rw [if_pos e] at q; exact absurd rfl q
        · omega
      have hx : (zspots σ k m)[p]? = some (zspot σ k m p) := zspot_get hlt2
      obtain ⟨o1, o2⟩ := zspots_ok hw hk9 hm9 (List.mem_of_getElem? hx)
      obtain ⟨d, d1, d2⟩ := S1.2.2 p _ hx
      refine I9.next hG d1 (by omega) (fun h3 k3 I3 => ?_)
      have k03 : kp kn h1 h3 := fun e z he _ => k3 e z (kn.at kw9 he) (fun q => z_nw f2 he q)
      have d3 := kn.at k03 d2
      have M3 := M.keepn (kh1.trans k03)
      refine z_cc (z_is d3 ccX20) ?_
      rw [eb]
      refine z4_pairs57 (w := (h3, w9.2)) hG hw ht M3 hk9 hm9 d3 o1 o2 (by omega) ?_
      refine hK2 _ _ hlt2 ⟨?_, k03, I3, bc9, bs9⟩
      rw [Nat.add_assoc, ← eb]
      rfl
theorem z4_residues (hG : wv_G0 G) (hw : zwf σ) (ht : zwt σ) (M : zMf G B σ th L h) : wv_C G yX4_residues [.ref (B 100 0 0)] h 29 792 4392 (fun r h' => r = .inl (some (.int (nI (zpairs σ 109)))) ∧ zMf G B σ 0 L h' ∧ kp zST h h') := by
  refine wk_X4_residues (v0 := some (B 100 0 0)) hG ⟨B 100 0 0, rfl, M.is, z_c (z4_pairs hG hw ht M 109) (by omega) (Nat.le_refl _) (Nat.le_refl _) ?_⟩
  rintro z h1 ⟨rfl, k1⟩
  have M1 := M.keepn k1
  refine Or.inl ⟨_, rfl, B 100 0 0, rfl, M1.is, z_c (z4_plain hG M1 _) (by omega) (Nat.zero_le _) (Nat.zero_le _) ?_⟩
  rintro z h2 ⟨rfl, M2, k2⟩
  exact Or.inl ⟨_, rfl, by rw [zpr_c (by decide)], M2, (kn.to k1).trans (k2.mono z100T)⟩
theorem z4_woven (hG : wv_G0 G) (hw : zwf σ) (ht : zwt σ) (M : zMf G B σ th L h) : wv_C G yX4_woven [.ref (B 100 0 0)] h 29 792 4392 (fun r h' => r = .inl (some (.int (nI (zpairs σ 121)))) ∧ zMf G B σ 0 L h' ∧ kp zST h h') := by
  refine wk_X4_woven (v0 := some (B 100 0 0)) hG ⟨B 100 0 0, rfl, M.is, z_c (z4_pairs hG hw ht M 121) (by omega) (Nat.le_refl _) (Nat.le_refl _) ?_⟩
  rintro z h1 ⟨rfl, k1⟩
  have M1 := M.keepn k1
  refine Or.inl ⟨_, rfl, B 100 0 0, rfl, M1.is, z_c (z4_plain hG M1 _) (by omega) (Nat.zero_le _) (Nat.zero_le _) ?_⟩
  rintro z h2 ⟨rfl, M2, k2⟩
  exact Or.inl ⟨_, rfl, by rw [zpr_c (by decide)], M2, (kn.to k1).trans (k2.mono z100T)⟩
theorem z4_sureShare (hG : wv_G0 G) (hw : zwf σ) (ht : zwt σ) (M : zMf G B σ th L h) : wv_C G yX4_sureShare [.ref (B 100 0 0)] h 29 1584 8784 (zTw G B σ L h (zeF σ) (.float FP.fconst0) (fun r h' => r = .inl (some (.float (zshare σ))) ∧ zTN G B σ L h h')) := by
  have b1 := zpairs_le hw 121
  have b2 := zpairs_le hw 110
  have b3 := zpairs_le hw 109
  refine wk_X4_sureShare (v0 := some (B 100 0 0)) hG ⟨B 100 0 0, rfl, M.is, z_c (z4_pairs hG hw ht M 32) (by omega) (by show 792 ≤ 1584; decide) (by show 4392 ≤ 8784; decide) ?_⟩
  rintro z h1 ⟨rfl, k1⟩
  have M1 := M.keepn k1
  rw [zpr_32]
  -- told whether there are any
  have go : ∀ q : Bool, (zeF σ = if q = true then 0 else 1) → vc_X4_sureShare_17 G 29 (zTw G B σ L h (zeF σ) (.float FP.fconst0) (fun r h' => r = .inl (some (.float (zshare σ))) ∧ zTN G B σ L h h')) (some (B 100 0 0)) (nI (zpairs σ 121 + zpairs σ 110 + zpairs σ 109)) (zbI q) (some (B 100 0 0)) (h1, 1584 - 792, 8784 - 4392) := by
    intro q hq
    refine ⟨B 100 0 0, rfl, M1.is, z_c (z4_checked hG M1 q) (by omega) (Nat.zero_le _) (Nat.zero_le _) ?_⟩
    rintro z h2 ⟨rfl, M2, k2⟩
    refine Or.inl ⟨_, rfl, ?_⟩
    have kk : kp zST h h2 := (kn.to k1).trans (k2.mono z100T)
    cases q with
    | true =>
      refine ⟨fun _ => ⟨B 100 0 0, rfl, M2.is, z_c (z4_pairs hG hw ht M2 109) (by omega) (by show 792 ≤ 1584 - 792 - 0; decide) (by show 4392 ≤ 8784 - 4392 - 0; decide) ?_⟩, fun q => absurd (Int32.le_refl _) q⟩
      rintro z h3 ⟨rfl, k3⟩
      refine Or.inl ⟨_, rfl, ?_⟩
      rw [zpr_c (by decide)]
      have e : nI (zpairs σ 121 + zpairs σ 110 + zpairs σ 109) - nI (zpairs σ 109) = nI (zpairs σ 121 + zpairs σ 110) := by
        rw [pk_sub (by omega), Nat.add_sub_cancel]
      dsimp only
      rw [e]
      have h0 : zpairs σ 121 + zpairs σ 110 + zpairs σ 109 ≠ 0 := by
        intro e0
        unfold zeF at hq
        rw [if_pos e0] at hq
        cases hq
      exact ⟨zfdiv (by omega) (by omega) h0, zTw.ok hq ⟨rfl, B, rfl, M2.keepn k3, kk.trans (kn.to k3)⟩⟩
    | false => exact ⟨fun q => absurd q (by decide), fun _ => zTw.bad 1 hq (by decide) M2 kk⟩
  refine Or.inl ⟨_, rfl, z4_code (by omega) (fun q => go false ?_) (fun q => go true ?_)⟩
  · unfold zeF
    rw [if_pos q]
    rfl
  · unfold zeF
    rw [if_neg (by omega)]
    rfl
-- ===== meanSteps =====
theorem z4_meanSteps (hG : wv_G0 G) (hw : zwf σ) (M : zMf G B σ th L h) : wv_C G yX4_meanSteps [.ref (B 100 0 0)] h 1 0 0 (zTw G B σ L h (zeN σ) (.double FP.dconst0) (fun r h' => r = .inl (some (.double (zmean σ))) ∧ zTN G B σ L h h')) := by
  have hn := hw.1
  have bl : zlens σ ≤ 288 := by
    refine Nat.le_trans (zsm_leN (b := 48) (N := 6) (fun k hk => ?_) hw.1) (by decide)
    exact Nat.le_trans (zsm_leN (b := 8) (N := 6) (fun m hm => zbody_len hw hm) (Nat.le_refl _)) (by decide)
  have bb : zbods σ ≤ 36 := by
    refine Nat.le_trans (zsm_leN (b := 6) (N := 6) (fun k hk => ?_) hw.1) (by decide)
    exact Nat.le_trans (zsm_leN (b := 1) (N := 6) (fun m hm => by split <;> omega) (Nat.le_refl _)) (by decide)
  have hz : ∀ k m, zn σ ≤ k → zbody σ k m = [] := by
    intro k m hk
    unfold zbody
    rw [List.getElem?_eq_none hk]
  have e1 : zsm (fun b => (zbody σ (b / 6) (b % 6)).length) 36 = zlens σ := by
    have := zsm_six (fun k m => (zbody σ k m).length) 6
    rw [show 6 * 6 = 36 by decide] at this
    rw [this]
    obtain ⟨d, hd⟩ : ∃ d, 6 = zn σ + d := ⟨6 - zn σ, by omega⟩
    refine (congrArg (zsm (fun k => zsm (fun m => (zbody σ k m).length) 6)) hd).trans (zsm_tail (fun k hk => ?_) d)
    have : zsm (fun m => (zbody σ k m).length) 6 ≤ 6 * 0 := zsm_leN (fun m _ => by rw [hz k m hk]; exact Nat.le_refl _) (Nat.le_refl _)
    omega
  have e2 : zsm (fun b => if (zbody σ (b / 6) (b % 6)).isEmpty = true then 0 else 1) 36 = zbods σ := by
    have := zsm_six (fun k m => if (zbody σ k m).isEmpty = true then 0 else 1) 6
    rw [show 6 * 6 = 36 by decide] at this
    rw [this]
    obtain ⟨d, hd⟩ : ∃ d, 6 = zn σ + d := ⟨6 - zn σ, by omega⟩
    refine (congrArg (zsm (fun k => zsm (fun m => if (zbody σ k m).isEmpty = true then 0 else 1) 6)) hd).trans (zsm_tail (fun k hk => ?_) d)
    have : zsm (fun m => if (zbody σ k m).isEmpty = true then 0 else 1) 6 ≤ 6 * 0 := zsm_leN (fun m _ => by rw [hz k m hk]; exact Nat.le_refl _) (Nat.le_refl _)
    omega
  obtain ⟨m0, ⟨fb, m1, u1⟩, mb, -⟩ := id M
  refine wk_X4_meanSteps (v0 := some (B 100 0 0)) hG (z_gA m0 rfl ⟨B 101 0 0, _, 36, fb, rfl, m1, ?_⟩)
  refine z_loopV 36 (by decide) (fun u => u.2.2.2.2.2) (fun b => (some (B 100 0 0), nI (zsm (fun b => if (zbody σ (b / 6) (b % 6)).isEmpty = true then 0 else 1) b), nI (zsm (fun b => (zbody σ (b / 6) (b % 6)).length) b), some (B 101 0 0), nI 36, nI b)) (fun _ => rfl) rfl (fun K b hb hK => ?_)
  refine pk_le 36 b (fun hle => ?_) (fun hlt => ?_)
  · have e9 : b = 36 := by omega
    subst e9
    rw [e1, e2]
    have go : ∀ q : Bool, (zeN σ = if q = true then 0 else 1) → vc_X4_meanSteps_75 G 1 (zTw G B σ L h (zeN σ) (.double FP.dconst0) (fun r h' => r = .inl (some (.double (zmean σ))) ∧ zTN G B σ L h h')) (nI (zbods σ)) (nI (zlens σ)) (zbI q) (some (B 100 0 0)) (h, 0, 0) := by
      intro q hq
      refine ⟨B 100 0 0, rfl, M.is, z_c (z4_checked hG M q) (by omega) (Nat.zero_le _) (Nat.zero_le _) ?_⟩
      rintro z h2 ⟨rfl, M2, k2⟩
      refine Or.inl ⟨_, rfl, ?_⟩
      cases q with
      | true =>
        have h0 : zbods σ ≠ 0 := by
          intro e0
          unfold zeN at hq
          rw [if_pos e0] at hq
          cases hq
        exact ⟨fun _ => ⟨zddiv (by omega) (by omega) h0, zTw.ok hq ⟨rfl, B, rfl, M2, k2.mono z100T⟩⟩, fun q => absurd (Int32.le_refl _) q⟩
      | false => exact ⟨fun q => absurd q (by decide), fun _ => zTw.bad 1 hq (by decide) M2 (k2.mono z100T)⟩
    refine z4_code (by omega) (fun q => go false ?_) (fun q => go true ?_)
    · unfold zeN
      rw [if_pos q]
      rfl
    · unfold zeN
      rw [if_neg (by omega)]
      rfl
  · have k9 := hK hlt
    have s1 : zsm (fun b => if (zbody σ (b / 6) (b % 6)).isEmpty = true then 0 else 1) (b + 1) = zsm (fun b => if (zbody σ (b / 6) (b % 6)).isEmpty = true then 0 else 1) b + (if (zbody σ (b / 6) (b % 6)).isEmpty = true then 0 else 1) := rfl
    have s2 : zsm (fun b => (zbody σ (b / 6) (b % 6)).length) (b + 1) = zsm (fun b => (zbody σ (b / 6) (b % 6)).length) b + (zbody σ (b / 6) (b % 6)).length := rfl
    rw [s1, s2, ← nI_add, ← nI_add, nI_succ b] at k9
    have hfb := u1 (b / 6) (b % 6) (by omega) (by omega)
    rw [show 6 * (b / 6) + b % 6 = b by omega] at hfb
    refine z_lq m1 hlt (by decide) ?_
    rw [hfb]
    cases he : (zbody σ (b / 6) (b % 6)).isEmpty with
    | true =>
      rw [he, if_pos rfl] at k9
      have hl : (zbody σ (b / 6) (b % 6)).length = 0 := by
        rw [List.isEmpty_iff] at he
        rw [he]
        rfl
      rw [hl, nI_0] at k9
      exact ⟨fun q => absurd rfl q, fun _ => ⟨fun q => absurd rfl q, fun _ => k9⟩⟩
    | false =>
      rw [he, if_neg (by decide), show nI 1 = 1 by decide] at k9
      have hM := mb (b / 6) (b % 6) (by omega) (by omega) he
      rw [show 6 * (b / 6) + b % 6 = b by omega] at hM
      refine ⟨fun _ => ⟨fun _ => z_gI hM.1 rfl k9, fun q => (by cases q)⟩, fun q => (by cases q)⟩
-- ===== traceSum, acted =====
theorem z4_traceSum (hG : wv_G0 G) (M : zMf G B σ th L h) (R : zMR L l h) : wv_C G yX4_traceSum [.ref (B 100 0 0)] h 3 0 0 (fun r h' => r = .inl (some (.long (zts l.2.2.2.2 l.2.2.2.2.length))) ∧ zMf G B σ 0 L h' ∧ kp zST h h') := by
  obtain ⟨tl, md, cap, xs, r1, r2, r3, r4, r5, r6⟩ := R
  refine wk_X4_traceSum (v0 := some (B 100 0 0)) hG ?_
  refine z_loopV l.2.2.2.2.length (by omega) (fun v => v.2.2) (fun i => (some (B 100 0 0), zts l.2.2.2.2 i, nI i)) (fun _ => rfl) rfl (fun K i hi hK => ?_)
  refine z_gA M.1 rfl (z_gA r1 rfl (z_vI (z_isL r3) (wl_size hG r3) (by omega) ?_))
  rw [r4]
  refine pk_le l.2.2.2.2.length i (fun hle => ?_) (fun hlt => ?_)
  · have e9 : i = l.2.2.2.2.length := by omega
    subst e9
    exact z4_put M (fun h1 M1 k1 => ⟨rfl, M1, k1.mono z100T⟩)
  · have hx : l.2.2.2.2[i]? = some l.2.2.2.2[i] := List.getElem?_eq_getElem hlt
    have hd : l.2.2.2.2.getD i (0, 0, 0) = l.2.2.2.2[i] := by rw [List.getD_eq_getElem?_getD, hx]; rfl
    obtain ⟨b, b1, b2, b3, -⟩ := r6 i _ hx
    refine z_gA M.1 rfl (z_gA r1 rfl (z_vA (z_isL r3) (wl_get hG r3 b1) (by omega) (z_cc (z_is b2 ccX31) (z_vI (z_is b2 ccX31) (z31_number hG b2) (by omega) (z_gA M.1 rfl (z_gA r1 rfl (z_vA (z_isL r3) (wl_get hG r3 b1) (by omega) (z_cc (z_is b2 ccX31) (z_vI (z_is b2 ccX31) (z31_advice hG b2) (by omega) ?_)))))))))
    have k9 := hK hlt
    simp only [zts, nI_succ] at k9
    rw [hd] at k9
    exact k9
theorem z4_acted (hG : wv_G0 G) (M : zMf G B σ th L h) (R : zMR L l h) (c : Int32) : wv_C G yX4_acted [.ref (B 100 0 0), .int c] h 5 1 4 (zTw G B σ L h (zeAc c) (.int 0) (fun r h' => r = .inl (some (.int (nI (zcn l.2.2.2.2 c l.2.2.2.2.length)))) ∧ zTN G B σ L h h')) := by
  refine wk_X4_acted (v0 := some (B 100 0 0)) hG (z_cI (z4_isOneOf hG (k := 17) (q := wv_sx.getD 17 (0, [])) rfl (by decide) c) (by omega) ?_)
  have ez : (wv_sx.getD 17 (0, [])).2.contains c = zisA c := by rw [zisA_eq]; rfl
  rw [ez]
  refine ⟨B 100 0 0, rfl, M.is, z_c (z4_checked hG M (zisA c)) (by omega) (Nat.zero_le _) (Nat.zero_le _) ?_⟩
  rintro z h1 ⟨rfl, M1, k1⟩
  refine Or.inl ⟨_, rfl, ?_⟩
  have R1 := R.T (k1.mono z100T)
  obtain ⟨tl, md, cap, xs, r1, r2, r3, r4, r5, r6⟩ := id R1
  cases hb : zisA c with
  | false =>
    rw [hb] at M1
    exact ⟨fun q => absurd q (by decide), fun _ => zTw.bad 1 (if_neg (by rw [hb]; decide)) (by decide) M1 (k1.mono z100T)⟩
  | true =>
    rw [hb] at M1
    refine ⟨fun _ => z_gA M1.1 rfl (z_gA r1 rfl (z_iter hG r3 (by omega) (Nat.le_refl 1) (Nat.le_refl 4) (fun it h2 f2 k2 I2 => ?_))), fun q => absurd (Int32.le_refl _) q⟩
    have f2 : h1 it = none := f2
    have k2 : kp kn h1 h2 := k2
    refine z_loopI l.2.2.2.2.length (fun i u w => u = (c, nI (zcn l.2.2.2.2 c i), some it) ∧ kp kn h1 w.1 ∧ zIt w.1 it tl (131, 0, 0, 0) xs i) ⟨rfl, k2, I2⟩ (fun x y u w9 _ _ hx hy => zIt.unique (by omega) hx.2.2 hy.2.2) ?_
    rintro K i _ w hi ⟨rfl, kw, Iw⟩ hK
    refine Iw.has hG (by omega) ⟨fun q => ?_, fun q => ?_⟩
    · have e : i = l.2.2.2.2.length := by
        by_cases e : i = xs.length
        · omega
        · rw [if_neg e] at q; exact absurd q (by decide)
      subst e
      exact zTw.ok (if_pos hb) ⟨rfl, B, rfl, M1.keepn kw, (k1.mono z100T).trans (kn.to kw)⟩
    · have hlt : i < l.2.2.2.2.length := by
        by_cases e : i = xs.length
        · rw [if_pos e] at q; exact absurd rfl q
        · omega
      have hx : l.2.2.2.2[i]? = some l.2.2.2.2[i] := List.getElem?_eq_getElem hlt
      have hd : l.2.2.2.2.getD i (0, 0, 0) = l.2.2.2.2[i] := by rw [List.getD_eq_getElem?_getD, hx]; rfl
      obtain ⟨b, b1, b2, b3, -⟩ := r6 i _ hx
      refine Iw.next hG b1 (by omega) (fun h3 k3 I3 => ?_)
      have k03 : kp kn h1 h3 := fun e z he _ => k3 e z (kn.at kw he) (fun q => z_nw f2 he q)
      have b4 := kn.at k03 b2
      have nx : ∀ q : Bool, zkn c (l.2.2.2.2[i]) = (if q = true then 1 else 0) → K (c, nI (zcn l.2.2.2.2 c i) + zbI q, some it) (h3, w.2) := by
        intro q hq
        refine hK _ _ hlt ⟨?_, k03, I3⟩
        have e : zcn l.2.2.2.2 c (i + 1) = zcn l.2.2.2.2 c i + zkn c (l.2.2.2.2[i]) := by
          show zcn l.2.2.2.2 c i + zkn c (l.2.2.2.2.getD i (0, 0, 0)) = _
          rw [hd]
        rw [e, ← nI_add, hq]
        cases q <;> rfl
      refine z_cc (z_is b4 ccX31) (z_vI (z_is b4 ccX31) (z31_kind hG b4 b3) (by omega) ⟨fun q => nx false ?_, fun q => nx true ?_⟩)
      · unfold zkn
        rw [if_neg q]
        rfl
      · unfold zkn
        rw [if_pos q]
        rfl
end ZTZ4
