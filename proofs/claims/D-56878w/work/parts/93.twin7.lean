/-! THE REFERENCE: steps told -/
section ZT7
variable {G : wv_G} {A B B' : zA} {σ σ' : zS} {h h0 h1 h2 h' : wv_H} {w : wv_W} {fr fr' kc ks : Nat} {P : wv_R → wv_H → Prop} {KX : String → Nat → wv_W → Prop} {bo L : Nat} {k m r : Nat} {t : wv_T} {x y v th c a b : Int32}
theorem z4_isStep (hG : wv_G0 G) (M : zMf G B σ th L h) (c a b : Int32) : wv_C G yX4_isStep [.ref (B 100 0 0), .int c, .int a, .int b] h 2 0 0 (fun r h' => r = .inl (some (.int (zbI (zstR σ c a b)))) ∧ h' = h) := by
  refine wk_X4_isStep (v0 := some (B 100 0 0)) hG ?_
  unfold vc_X4_isStep_0 vc_X4_isStep_129
  refine ⟨fun e => ?_, fun n99 => ⟨fun e => ?_, fun n100 => ⟨fun e => ?_, fun n101 => ⟨fun e => ?_, fun n102 => ⟨fun e => ?_, fun n103 => ⟨fun e => ?_, fun n104 => ⟨fun e => ?_, fun n105 => ⟨fun e => ?_, fun n106 => ⟨fun e => ?_, fun n107 => ⟨fun e => ?_, fun n108 => ⟨fun e => ?_, fun n109 => ⟨fun e => ?_, fun n110 => ⟨fun e => ?_, fun n111 => ⟨fun e => ?_, fun n112 => ⟨fun e => ?_, fun n113 => ⟨fun e => ?_, fun n114 => ⟨fun e => ?_, fun n115 => ⟨fun e => ?_, fun n116 => ?_⟩⟩⟩⟩⟩⟩⟩⟩⟩⟩⟩⟩⟩⟩⟩⟩⟩⟩
  · subst e
    exact z_cI (z4_isMethod hG _) (by omega) ⟨zbI_n _, by simp [zstR], rfl⟩
  · subst e
    exact ⟨rfl, by simp [zstR, zbI], rfl⟩
  · subst e
    exact ⟨rfl, by simp [zstR, zbI], rfl⟩
  · subst e
    exact ⟨rfl, by simp [zstR, zbI], rfl⟩
  · subst e
    exact z_cI (z4_in hG _ _ _) (by omega) ⟨zbI_n _, by simp [zstR], rfl⟩
  · subst e
    exact z_cI (z4_in hG _ _ _) (by omega) ⟨zbI_n _, by simp [zstR], rfl⟩
  · subst e
    exact ⟨rfl, by simp [zstR, zbI], rfl⟩
  · subst e
    exact ⟨rfl, by simp [zstR, zbI], rfl⟩
  · subst e
    exact ⟨rfl, by simp [zstR, zbI], rfl⟩
  · subst e
    exact ⟨rfl, by simp [zstR, zbI], rfl⟩
  · subst e
    refine z_vI M.is (z4_isClass hG M _) (by omega) ⟨fun q => ⟨rfl, by simp [zstR, zbI_e0 q, zbI], rfl⟩, fun q => z_cI (z4_isMethod hG _) (by omega) ⟨fun q2 => ⟨rfl, by simp [zstR, zbI_e0 q2, zbI], rfl⟩, fun q2 => ⟨rfl, by simp [zstR, zbI_n0 q, zbI_n0 q2, zbI], rfl⟩⟩⟩
  · subst e
    exact z_cI (z4_in hG _ _ _) (by omega) ⟨zbI_n _, by simp [zstR], rfl⟩
  · subst e
    exact ⟨rfl, by simp [zstR, zbI], rfl⟩
  · subst e
    exact ⟨rfl, by simp [zstR, zbI], rfl⟩
  · subst e
    exact ⟨rfl, by simp [zstR, zbI], rfl⟩
  · subst e
    exact ⟨rfl, by simp [zstR, zbI], rfl⟩
  · subst e
    exact z_cI (z4_in hG _ _ _) (by omega) ⟨zbI_n _, by simp [zstR], rfl⟩
  · subst e
    refine z_cI (z4_in hG _ _ _) (by omega) ⟨fun q => ⟨rfl, by simp [zstR, zbI_e0 q, zbI], rfl⟩, fun q => z_cI (z4_in hG _ _ _) (by omega) ⟨fun q2 => ⟨rfl, by simp [zstR, zbI_e0 q2, zbI], rfl⟩, fun q2 => ⟨rfl, by simp [zstR, zbI_n0 q, zbI_n0 q2, zbI], rfl⟩⟩⟩
  · exact ⟨rfl, by simp [zstR, zbI, n99, n103, n104, n109, n110, n115, n116], rfl⟩
/-- a body made -/
theorem z8_init (hG : wv_G0 G) {a q : Nat} (ha : h a = none) : wv_C G yX8_init [.ref a] (wv_up h a ((120, q, 0, 0), wo_o ciX8 [va_rf none, va_rf none, va_rf none, .int 0])) 1 3 24 (fun y h' => y = .inl none ∧ kp kn h h' ∧ ∃ b1 b2 b3, h' a = some ((120, q, 0, 0), wo_o ciX8 [va_rf (some b1), va_rf (some b2), va_rf (some b3), .int 0]) ∧ h' b1 = some ((121, q, 0, 0), wo_i (wv_A G 1) 8 (fun _ => 0)) ∧ h' b2 = some ((122, q, 0, 0), wo_i (wv_A G 0) 8 (fun _ => 0)) ∧ h' b3 = some ((123, q, 0, 0), wo_i (wv_A G 0) 8 (fun _ => 0))) := by
  refine wk_X8_init (v0 := some a) hG ⟨⟨a, rfl⟩, Nat.le_refl _, z_na (N := 8) (121, q, 0, 0) (by decide) zle zle (fun b1 hb1 _ => ?_)⟩
  have k0 : kp kn h (wv_up h a ((120, q, 0, 0), wo_o ciX8 [va_rf none, va_rf none, va_rf none, .int 0])) := kp.new ha
  have c0 : wv_up h a ((120, q, 0, 0), wo_o ciX8 [va_rf none, va_rf none, va_rf none, .int 0]) a = some ((120, q, 0, 0), wo_o ciX8 [va_rf none, va_rf none, va_rf none, .int 0]) := wv_up_self
  have hb1 : wv_up h a ((120, q, 0, 0), wo_o ciX8 [va_rf none, va_rf none, va_rf none, .int 0]) b1 = none := hb1
  show wv_pt (wv_up (wv_up h a ((120, q, 0, 0), wo_o ciX8 [va_rf none, va_rf none, va_rf none, .int 0])) b1 _, _, _) _ _ _ _ _
  generalize wv_up h a ((120, q, 0, 0), wo_o ciX8 [va_rf none, va_rf none, va_rf none, .int 0]) = g0 at k0 c0 hb1 ⊢
  have k1 : kp kn g0 (wv_up g0 b1 ((121, q, 0, 0), wo_i (wv_A G 1) 8 (fun _ => 0))) := kp.new hb1
  have d1 : wv_up g0 b1 ((121, q, 0, 0), wo_i (wv_A G 1) 8 (fun _ => 0)) b1 = some ((121, q, 0, 0), wo_i (wv_A G 1) 8 (fun _ => 0)) := wv_up_self
  have c1 := kn.at k1 c0
  generalize wv_up g0 b1 ((121, q, 0, 0), wo_i (wv_A G 1) 8 (fun _ => 0)) = g1 at k1 d1 c1 ⊢
  refine z_pt c1 (Nat.succ_ne_zero _) (by simp) ?_
  have k2 : kp (zTo a) g1 (wv_up g1 a ((120, q, 0, 0), wo_o ciX8 ([va_rf none, va_rf none, va_rf none, .int 0].set 0 (va_rf (some b1))))) := kp.put c1 rfl
  have c2 : wv_up g1 a ((120, q, 0, 0), wo_o ciX8 ([va_rf none, va_rf none, va_rf none, .int 0].set 0 (va_rf (some b1)))) a = some ((120, q, 0, 0), wo_o ciX8 [va_rf (some b1), va_rf none, va_rf none, .int 0]) := wv_up_self
  generalize wv_up g1 a ((120, q, 0, 0), wo_o ciX8 ([va_rf none, va_rf none, va_rf none, .int 0].set 0 (va_rf (some b1)))) = g2 at k2 c2 ⊢
  refine z_na (N := 8) (122, q, 0, 0) (by decide) zle zle (fun b2 hb2 _ => ?_)
  have hb2 : g2 b2 = none := hb2
  have k3 : kp kn g2 (wv_up g2 b2 ((122, q, 0, 0), wo_i (wv_A G 0) 8 (fun _ => 0))) := kp.new hb2
  have d3 : wv_up g2 b2 ((122, q, 0, 0), wo_i (wv_A G 0) 8 (fun _ => 0)) b2 = some ((122, q, 0, 0), wo_i (wv_A G 0) 8 (fun _ => 0)) := wv_up_self
  have c3 := kn.at k3 c2
  show wv_pt (wv_up g2 b2 ((122, q, 0, 0), wo_i (wv_A G 0) 8 (fun _ => 0)), _, _) _ _ _ _ _
  generalize wv_up g2 b2 ((122, q, 0, 0), wo_i (wv_A G 0) 8 (fun _ => 0)) = g3 at k3 d3 c3 ⊢
  refine z_pt c3 (Nat.succ_ne_zero _) (by simp) ?_
  have k4 : kp (zTo a) g3 (wv_up g3 a ((120, q, 0, 0), wo_o ciX8 ([va_rf (some b1), va_rf none, va_rf none, .int 0].set 1 (va_rf (some b2))))) := kp.put c3 rfl
  have c4 : wv_up g3 a ((120, q, 0, 0), wo_o ciX8 ([va_rf (some b1), va_rf none, va_rf none, .int 0].set 1 (va_rf (some b2)))) a = some ((120, q, 0, 0), wo_o ciX8 [va_rf (some b1), va_rf (some b2), va_rf none, .int 0]) := wv_up_self
  generalize wv_up g3 a ((120, q, 0, 0), wo_o ciX8 ([va_rf (some b1), va_rf none, va_rf none, .int 0].set 1 (va_rf (some b2)))) = g4 at k4 c4 ⊢
  refine z_na (N := 8) (123, q, 0, 0) (by decide) zle zle (fun b3 hb3 _ => ?_)
  have hb3 : g4 b3 = none := hb3
  have k5 : kp kn g4 (wv_up g4 b3 ((123, q, 0, 0), wo_i (wv_A G 0) 8 (fun _ => 0))) := kp.new hb3
  have d5 : wv_up g4 b3 ((123, q, 0, 0), wo_i (wv_A G 0) 8 (fun _ => 0)) b3 = some ((123, q, 0, 0), wo_i (wv_A G 0) 8 (fun _ => 0)) := wv_up_self
  have c5 := kn.at k5 c4
  show wv_pt (wv_up g4 b3 ((123, q, 0, 0), wo_i (wv_A G 0) 8 (fun _ => 0)), _, _) _ _ _ _ _
  generalize wv_up g4 b3 ((123, q, 0, 0), wo_i (wv_A G 0) 8 (fun _ => 0)) = g5 at k5 d5 c5 ⊢
  refine z_pt c5 (Nat.succ_ne_zero _) (by simp) (z_pt wv_up_self (Nat.succ_ne_zero _) (by simp) ?_)
  rw [z_uu]
  have k6 : kp (zTo a) g5 (wv_up g5 a ((120, q, 0, 0), wo_o ciX8 (([va_rf (some b1), va_rf (some b2), va_rf none, .int 0].set 2 (va_rf (some b3))).set 3 (.int 0)))) := kp.put c5 rfl
  have j3 : kp (zTo a) g3 _ := (k4.trans (kn.to k5)).trans k6
  have j1 : kp (zTo a) g1 _ := (k2.trans (kn.to k3)).trans j3
  refine ⟨rfl, fun b x hb _ => j1 b x (kn.at k1 (kn.at k0 hb)) (fun z => z_nw ha hb z), b1, b2, b3, wv_up_self, j1 _ _ d1 (fun z => z_ne d1 c1 (fun x => by cases x) z), j3 _ _ d3 (fun z => z_ne d3 c3 (fun x => by cases x) z), k6 _ _ d5 (fun z => z_ne d5 c5 (fun x => by cases x) z)⟩
end ZT7
