/-! THE COMPONENT: made -/
section ZXD
variable {G : wv_G} {A A' : zA} {σ σ' : zS} {h h0 h1 h2 h' : wv_H} {w : wv_W} {fr fr' kc ks : Nat} {P : wv_R → wv_H → Prop} {KX : String → Nat → wv_W → Prop} {a b c : Nat} {r : Nat} {t : wv_T}
theorem z_na {o : Nat → wv_O} {N : Nat} {K : Nat → wv_W → Prop} (t : wv_T) (hN : N ≤ 100000) (h1 : 1 ≤ w.2.1) (h2 : N ≤ w.2.2) (hK : ∀ a : Nat, w.1 a = none → wv_b G ≤ a → K a (wv_up w.1 a (t, o N), w.2.1 - 1, w.2.2 - N)) : wv_na G w (nI N) o K := ⟨N, rfl, hN, z_no t h1 h2 hK⟩
abbrev zTo (a : Nat) : Nat → wv_T → Prop := fun b _ => b = a
theorem z3_init (hG : wv_G0 G) (ha : h a = none) : wv_C G yX3_init [.ref a] (wv_up h a ((52, r, 0, 0), wo_o ciX3 [va_rf none, va_rf none, va_rf none, .int 0])) 1 3 1200 (fun y h' => y = .inl none ∧ kp kn h h' ∧ ∃ b1 b2 b3, h' a = some ((52, r, 0, 0), wo_o ciX3 [va_rf (some b1), va_rf (some b2), va_rf (some b3), .int 0]) ∧ h' b1 = some ((53, r, 0, 0), wo_i (wv_A G 1) 400 (fun _ => 0)) ∧ h' b2 = some ((54, r, 0, 0), wo_i (wv_A G 0) 400 (fun _ => 0)) ∧ h' b3 = some ((55, r, 0, 0), wo_i (wv_A G 0) 400 (fun _ => 0))) := by
  refine wk_X3_init (v0 := some a) hG ⟨⟨a, rfl⟩, Nat.le_refl _, z_na (N := 400) (53, r, 0, 0) (by decide) zle (by show 400 ≤ 1200; decide) (fun b1 hb1 _ => ?_)⟩
  have hb1 : wv_up h a ((52, r, 0, 0), wo_o ciX3 [va_rf none, va_rf none, va_rf none, .int 0]) b1 = none := hb1
  have n1 : a ≠ b1 := fun e => by rw [← e, wv_up_self] at hb1; cases hb1
  have f1 : h b1 = none := by rw [wv_up_ne (Ne.symm n1)] at hb1; exact hb1
  refine z_pt (z_upn hb1 wv_up_self) (Nat.succ_ne_zero _) (by simp) (z_na (N := 400) (54, r, 0, 0) (by decide) zle (by show 400 ≤ 1200 - 400; decide) (fun b2 hb2 _ => ?_))
  have n2 : a ≠ b2 := fun e => by rw [← e] at hb2; have hb2 : wv_up _ a _ a = none := hb2; rw [wv_up_self] at hb2; cases hb2
  have hb2' : wv_up (wv_up (wv_up h a ((52, r, 0, 0), wo_o ciX3 [va_rf none, va_rf none, va_rf none, .int 0])) b1 ((53, r, 0, 0), wo_i (wv_A G 1) 400 (fun _ => 0))) a ((52, r, 0, 0), wo_o ciX3 ([va_rf none, va_rf none, va_rf none, .int 0].set 0 (va_rf (some b1)))) b2 = none := hb2
  have n12 : b1 ≠ b2 := fun e => by rw [← e, wv_up_ne (Ne.symm n1), wv_up_self] at hb2'; cases hb2'
  have f2 : h b2 = none := by rw [wv_up_ne (Ne.symm n2), wv_up_ne (Ne.symm n12), wv_up_ne (Ne.symm n2)] at hb2'; exact hb2'
  refine z_pt (z_upo n2 wv_up_self) (Nat.succ_ne_zero _) (by simp) (z_na (N := 400) (55, r, 0, 0) (by decide) zle (by show 400 ≤ 1200 - 400 - 400; decide) (fun b3 hb3 _ => ?_))
  have hb3' : wv_up (wv_up (wv_up (wv_up (wv_up h a ((52, r, 0, 0), wo_o ciX3 [va_rf none, va_rf none, va_rf none, .int 0])) b1 ((53, r, 0, 0), wo_i (wv_A G 1) 400 (fun _ => 0))) a ((52, r, 0, 0), wo_o ciX3 ([va_rf none, va_rf none, va_rf none, .int 0].set 0 (va_rf (some b1))))) b2 ((54, r, 0, 0), wo_i (wv_A G 0) 400 (fun _ => 0))) a ((52, r, 0, 0), wo_o ciX3 (([va_rf none, va_rf none, va_rf none, .int 0].set 0 (va_rf (some b1))).set 1 (va_rf (some b2)))) b3 = none := hb3
  have n3 : a ≠ b3 := fun e => by rw [← e, wv_up_self] at hb3'; cases hb3'
  have n23 : b2 ≠ b3 := fun e => by rw [← e, wv_up_ne (Ne.symm n2), wv_up_self] at hb3'; cases hb3'
  have n13 : b1 ≠ b3 := fun e => by rw [← e, wv_up_ne (Ne.symm n1), wv_up_ne n12, wv_up_ne (Ne.symm n1), wv_up_self] at hb3'; cases hb3'
  have f3 : h b3 = none := by rw [wv_up_ne (Ne.symm n3), wv_up_ne (Ne.symm n23), wv_up_ne (Ne.symm n3), wv_up_ne (Ne.symm n13), wv_up_ne (Ne.symm n3)] at hb3'; exact hb3'
  refine z_pt (z_upo n3 wv_up_self) (Nat.succ_ne_zero _) (by simp) ⟨rfl, ?_, b1, b2, b3, wv_up_self, ?_, ?_, ?_⟩
  · intro b x hb _
    have q0 : b ≠ a := z_nw ha hb
    have q1 : b ≠ b1 := z_nw f1 hb
    have q2 : b ≠ b2 := z_nw f2 hb
    have q3 : b ≠ b3 := z_nw f3 hb
    exact z_upo q0 (z_upo q3 (z_upo q0 (z_upo q2 (z_upo q0 (z_upo q1 (z_upo q0 hb))))))
  · exact z_upo (Ne.symm n1) (z_upo n13 (z_upo (Ne.symm n1) (z_upo n12 (z_upo (Ne.symm n1) wv_up_self))))
  · exact z_upo (Ne.symm n2) (z_upo n23 (z_upo (Ne.symm n2) wv_up_self))
  · exact z_upo (Ne.symm n3) wv_up_self
/-- a run just made: its own addresses -/
def zRx (G : wv_G) (r a c : Nat) (x : Nat × Nat × Nat × Nat × Nat) (h : wv_H) : Prop :=
  h a = some ((51, r, 0, 0), wo_o ciX2 [va_rf (some x.1), va_rf (some x.2.2.2.2), .int 45, .int 0, .int 0, .int 0, .int 0, va_rf none, va_rf (some c)]) ∧
  h x.1 = some ((52, r, 0, 0), wo_o ciX3 [va_rf (some x.2.1), va_rf (some x.2.2.1), va_rf (some x.2.2.2.1), .int 0]) ∧
  h x.2.1 = some ((53, r, 0, 0), wo_i (wv_A G 1) 400 (fun _ => 0)) ∧ h x.2.2.1 = some ((54, r, 0, 0), wo_i (wv_A G 0) 400 (fun _ => 0)) ∧ h x.2.2.2.1 = some ((55, r, 0, 0), wo_i (wv_A G 0) 400 (fun _ => 0)) ∧
  h x.2.2.2.2 = some ((56, r, 0, 0), wo_q (wv_A G 6) 12 (fun _ => none))
theorem zRx.keep {S : Nat → wv_T → Prop} {x : Nat × Nat × Nat × Nat × Nat} (R : zRx G r a c x h) (k : kp S h h1) (hS : ∀ b t, S b t → ∀ o, 51 ≤ t.1 → h b ≠ some (t, o)) : zRx G r a c x h1 := by
  obtain ⟨r1, r2, r3, r4, r5, r6⟩ := R
  exact ⟨k _ _ r1 (fun q => hS _ _ q _ zle r1), k _ _ r2 (fun q => hS _ _ q _ zle r2), k _ _ r3 (fun q => hS _ _ q _ zle r3), k _ _ r4 (fun q => hS _ _ q _ zle r4), k _ _ r5 (fun q => hS _ _ q _ zle r5), k _ _ r6 (fun q => hS _ _ q _ zle r6)⟩
theorem z2_init (hG : wv_G0 G) (ha : h a = none) : wv_C G yX2_init [.ref a, .ref c] (wv_up h a ((51, r, 0, 0), wo_o ciX2 [va_rf none, va_rf none, .int 0, .int 0, .int 0, .int 0, .int 0, va_rf none, va_rf none])) 2 5 1216 (fun y h' => y = .inl none ∧ kp kn h h' ∧ ∃ x, zRx G r a c x h') := by
  refine wk_X2_init (v0 := some a) (v1 := some c) hG (z_pt wv_up_self (Nat.succ_ne_zero _) (by simp) ⟨⟨a, rfl⟩, by decide, z_no (52, r, 0, 0) zle zle (fun t ht _ => ?_)⟩)
  rw [z_uu] at ht ⊢
  have ht : wv_up h a ((51, r, 0, 0), wo_o ciX2 ([va_rf none, va_rf none, .int 0, .int 0, .int 0, .int 0, .int 0, va_rf none, va_rf none].set 8 (va_rf (some c)))) t = none := ht
  have k1 : kp kn h (wv_up h a ((51, r, 0, 0), wo_o ciX2 ([va_rf none, va_rf none, .int 0, .int 0, .int 0, .int 0, .int 0, va_rf none, va_rf none].set 8 (va_rf (some c))))) := kp.new ha
  have e1 : wv_up h a ((51, r, 0, 0), wo_o ciX2 ([va_rf none, va_rf none, .int 0, .int 0, .int 0, .int 0, .int 0, va_rf none, va_rf none].set 8 (va_rf (some c)))) a = some ((51, r, 0, 0), wo_o ciX2 [va_rf none, va_rf none, .int 0, .int 0, .int 0, .int 0, .int 0, va_rf none, va_rf (some c)]) := wv_up_self
  generalize wv_up h a ((51, r, 0, 0), wo_o ciX2 ([va_rf none, va_rf none, .int 0, .int 0, .int 0, .int 0, .int 0, va_rf none, va_rf none].set 8 (va_rf (some c)))) = h1 at k1 e1 ht ⊢
  refine ⟨t, rfl, z_c (z3_init (r := r) hG ht) (by decide) zle zle ?_⟩
  rintro y h2 ⟨rfl, k2, b1, b2, b3, t1, t2, t3, t4⟩
  refine Or.inl ⟨rfl, ?_⟩
  have e2 := kn.at k2 e1
  refine z_pt e2 (Nat.succ_ne_zero _) (by simp) ?_
  have k3 : kp (zTo a) h2 (wv_up h2 a ((51, r, 0, 0), wo_o ciX2 ([va_rf none, va_rf none, .int 0, .int 0, .int 0, .int 0, .int 0, va_rf none, va_rf (some c)].set 0 (va_rf (some t))))) := kp.put e2 rfl
  have e3 : wv_up h2 a ((51, r, 0, 0), wo_o ciX2 ([va_rf none, va_rf none, .int 0, .int 0, .int 0, .int 0, .int 0, va_rf none, va_rf (some c)].set 0 (va_rf (some t)))) a = some ((51, r, 0, 0), wo_o ciX2 [va_rf (some t), va_rf none, .int 0, .int 0, .int 0, .int 0, .int 0, va_rf none, va_rf (some c)]) := wv_up_self
  generalize wv_up h2 a ((51, r, 0, 0), wo_o ciX2 ([va_rf none, va_rf none, .int 0, .int 0, .int 0, .int 0, .int 0, va_rf none, va_rf (some c)].set 0 (va_rf (some t)))) = h3 at k3 e3 ⊢
  refine z_na (N := 12) (56, r, 0, 0) (by decide) zle (by show 12 ≤ 1216 - 4 - 1200; decide) (fun q hq _ => ?_)
  have hq : h3 q = none := hq
  have k4 : kp kn h3 (wv_up h3 q ((56, r, 0, 0), wo_q (wv_A G 6) 12 (fun _ => none))) := kp.new hq
  have e4 := kn.at k4 e3
  have n4 : wv_up h3 q ((56, r, 0, 0), wo_q (wv_A G 6) 12 (fun _ => none)) q = some ((56, r, 0, 0), wo_q (wv_A G 6) 12 (fun _ => none)) := wv_up_self
  show wv_pt (wv_up h3 q ((56, r, 0, 0), wo_q (wv_A G 6) 12 (fun _ => none)), _, _) _ _ _ _ _
  generalize wv_up h3 q ((56, r, 0, 0), wo_q (wv_A G 6) 12 (fun _ => none)) = h4 at k4 e4 n4 ⊢
  refine z_pt e4 (Nat.succ_ne_zero _) (by simp) ⟨⟨rfl, rfl⟩, z_pt wv_up_self (Nat.succ_ne_zero _) (by simp) ?_⟩
  rw [z_uu]
  have k5 : kp (zTo a) h4 (wv_up h4 a ((51, r, 0, 0), wo_o ciX2 (([va_rf (some t), va_rf none, .int 0, .int 0, .int 0, .int 0, .int 0, va_rf none, va_rf (some c)].set 1 (va_rf (some q))).set 2 (.int 45)))) := kp.put e4 rfl
  have k25 : kp (zTo a) h2 (wv_up h4 a ((51, r, 0, 0), wo_o ciX2 (([va_rf (some t), va_rf none, .int 0, .int 0, .int 0, .int 0, .int 0, va_rf none, va_rf (some c)].set 1 (va_rf (some q))).set 2 (.int 45)))) := (k3.trans (kn.to k4)).trans k5
  refine ⟨rfl, ?_, (t, b1, b2, b3, q), wv_up_self, k25 _ _ t1 (fun z => z_ne t1 e2 (fun x => by cases x) z), k25 _ _ t2 (fun z => z_ne t2 e2 (fun x => by cases x) z), k25 _ _ t3 (fun z => z_ne t3 e2 (fun x => by cases x) z), k25 _ _ t4 (fun z => z_ne t4 e2 (fun x => by cases x) z), k5 _ _ n4 (fun z => z_ne n4 e4 (fun x => by cases x) z)⟩
  intro b x hb _
  exact k25 b x (kn.at k2 (kn.at k1 hb)) (fun z => z_nw ha hb z)
end ZXD
