/-! THE COMPONENT: classes and steps told -/
section ZK
variable {G : wv_G} {A A' : zA} {σ : zS} {h h1 h2 h' : wv_H} {w : wv_W} {fr fr' kc ks : Nat} {P : wv_R → wv_H → Prop} {KX : String → Nat → wv_W → Prop} {a : Nat} {t : wv_T} {f g : Nat → Nat → Nat}
/-- a call's end: the answer, or the code of the exception -/
def zRes (h : wv_H) (code : Nat) (ex : List String) (ok : wv_R → wv_H → Prop) : wv_R → wv_H → Prop := fun r h' => (code = 0 ∧ ok r h') ∨ (∃ E, 0 < code ∧ ex[code - 1]? = some E ∧ zTh E h r h')
theorem zRes.err {code : Nat} {ex : List String} {ok : wv_R → wv_H → Prop} {E : String} {q : Nat} (c : Nat) (hc : code = c) (h0 : 0 < c) (hE : ex[c - 1]? = some E) (k : kp kn h h') : zRes h code ex ok (.inr (E, q)) h' := Or.inr ⟨E, by omega, by rw [hc]; exact hE, ⟨q, rfl⟩, k⟩
theorem zRes.ok {code : Nat} {ex : List String} {ok : wv_R → wv_H → Prop} {r : wv_R} (hc : code = 0) (hk : ok r h') : zRes h code ex ok r h' := Or.inl ⟨hc, hk⟩
abbrev zIOOB : String := "java/lang/IndexOutOfBoundsException"
abbrev zIAE : String := "java/lang/IllegalArgumentException"
abbrev zISE : String := "java/lang/IllegalStateException"
abbrev zNSE : String := "java/util/NoSuchElementException"
abbrev zAE : String := "java/lang/ArithmeticException"
theorem z_listNew (hG : wv_G0 G) (ht : t.1 ≠ 0) : wv_C G yJ2_init [.ref a] (wv_up h a (t, wo_o ciJ2 [.int 0, va_rf none, .int 0])) 3 0 0 (fun r h' => r = .inl none ∧ h' = wv_up h a (t, wo_L 0 0 [])) := by
  refine (wl_init hG wv_up_self ht).mono ?_
  rintro r h' ⟨rfl, rfl⟩
  exact ⟨rfl, z_uu⟩
theorem zL.new (h : wv_H) (a : Nat) (t : wv_T) : zL (wv_up h a (t, wo_L 0 0 [])) a t [] := ⟨0, 0, Nat.zero_le _, wv_up_self⟩
theorem wl_nc_6 {n : Nat} (hn : n ≤ 6) : wl_nc n ≤ 10 := by
  rcases (show n = 0 ∨ n = 1 ∨ n = 2 ∨ n = 3 ∨ n = 4 ∨ n = 5 ∨ n = 6 by omega) with rfl | rfl | rfl | rfl | rfl | rfl | rfl <;> decide
/-- Type's constructor: a class with no steps -/
theorem z6_init (hG : wv_G0 G) {n : Nat} {o : Option Nat} (ha : h a = none) : wv_C G yX6_init [.ref a, .int (nI n), va_rf o] (wv_up h a ((4, n, 0, 0), wo_o ciX6 [.int 0, va_rf none, va_rf none, va_rf none])) 10 30 170 (fun r h' => r = .inl none ∧ kp kn h h' ∧ ∃ (bl pl : Nat) (bs ps : Nat → Nat), h' a = some ((4, n, 0, 0), wo_o ciX6 [.int (nI n), va_rf o, va_rf (some bl), va_rf (some pl)]) ∧ zL h' bl (5, n, 0, 0) ((List.range 6).map bs) ∧ zL h' pl (6, n, 0, 0) ((List.range 6).map ps) ∧ ∀ m, m < 6 → zL h' (bs m) (7, n, m, 0) [] ∧ zL h' (ps m) (58, n, m, 0) []) := by
  refine wk_X6_init (v0 := some a) (v2 := o) hG ⟨⟨a, rfl⟩, by omega, z_no (5, n, 0, 0) (Nat.le_of_ble_eq_true rfl) (Nat.le_of_ble_eq_true rfl) (fun bl hbl _ => z_iV (z_listNew hG (Nat.succ_ne_zero _)) (by omega) ?_)⟩
  have hbl : wv_up h a ((4, n, 0, 0), wo_o ciX6 [.int 0, va_rf none, va_rf none, va_rf none]) bl = none := hbl
  have hab : a ≠ bl := fun e => by rw [← e, wv_up_self] at hbl; cases hbl
  have hbl0 : h bl = none := by rw [wv_up_ne (fun e => hab e.symm)] at hbl; exact hbl
  refine z_pt (z_upn hbl wv_up_self) (by show (4 : Nat) ≠ 0; decide) (by simp) ?_
  refine z_no (6, n, 0, 0) (Nat.le_of_ble_eq_true rfl) (Nat.le_of_ble_eq_true rfl) (fun pl hpl _ => z_iV (z_listNew hG (Nat.succ_ne_zero _)) (by omega) ?_)
  have hpl : wv_up (wv_up (wv_up h a ((4, n, 0, 0), wo_o ciX6 [.int 0, va_rf none, va_rf none, va_rf none])) bl ((5, n, 0, 0), wo_L 0 0 [])) a ((4, n, 0, 0), wo_o ciX6 [.int 0, va_rf none, va_rf (some bl), va_rf none]) pl = none := hpl
  have hap : a ≠ pl := fun e => by rw [← e, wv_up_self] at hpl; cases hpl
  have hbp : bl ≠ pl := fun e => by rw [← e, wv_up_ne (Ne.symm hab), wv_up_self] at hpl; cases hpl
  have hpl0 : h pl = none := by rw [wv_up_ne (Ne.symm hap), wv_up_ne (Ne.symm hbp), wv_up_ne (Ne.symm hap)] at hpl; exact hpl
  refine z_pt (z_upn hpl wv_up_self) (by show (4 : Nat) ≠ 0; decide) (by simp) ?_
  refine z_pt wv_up_self (by show (4 : Nat) ≠ 0; decide) (by simp) ?_
  refine z_pt wv_up_self (by show (4 : Nat) ≠ 0; decide) (by simp) ?_
  refine z_loopW 6 (by decide) (fun v => v.2) (fun i => (some a, nI i)) (fun i w => kp kn h w.1 ∧ 4 * (6 - i) ≤ w.2.1 ∧ 26 * (6 - i) ≤ w.2.2 ∧ ∃ (bs ps : Nat → Nat), w.1 a = some ((4, n, 0, 0), wo_o ciX6 [.int (nI n), va_rf o, va_rf (some bl), va_rf (some pl)]) ∧ zL w.1 bl (5, n, 0, 0) ((List.range i).map bs) ∧ zL w.1 pl (6, n, 0, 0) ((List.range i).map ps) ∧ ∀ m, m < i → zL w.1 (bs m) (7, n, m, 0) [] ∧ zL w.1 (ps m) (58, n, m, 0) []) (fun _ => rfl) rfl ?_ (fun K i w hi hI hK => ?_)
  · refine ⟨?_, by show 4 * 6 ≤ 30 - 1 - 1; decide, by show 26 * 6 ≤ 170 - 3 - 3; decide, fun _ => 0, fun _ => 0, wv_up_self, ⟨0, 0, Nat.zero_le _, ?_⟩, ⟨0, 0, Nat.zero_le _, ?_⟩, fun m hm => absurd hm (Nat.not_lt_zero _)⟩
    · intro b x hb _
      have h1 : b ≠ a := z_nw ha hb
      have h2 : b ≠ bl := z_nw hbl0 hb
      have h3 : b ≠ pl := z_nw hpl0 hb
      simp only [wv_up_ne h1, wv_up_ne h2, wv_up_ne h3]
      exact hb
    · simp only [wv_up_ne (Ne.symm hab), wv_up_ne hbp]
      exact wv_up_self
    · simp only [wv_up_ne (Ne.symm hap)]
      exact wv_up_self
  · obtain ⟨k0, hc, hs, bs, ps, ea, eb, ep, em⟩ := hI
    refine pk_le 6 i (fun hle => ?_) (fun hlt => ?_)
    · have e9 : i = 6 := by omega
      subst e9
      exact ⟨rfl, k0, bl, pl, bs, ps, ea, eb, ep, em⟩
    · refine z_gA ea rfl (z_no (7, n, i, 0) (by omega) (by omega) (fun b1 hb1 _ => z_iV (z_listNew hG (by show (7 : Nat) ≠ 0; decide)) (by omega) ?_))
      have k1 : kp kn w.1 (wv_up w.1 b1 ((7, n, i, 0), wo_L 0 0 [])) := kp.new hb1
      have hn6 := wl_nc_6 (n := i) (by omega)
      refine (eb.keep k1 (fun q => q)).cadd hG (z_el (zL.new w.1 b1 (7, n, i, 0)).is q2603) (fun x hx => ?_) (by rw [z_rgl]; omega) (by omega) (by show 1 ≤ w.2.1 - 1; omega) (by rw [z_rgl]; show _ ≤ w.2.2 - 3; omega) ?_
      · obtain ⟨m, hm, rfl⟩ := List.mem_map.mp hx
        exact z_el ((em m (List.mem_range.mp hm)).1.keep k1 (fun q => q)).is q2603
      · intro h2 c2 s2 l2 o2 g2 g3
        rw [z_rgl] at g3
        have g2 : w.2.1 - 1 - 1 ≤ c2 := g2
        have g3 : w.2.2 - 3 - wl_nc i ≤ s2 := g3
        have kk2 : ∀ {b : Nat} {x : wv_T × wv_O}, b ≠ bl → w.1 b = some x → h2 b = some x := fun hb hx => by rw [o2 _ hb]; exact kn.at k1 hx
        have tne : ∀ {b : Nat} {t' : wv_T} {o' : wv_O}, t'.1 ≠ 5 → w.1 b = some (t', o') → b ≠ bl := by
          intro b t' o' ht hb
          obtain ⟨md, cap, -, e⟩ := eb
          exact z_ne hb e (fun q => ht (congrArg (fun x : wv_T => x.1) q))
        have zk2 : ∀ {b : Nat} {t' : wv_T} {xs : List Nat}, t'.1 ≠ 5 → zL w.1 b t' xs → zL h2 b t' xs := by
          rintro b t' xs ht ⟨md, cap, h9, e⟩
          exact ⟨md, cap, h9, kk2 (tne ht e) e⟩
        refine z_gA (kk2 (tne (by show (4 : Nat) ≠ 5; decide) ea) ea) rfl (z_no (58, n, i, 0) (by show 1 ≤ c2; omega) (by show 3 ≤ s2; omega) (fun p1 hp1 _ => z_iV (z_listNew hG (by show (58 : Nat) ≠ 0; decide)) (by omega) ?_))
        have hp1 : h2 p1 = none := hp1
        have k3 : kp kn h2 (wv_up h2 p1 ((58, n, i, 0), wo_L 0 0 [])) := kp.new hp1
        refine ((zk2 (by show (6 : Nat) ≠ 5; decide) ep).keep k3 (fun q => q)).cadd hG (z_el (zL.new h2 p1 (58, n, i, 0)).is q2603) (fun x hx => ?_) (by rw [z_rgl]; omega) (by omega) (by show 1 ≤ c2 - 1; omega) (by rw [z_rgl]; show _ ≤ s2 - 3; omega) ?_
        · obtain ⟨m, hm, rfl⟩ := List.mem_map.mp hx
          exact z_el ((zk2 (by show (58 : Nat) ≠ 5; decide) (em m (List.mem_range.mp hm)).2).keep k3 (fun q => q)).is q2603
        · intro h4 c4 s4 l4 o4 g4 g5
          rw [z_rgl] at g5
          have g4 : c2 - 1 - 1 ≤ c4 := g4
          have g5 : s2 - 3 - wl_nc i ≤ s4 := g5
          obtain ⟨mdp, capp, -, ep9⟩ := (zk2 (by show (6 : Nat) ≠ 5; decide) ep).keep k3 (fun q => q)
          have kk4 : ∀ {b : Nat} {t' : wv_T} {o' : wv_O}, t'.1 ≠ 6 → h2 b = some (t', o') → h4 b = some (t', o') := by
            intro b t' o' ht hb
            have hb9 := kn.at k3 hb
            rw [o4 b (z_ne hb9 ep9 (fun q => ht (congrArg (fun x : wv_T => x.1) q)))]
            exact hb9
          have zk4 : ∀ {b : Nat} {t' : wv_T} {xs : List Nat}, t'.1 ≠ 6 → zL h2 b t' xs → zL h4 b t' xs := by
            rintro b t' xs ht ⟨md, cap, h9, e⟩
            exact ⟨md, cap, h9, kk4 ht e⟩
          have hb1n : b1 ≠ bl := by
            obtain ⟨md, cap, -, e⟩ := eb
            exact fun q => by rw [q, e] at hb1; cases hb1
          have lb1 : zL h2 b1 (7, n, i, 0) [] := ⟨0, 0, Nat.zero_le _, by rw [o2 _ hb1n]; exact wv_up_self⟩
          have lp1 : zL h4 p1 (58, n, i, 0) [] := ⟨0, 0, Nat.zero_le _, by
            rw [o4 p1 (z_ne (h := wv_up h2 p1 ((58, n, i, 0), wo_L 0 0 [])) wv_up_self ep9 (fun q => by cases q))]
            exact wv_up_self⟩
          have kfin : kp kn h h4 := by
            intro b x hb _
            have q0 := kn.at k0 hb
            have q1 : b ≠ bl := z_nw hbl0 hb
            have q2 : b ≠ pl := z_nw hpl0 hb
            rw [o4 b q2]
            exact kn.at k3 (kk2 q1 q0)
          show K (some a, nI i + 1) (h4, c4, s4)
          rw [← nI_succ]
          refine hK (h4, c4, s4) hlt ⟨kfin, by show 4 * (6 - (i + 1)) ≤ c4; omega, by show 26 * (6 - (i + 1)) ≤ s4; omega, (fun m => if m = i then b1 else bs m), (fun m => if m = i then p1 else ps m), kk4 (by show (4 : Nat) ≠ 6; decide) (kk2 (tne (by show (4 : Nat) ≠ 5; decide) ea) ea), ?_, ?_, ?_⟩
          · have e1 : (List.range (i + 1)).map (fun m => if m = i then b1 else bs m) = (List.range i).map bs ++ [b1] := by
              rw [List.range_succ, List.map_append, zmapR (g := bs) (fun m hm => if_neg (by omega))]
              simp
            rw [e1]
            exact zk4 (by show (5 : Nat) ≠ 6; decide) l2
          · have e1 : (List.range (i + 1)).map (fun m => if m = i then p1 else ps m) = (List.range i).map ps ++ [p1] := by
              rw [List.range_succ, List.map_append, zmapR (g := ps) (fun m hm => if_neg (by omega))]
              simp
            rw [e1]
            exact l4
          · intro m hm
            by_cases e : m = i
            · subst e
              simp only [if_pos]
              exact ⟨zk4 (by show (7 : Nat) ≠ 6; decide) lb1, lp1⟩
            · simp only [if_neg e]
              obtain ⟨e1, e2⟩ := em m (by omega)
              exact ⟨zk4 (by show (7 : Nat) ≠ 6; decide) (zk2 (by show (7 : Nat) ≠ 5; decide) e1), zk4 (by show (58 : Nat) ≠ 6; decide) (zk2 (by show (58 : Nat) ≠ 5; decide) e2)⟩
end ZK
