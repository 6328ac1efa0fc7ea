/-! THE REFERENCE: addStep -/
section ZT8
variable {G : wv_G} {A B B' : zA} {σ σ' : zS} {h h0 h1 h2 h' : wv_H} {w : wv_W} {fr fr' kc ks : Nat} {P : wv_R → wv_H → Prop} {KX : String → Nat → wv_W → Prop} {bo L : Nat} {k m r : Nat} {t : wv_T} {x y v th c a b : Int32}
/-- the reference but for the body (k, m) and its slot -/
def zMk (G : wv_G) (B : zA) (σ : zS) (k m L : Nat) (h : wv_H) : Prop :=
  h (B 100 0 0) = some ((100, 0, 0, 0), zMo B σ 0 L) ∧
  (∃ fb, h (B 101 0 0) = some ((101, 0, 0, 0), wo_q (wv_A G 7) 36 fb) ∧ ∀ i j, i < 6 → j < 6 → ¬ (i = k ∧ j = m) → fb (6 * i + j) = if (zbody σ i j).isEmpty = true then none else some (B 120 (6 * i + j) 0)) ∧
  (∀ i j, i < 6 → j < 6 → ¬ (i = k ∧ j = m) → (zbody σ i j).isEmpty = false → zMb G B (6 * i + j) (zbody σ i j) h) ∧
  zar G B 102 0 6 (fun f => ∀ k, k < zn σ → f k = zoN (zpar σ k)) h ∧
  zar G B 103 0 24 (fun f => ∀ n p, σ.2.1[n]? = some p → f n = p.2.1) h ∧
  zar G B 104 0 24 (fun f => ∀ n p, σ.2.1[n]? = some p → f n = p.2.2) h ∧
  zar G B 105 0 12 (fun f => ∀ n a, σ.2.2.1[n]? = some a → f n = nI a.1) h ∧
  zar G B 106 0 12 (fun f => ∀ n a, σ.2.2.1[n]? = some a → f n = nI a.2.2.1) h ∧
  zar G B 107 0 12 (fun f => ∀ n a, σ.2.2.1[n]? = some a → f n = a.2.2.2.1) h ∧
  zar G B 108 0 12 (fun f => ∀ n a, σ.2.2.1[n]? = some a → f n = nI a.2.2.2.2.1) h ∧
  zar G B 109 1 24 (fun f => ∀ n p, σ.2.1[n]? = some p → f n = p.1) h ∧
  zar G B 110 1 12 (fun f => ∀ n a, σ.2.2.1[n]? = some a → f n = a.2.1) h ∧
  zar G B 111 2 12 (fun f => ∀ n a, σ.2.2.1[n]? = some a → f n = zbI a.2.2.2.2.2) h ∧
  zar G B 112 2 16 (fun f => ∀ i j, i < 4 → j < 4 → f (4 * i + j) = zbI (σ.2.2.2 i j)) h
theorem zMf.toK (M : zMf G B σ 0 L h) (k m : Nat) : zMk G B σ k m L h := by
  obtain ⟨m0, ⟨fb, m1, u1⟩, mb, m2⟩ := M
  exact ⟨m0, ⟨fb, m1, fun i j hi hj _ => u1 i j hi hj⟩, fun i j hi hj _ he => mb i j hi hj he, m2⟩
theorem zMk.keepn (M : zMk G B σ k m L h) (k9 : kp kn h h1) : zMk G B σ k m L h1 := by
  obtain ⟨m0, ⟨fb, m1, u1⟩, mb, m2, m3, m4, m5, m6, m7, m8, m9, m10, m11, m12⟩ := M
  have hr : ∀ r : Nat, ∀ (a : Nat) (t : wv_T), kn a t → t.1 ≠ r := fun r a t q => q.elim
  exact ⟨kn.at k9 m0, ⟨fb, kn.at k9 m1, u1⟩, fun i j hi hj hn he => (mb i j hi hj hn he).keep k9 (fun _ _ q => q.elim), m2.keep k9 (hr _), m3.keep k9 (hr _), m4.keep k9 (hr _), m5.keep k9 (hr _), m6.keep k9 (hr _), m7.keep k9 (hr _), m8.keep k9 (hr _), m9.keep k9 (hr _), m10.keep k9 (hr _), m11.keep k9 (hr _), m12.keep k9 (hr _)⟩
/-- another address for one body's objects -/
theorem zMk.other (M : zMk G B σ k m L h) (hm : m < 6) (e : ∀ r i j, ¬ (120 ≤ r ∧ r ≤ 123 ∧ i = 6 * k + m) → B' r i j = B r i j) : zMk G B' σ k m L h := by
  obtain ⟨m0, ⟨fb, m1, u1⟩, mb, m2, m3, m4, m5, m6, m7, m8, m9, m10, m11, m12⟩ := M
  have er : ∀ r, r < 120 → B' r 0 0 = B r 0 0 := fun r hr => e r 0 0 (by omega)
  have eo : zMo B' σ 0 L = zMo B σ 0 L := by
    unfold zMo
    rw [er 101 (by decide), er 102 (by decide), er 103 (by decide), er 104 (by decide), er 105 (by decide), er 106 (by decide), er 107 (by decide), er 108 (by decide), er 109 (by decide), er 110 (by decide), er 111 (by decide), er 112 (by decide)]
  have ra : ∀ {r kk N : Nat} {Q : (Nat → Int32) → Prop}, r < 120 → zar G B r kk N Q h → zar G B' r kk N Q h := by
    intro r kk N Q hr ⟨f, p1, p2⟩
    exact ⟨f, by rw [er r hr]; exact p1, p2⟩
  refine ⟨by rw [eo, er 100 (by decide)]; exact m0, ⟨fb, by rw [er 101 (by decide)]; exact m1, fun i j hi hj hn => ?_⟩, fun i j hi hj hn he => ?_, ra (by decide) m2, ra (by decide) m3, ra (by decide) m4, ra (by decide) m5, ra (by decide) m6, ra (by decide) m7, ra (by decide) m8, ra (by decide) m9, ra (by decide) m10, ra (by decide) m11, ra (by decide) m12⟩
  · rw [e 120 (6 * i + j) 0 (by omega)]
    exact u1 i j hi hj hn
  · have h9 := mb i j hi hj hn he
    unfold zMb at h9 ⊢
    rw [e 120 (6 * i + j) 0 (by omega), e 121 (6 * i + j) 0 (by omega), e 122 (6 * i + j) 0 (by omega), e 123 (6 * i + j) 0 (by omega)]
    exact h9
theorem z_appS {l : List zSt} {p : zSt} {f : Nat → Int32} {g : zSt → Int32} (h : ∀ i st, l[i]? = some st → f i = g st) : ∀ i st, (l ++ [p])[i]? = some st → upd f l.length (g p) i = g st := by
  intro n q hq
  rcases z_app hq with hq | ⟨e1, e2⟩
  · have := (List.getElem?_eq_some_iff.mp hq).1
    rw [pk_un (by omega)]
    exact h n q hq
  · rw [e1, e2, pk_us]
theorem z4_step104 (hG : wv_G0 G) (M : zMk G B σ k m L h1) (hb : zMb G B (6 * k + m) (zbody σ k m) h1) (k1 : kp zST h h1) (hk : k < zn σ) (hk6 : k < 6) (hm : m < 6) (hlt : (zbody σ k m).length < 8) (hn : vp_nar .char c = c) {B0 : zA} (hB0 : B 100 0 0 = B0 100 0 0) {Q : wv_R → wv_H → Prop} (hQ : ∀ h', zTN G B0 (zset σ k m (zbody σ k m ++ [(c, a, b)])) L h h' → Q (.inl (some (.int (nI ((zbody σ k m).length + 1))))) h') {cc cs : Nat} :
    vc_X4_addStep_104 G fr Q (some (B 100 0 0)) (nI k) (nI m) c a b (some (B 120 (6 * k + m) 0)) (h1, cc, cs) := by
  obtain ⟨m0, ⟨fb, m1, u1⟩, mb, m2, m3, m4, m5, m6, m7, m8, m9, m10, m11, m12⟩ := M
  obtain ⟨b0, ⟨f1, b1, v1⟩, ⟨f2, b2, v2⟩, ⟨f3, b3, v3⟩⟩ := hb
  generalize hl : zbody σ k m = l at b0 v1 v2 v3 hlt hQ
  refine z_gA m0 rfl ?_
  rw [z46]
  refine ⟨B 101 0 0, _, 36, fb, rfl, m1, by show (101 : Nat) ≠ 0; decide, vp_in_nI (by omega) (by decide), fun b hb => (by cases hb; exact ⟨_, z_is b0 ccX8, Or.inl ⟨rfl, by decide⟩⟩), ?_⟩
  rw [nI_clamp (by omega)]
  have k2 : kp (fun _ t => t.1 = 101) h1 (wv_up h1 (B 101 0 0) ((101, 0, 0, 0), wo_q (wv_A G 7) 36 (va_up fb (6 * k + m) (some (B 120 (6 * k + m) 0))))) := kp.put m1 rfl
  have e2 : wv_up h1 (B 101 0 0) ((101, 0, 0, 0), wo_q (wv_A G 7) 36 (va_up fb (6 * k + m) (some (B 120 (6 * k + m) 0)))) (B 101 0 0) = _ := wv_up_self
  show wv_gA (wv_up h1 (B 101 0 0) ((101, 0, 0, 0), wo_q (wv_A G 7) 36 (va_up fb (6 * k + m) (some (B 120 (6 * k + m) 0)))), _, _) _ _ _ _
  generalize wv_up h1 (B 101 0 0) ((101, 0, 0, 0), wo_q (wv_A G 7) 36 (va_up fb (6 * k + m) (some (B 120 (6 * k + m) 0)))) = g1 at k2 e2 ⊢
  have o1 := k2 _ _ b0 (fun q => by cases q)
  have p1 := k2 _ _ b1 (fun q => by cases q)
  refine z_gA o1 rfl (z_gI o1 rfl (z_si p1 (by show (121 : Nat) ≠ 0; decide) hlt (by decide) ?_))
  rw [hn]
  have k3 : kp (fun _ t => t.1 = 121 ∧ t.2.1 = 6 * k + m) g1 (wv_up g1 (B 121 (6 * k + m) 0) ((121, 6 * k + m, 0, 0), wo_i (wv_A G 1) 8 (upd f1 l.length c))) := kp.put p1 ⟨rfl, rfl⟩
  have e3 : wv_up g1 (B 121 (6 * k + m) 0) ((121, 6 * k + m, 0, 0), wo_i (wv_A G 1) 8 (upd f1 l.length c)) (B 121 (6 * k + m) 0) = _ := wv_up_self
  show wv_gA (wv_up g1 (B 121 (6 * k + m) 0) ((121, 6 * k + m, 0, 0), wo_i (wv_A G 1) 8 (upd f1 l.length c)), _, _) _ _ _ _
  generalize wv_up g1 (B 121 (6 * k + m) 0) ((121, 6 * k + m, 0, 0), wo_i (wv_A G 1) 8 (upd f1 l.length c)) = g2 at k3 e3 ⊢
  have o2 := k3 _ _ o1 (fun q => by cases q.1)
  have p2 := k3 _ _ (k2 _ _ b2 (fun q => by cases q)) (fun q => by cases q.1)
  refine z_gA o2 rfl (z_gI o2 rfl (z_si p2 (by show (122 : Nat) ≠ 0; decide) hlt (by decide) ?_))
  have k4 : kp (fun _ t => t.1 = 122 ∧ t.2.1 = 6 * k + m) g2 (wv_up g2 (B 122 (6 * k + m) 0) ((122, 6 * k + m, 0, 0), wo_i (wv_A G 0) 8 (upd f2 l.length a))) := kp.put p2 ⟨rfl, rfl⟩
  have e4 : wv_up g2 (B 122 (6 * k + m) 0) ((122, 6 * k + m, 0, 0), wo_i (wv_A G 0) 8 (upd f2 l.length a)) (B 122 (6 * k + m) 0) = _ := wv_up_self
  show wv_gA (wv_up g2 (B 122 (6 * k + m) 0) ((122, 6 * k + m, 0, 0), wo_i (wv_A G 0) 8 (upd f2 l.length a)), _, _) _ _ _ _
  generalize wv_up g2 (B 122 (6 * k + m) 0) ((122, 6 * k + m, 0, 0), wo_i (wv_A G 0) 8 (upd f2 l.length a)) = g3 at k4 e4 ⊢
  have o3 := k4 _ _ o2 (fun q => by cases q.1)
  have p3 := k4 _ _ (k3 _ _ (k2 _ _ b3 (fun q => by cases q)) (fun q => by cases q.1)) (fun q => by cases q.1)
  refine z_gA o3 rfl (z_gI o3 rfl (z_si p3 (by show (123 : Nat) ≠ 0; decide) hlt (by decide) ?_))
  have k5 : kp (fun _ t => t.1 = 123 ∧ t.2.1 = 6 * k + m) g3 (wv_up g3 (B 123 (6 * k + m) 0) ((123, 6 * k + m, 0, 0), wo_i (wv_A G 0) 8 (upd f3 l.length b))) := kp.put p3 ⟨rfl, rfl⟩
  have e5 : wv_up g3 (B 123 (6 * k + m) 0) ((123, 6 * k + m, 0, 0), wo_i (wv_A G 0) 8 (upd f3 l.length b)) (B 123 (6 * k + m) 0) = _ := wv_up_self
  show wv_gI (wv_up g3 (B 123 (6 * k + m) 0) ((123, 6 * k + m, 0, 0), wo_i (wv_A G 0) 8 (upd f3 l.length b)), _, _) _ _ _ _
  generalize wv_up g3 (B 123 (6 * k + m) 0) ((123, 6 * k + m, 0, 0), wo_i (wv_A G 0) 8 (upd f3 l.length b)) = g4 at k5 e5 ⊢
  have o4 := k5 _ _ o3 (fun q => by cases q.1)
  refine z_gI o4 rfl (z_pt o4 (Nat.succ_ne_zero _) (by simp) (z_gI wv_up_self rfl ?_))
  have k6 : kp (fun _ t => t.1 = 120 ∧ t.2.1 = 6 * k + m) g4 (wv_up g4 (B 120 (6 * k + m) 0) ((120, 6 * k + m, 0, 0), wo_o ciX8 ([va_rf (some (B 121 (6 * k + m) 0)), va_rf (some (B 122 (6 * k + m) 0)), va_rf (some (B 123 (6 * k + m) 0)), .int (nI l.length)].set 3 (.int (nI l.length + 1))))) := kp.put o4 ⟨rfl, rfl⟩
  have e6 : wv_up g4 (B 120 (6 * k + m) 0) ((120, 6 * k + m, 0, 0), wo_o ciX8 ([va_rf (some (B 121 (6 * k + m) 0)), va_rf (some (B 122 (6 * k + m) 0)), va_rf (some (B 123 (6 * k + m) 0)), .int (nI l.length)].set 3 (.int (nI l.length + 1)))) (B 120 (6 * k + m) 0) = some ((120, 6 * k + m, 0, 0), wo_o ciX8 [va_rf (some (B 121 (6 * k + m) 0)), va_rf (some (B 122 (6 * k + m) 0)), va_rf (some (B 123 (6 * k + m) 0)), .int (nI l.length + 1)]) := wv_up_self
  show Q (.inl (some (.int (nI l.length + 1)))) (wv_up g4 (B 120 (6 * k + m) 0) ((120, 6 * k + m, 0, 0), wo_o ciX8 ([va_rf (some (B 121 (6 * k + m) 0)), va_rf (some (B 122 (6 * k + m) 0)), va_rf (some (B 123 (6 * k + m) 0)), .int (nI l.length)].set 3 (.int (nI l.length + 1)))))
  generalize wv_up g4 (B 120 (6 * k + m) 0) ((120, 6 * k + m, 0, 0), wo_o ciX8 ([va_rf (some (B 121 (6 * k + m) 0)), va_rf (some (B 122 (6 * k + m) 0)), va_rf (some (B 123 (6 * k + m) 0)), .int (nI l.length)].set 3 (.int (nI l.length + 1)))) = g5 at k6 e6 ⊢
  rw [← nI_succ] at e6 ⊢
  have kk : kp (fun _ t => t.1 = 101 ∨ (120 ≤ t.1 ∧ t.1 ≤ 123 ∧ t.2.1 = 6 * k + m)) h1 g5 := (((k2.mono (fun _ t q => Or.inl q)).trans (k3.mono (fun _ t q => Or.inr ⟨by omega, by omega, q.2⟩))).trans (k4.mono (fun _ t q => Or.inr ⟨by omega, by omega, q.2⟩))).trans ((k5.mono (fun _ t q => Or.inr ⟨by omega, by omega, q.2⟩)).trans (k6.mono (fun _ t q => Or.inr ⟨by omega, by omega, q.2⟩)))
  have hr : ∀ r, r ≠ 101 → r < 120 → ∀ (a : Nat) (t : wv_T), (t.1 = 101 ∨ (120 ≤ t.1 ∧ t.1 ≤ 123 ∧ t.2.1 = 6 * k + m)) → t.1 ≠ r := fun r h1 h2 a t q e => by rcases q with q | q <;> omega
  have hb9 : zMb G B (6 * k + m) (l ++ [(c, a, b)]) g5 := by
    refine ⟨?_, ⟨_, k6 _ _ (k5 _ _ (k4 _ _ e3 (fun q => by cases q.1)) (fun q => by cases q.1)) (fun q => by cases q.1), z_appS (g := fun s => s.1) v1⟩, ⟨_, k6 _ _ (k5 _ _ e4 (fun q => by cases q.1)) (fun q => by cases q.1), z_appS (g := fun s => s.2.1) v2⟩, ⟨_, k6 _ _ e5 (fun q => by cases q.1), z_appS (g := fun s => s.2.2) v3⟩⟩
    rw [List.length_append]
    exact e6
  refine hQ _ ⟨B, hB0, ⟨?_, ⟨_, k6 _ _ (k5 _ _ (k4 _ _ (k3 _ _ e2 (fun q => by cases q.1)) (fun q => by cases q.1)) (fun q => by cases q.1)) (fun q => by cases q.1), fun i j hi hj => ?_⟩, fun i j hi hj he => ?_, ?_, m3.keep kk (hr 103 (by decide) (by decide)), m4.keep kk (hr 104 (by decide) (by decide)), m5.keep kk (hr 105 (by decide) (by decide)), m6.keep kk (hr 106 (by decide) (by decide)), m7.keep kk (hr 107 (by decide) (by decide)), m8.keep kk (hr 108 (by decide) (by decide)), m9.keep kk (hr 109 (by decide) (by decide)), m10.keep kk (hr 110 (by decide) (by decide)), m11.keep kk (hr 111 (by decide) (by decide)), m12.keep kk (hr 112 (by decide) (by decide))⟩, k1.trans (kk.mono (fun _ t q => ?_))⟩
  · refine (kk _ _ m0 (fun q => hr 100 (by decide) (by decide) 0 _ q rfl)).trans ?_
    unfold zMo
    rw [zset_n]
    rfl
  · rw [zset_body σ hk]
    unfold va_up
    by_cases e : i = k ∧ j = m
    · obtain ⟨rfl, rfl⟩ := e
      rw [if_pos rfl, if_pos (show i = i ∧ j = j from ⟨rfl, rfl⟩)]
      cases l <;> rfl
    · rw [if_neg (by omega), if_neg e]
      exact u1 i j hi hj e
  · rw [zset_body σ hk] at he ⊢
    by_cases e : i = k ∧ j = m
    · rw [if_pos e, e.1, e.2]
      exact hb9
    · rw [if_neg e] at he ⊢
      exact (mb i j hi hj e he).keep kk (fun a t q x => by rcases q with q | q <;> omega)
  · obtain ⟨f2, p1, p2⟩ := m2
    refine ⟨f2, kk _ _ p1 (fun q => hr 102 (by decide) (by decide) 0 _ q rfl), fun i hi => ?_⟩
    rw [zset_n] at hi
    rw [zset_par]
    exact p2 i hi
  · rcases q with q | q
    · exact ⟨by omega, by omega⟩
    · exact ⟨by omega, q.2.1⟩
end ZT8
