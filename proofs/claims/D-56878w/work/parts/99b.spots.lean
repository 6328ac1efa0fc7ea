/-! THE REFERENCE: the places of a body, as a list of Spots -/
section ZTF
variable {G : wv_G} {A B B' : zA} {σ σ' : zS} {h h0 h1 h2 h' : wv_H} {w : wv_W} {fr fr' kc ks : Nat} {P : wv_R → wv_H → Prop} {KX : String → Nat → wv_W → Prop} {sl L a b : Nat} {k m r i j : Nat} {t : wv_T} {x y v th : Int32} {xs : List Nat} {sps : List zSp}
abbrev zspO (sp : zSp) : wv_O := wo_o ciX20 [.int sp.1, .int sp.2.1, .int (zoN sp.2.2.1), .int sp.2.2.2]
theorem z20_init (hG : wv_G0 G) (ht : t.1 ≠ 0) {c n mk ix : Int32} (hf : wv_fit .char c) : wv_C G yX20_init [.ref a, .int c, .int n, .int mk, .int ix] (wv_up h a (t, wo_o ciX20 [.int 0, .int 0, .int 0, .int 0])) 2 0 0 (fun r h' => r = .inl none ∧ h' = wv_up h a (t, wo_o ciX20 [.int c, .int n, .int mk, .int ix])) := by
  refine wk_X20_init (v0 := some a) hG ⟨a, rfl, z_cV (h1 := wv_up h a (t, wo_o ciX20 [.int 0, .int 0, .int 0, .int 0])) (wk_J23_init (v0 := some a) hG ⟨⟨a, rfl⟩, Nat.le_refl 1, rfl, rfl⟩) (by omega) ⟨hf, z_pt wv_up_self ht (by simp) (z_pt wv_up_self ht (by simp) (z_pt wv_up_self ht (by simp) (z_pt wv_up_self ht (by simp) ⟨rfl, ?_⟩)))⟩⟩
  show wv_up (wv_up (wv_up (wv_up (wv_up h a _) a _) a _) a _) a _ = _
  rw [z_uu, z_uu, z_uu, z_uu]
  rfl
/-- the list of Spots -/
def zSL (h : wv_H) (sl : Nat) (xs : List Nat) (sps : List zSp) : Prop := zLx h sl (148, 0, 0, 0) xs ∧ xs.length = sps.length ∧ ∀ (p : Nat) (sp : zSp), sps[p]? = some sp → ∃ b : Nat, xs[p]? = some b ∧ h b = some ((149, 0, 0, 0), zspO sp)
theorem zSL.keep {S : Nat → wv_T → Prop} (R : zSL h sl xs sps) (k : kp S h h1) (hS : ∀ a t, S a t → t.1 ≠ 148 ∧ t.1 ≠ 149) : zSL h1 sl xs sps := by
  obtain ⟨r1, r2, r3⟩ := R
  refine ⟨r1.keep k (fun q => (hS _ _ q).1 rfl), r2, fun p sp hp => ?_⟩
  obtain ⟨b, b1, b2⟩ := r3 p sp hp
  exact ⟨b, b1, k _ _ b2 (fun q => (hS _ _ q).2 rfl)⟩
theorem zSL.el (R : zSL h sl xs sps) {x : Nat} (hx : x ∈ xs) : wl_el G h x := by
  obtain ⟨p, hp⟩ := List.mem_iff_getElem?.mp hx
  have hl := (List.getElem?_eq_some_iff.mp hp).1
  obtain ⟨b, b1, b2⟩ := R.2.2 p _ (List.getElem?_eq_getElem (by rw [← R.2.1]; exact hl))
  rw [hp] at b1
  cases b1
  exact z_el (z_is b2 ccX20) q2628
theorem zSL.push (hG : wv_G0 G) (S : zSL h sl xs sps) (ha : h a = none) {sp : zSp} (hfit : wv_fit .char sp.1) (hlen : sps.length < 30) {cc cs : Nat} {K : wv_W → Prop} (hf : 6 < fr) (hc : zgc (sps.length + 1) - zgc sps.length ≤ cc) (hs : zgs (sps.length + 1) - zgs sps.length ≤ cs)
    (hK : ∀ h', zSL h' sl (xs ++ [a]) (sps ++ [sp]) → kp (zTo sl) h h' → K (h', cc - (zgc (sps.length + 1) - zgc sps.length), cs - (zgs (sps.length + 1) - zgs sps.length))) :
    wv_cI G fr yX20_init (some a) [.int sp.1, .int sp.2.1, .int (zoN sp.2.2.1), .int sp.2.2.2] (wv_up h a ((149, 0, 0, 0), wo_o ciX20 [.int 0, .int 0, .int 0, .int 0]), cc, cs) (wv_rV (fun w133 => wv_cV G fr yJ2_add (some sl) [va_rf (some a)] w133 (wv_rI (fun x136 w136 => K w136) KX)) KX) := by
  refine z_iV (z20_init hG (by decide) hfit) (by omega) ?_
  have k1 : kp kn h (wv_up h a ((149, 0, 0, 0), zspO sp)) := kp.new ha
  have e1 : wv_up h a ((149, 0, 0, 0), zspO sp) a = some ((149, 0, 0, 0), zspO sp) := wv_up_self
  show wv_cV G fr yJ2_add (some sl) [va_rf (some a)] (wv_up h a ((149, 0, 0, 0), zspO sp), cc, cs) _
  generalize wv_up h a ((149, 0, 0, 0), zspO sp) = h1 at k1 e1 ⊢
  have S1 := S.keep k1 (fun _ _ q => q.elim)
  have hl := S1.2.1
  refine S1.1.cadd hG (z_el (z_is e1 ccX20) q2628) (fun x hx => S1.el hx) (by omega) hf (by rw [hl]; exact hc) (by rw [hl]; exact hs) (fun h2 l2 o2 => ?_)
  rw [hl]
  obtain ⟨md, l9⟩ := id S1.1
  have k2 : kp (zTo sl) h1 h2 := kp.of l9 rfl o2
  refine hK h2 ⟨l2, by rw [List.length_append, List.length_append, hl]; rfl, fun p sp' hp => ?_⟩ ((kn.to k1).trans k2)
  rcases z_app hp with hp | ⟨p1, p2⟩
  · obtain ⟨b, b1, b2⟩ := S1.2.2 p sp' hp
    refine ⟨b, ?_, k2 _ _ b2 (fun q => z_ne b2 l9 (fun e => by cases e) q)⟩
    rw [List.getElem?_append_left (List.getElem?_eq_some_iff.mp b1).1]
    exact b1
  · subst p1
    subst p2
    refine ⟨a, ?_, k2 _ _ e1 (fun q => z_ne e1 l9 (fun e => by cases e) q)⟩
    rw [← hl, List.getElem?_append_right (Nat.le_refl _), Nat.sub_self]
    rfl
theorem zsps_app : ∀ (l1 l2 : List zSt) (i : Nat), zsps i (l1 ++ l2) = zsps i l1 ++ zsps (i + l1.length) l2
  | [], l2, i => rfl
  | st :: l1, l2, i => by
    show zsp1 i st ++ zsps (i + 1) (l1 ++ l2) = (zsp1 i st ++ zsps (i + 1) l1) ++ zsps (i + (l1.length + 1)) l2
    rw [zsps_app l1 l2 (i + 1), List.append_assoc, show i + 1 + l1.length = i + (l1.length + 1) by omega]
theorem zsps_take {l : List zSt} {st : zSt} (hi : l[i]? = some st) : zsps 0 (l.take (i + 1)) = zsps 0 (l.take i) ++ zsp1 i st := by
  have hl := (List.getElem?_eq_some_iff.mp hi).1
  rw [List.take_add_one, hi, zsps_app, List.length_take, Nat.min_eq_left (by omega), Nat.zero_add]
  show _ ++ (zsp1 i st ++ []) = _
  rw [List.append_nil]
theorem zgc_mono {n n' : Nat} (h : n ≤ n') (hn : n' ≤ 400) : zgc n ≤ zgc n' ∧ zgs n ≤ zgs n' := by
  induction n' with
  | zero => rw [Nat.le_zero.mp h]; exact ⟨Nat.le_refl _, Nat.le_refl _⟩
  | succ n' ih =>
    rcases Nat.lt_or_ge n' n with h9 | h9
    · rw [show n = n' + 1 by omega]
      exact ⟨Nat.le_refl _, Nat.le_refl _⟩
    · have h1 := ih h9 (by omega)
      have h2 := zgc_le (n := n') (by omega)
      exact ⟨Nat.le_trans h1.1 h2.1, Nat.le_trans h1.2 h2.2⟩
end ZTF
