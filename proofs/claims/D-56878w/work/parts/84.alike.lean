/-! SPEC: what a run does is not changed by the places that are kept -/
section ZY3
variable {σ : zS} {act : Int32 → zM} {pt : zPF} {wov : Bool} {s s1 s2 s' : zR} {q q' : zX × zR} {f : Nat → Nat → Nat}
/-- but for the places kept, alike -/
def zsk (s s' : zR) : Prop := s.1 = s'.1 ∧ s.2.1 = s'.2.1 ∧ s.2.2.1 = s'.2.2.1 ∧ s.2.2.2.1 = s'.2.2.2.1 ∧ s.2.2.2.2.1 = s'.2.2.2.2.1
def zsim (q q' : zX × zR) : Prop := q.1 = q'.1 ∧ zsk q.2 q'.2
theorem zsk_re (h : zsk s s') : zsk (zRe s) (zRe s') := by
  obtain ⟨p, a, t, F, c, f⟩ := s
  obtain ⟨p', a', t', F', c', f'⟩ := s'
  obtain ⟨h1, h2, h3, h4, h5⟩ := h
  cases h1
  cases h2
  cases h3
  cases h4
  cases h5
  exact ⟨rfl, rfl, rfl, rfl, rfl⟩
theorem zsk_ra (h : zsk s s') : zsk (zRa s) (zRa s') := by
  obtain ⟨p, a, t, F, c, f⟩ := s
  obtain ⟨p', a', t', F', c', f'⟩ := s'
  obtain ⟨h1, h2, h3, h4, h5⟩ := h
  cases h1
  cases h2
  cases h3
  cases h4
  cases h5
  exact ⟨rfl, rfl, rfl, rfl, rfl⟩
theorem zsk_rm (h : zsk s s') : zsk (zRm s) (zRm s') := by
  obtain ⟨p, a, t, F, c, f⟩ := s
  obtain ⟨p', a', t', F', c', f'⟩ := s'
  obtain ⟨h1, h2, h3, h4, h5⟩ := h
  cases h1
  cases h2
  cases h3
  cases h4
  cases h5
  exact ⟨rfl, rfl, rfl, rfl, rfl⟩
theorem zsk_rt (x : zAc) (h : zsk s s') : zsk (zRt x s) (zRt x s') := by
  obtain ⟨p, a, t, F, c, f⟩ := s
  obtain ⟨p', a', t', F', c', f'⟩ := s'
  obtain ⟨h1, h2, h3, h4, h5⟩ := h
  cases h1
  cases h2
  cases h3
  cases h4
  cases h5
  exact ⟨rfl, rfl, rfl, rfl, rfl⟩
theorem zsk_rf (F : Nat → Int32) (h : zsk s s') : zsk (zRF F s) (zRF F s') := ⟨h.1, h.2.1, h.2.2.1, rfl, h.2.2.2.2⟩
theorem zsk_rk (k m p : Nat) (h : zsk s s') : zsk (zRk wov k m p s) (zRk wov k m p s') := h
theorem zsk_rq (n : Nat) (h : zsk s s') : zsk (zRq n (zRp s)) (zRq n (zRp s')) := by
  obtain ⟨h1, h2, h3, h4, h5⟩ := h
  refine ⟨?_, ?_, h3, h4, h5⟩
  · show s.1 + 1 = s'.1 + 1
    rw [h1]
  · show s.2.1 + n = s'.2.1 + n
    rw [h2]
theorem zsim_rep {g : Int32 → zM} (hg : ∀ v s s', zsk s s' → zsim (g v s) (g v s')) (more : Int32) : ∀ (t : Nat) (v : Int32) (s s' : zR), zsk s s' → zsim (zrep g more t v s) (zrep g more t v s')
  | 0, v, s, s', h => ⟨rfl, h⟩
  | t + 1, v, s, s', h => by
    rw [zrep]
    have h1 := hg (v + more) s s' h
    show zsim (match g (v + more) s with | (.inl v', s') => zrep g more t v' s' | e => e) (match g (v + more) s' with | (.inl v', s') => zrep g more t v' s' | e => e)
    generalize g (v + more) s = q at h1 ⊢
    generalize g (v + more) s' = q' at h1 ⊢
    obtain ⟨x, s1⟩ := q
    obtain ⟨x', s1'⟩ := q'
    obtain ⟨e1, e2⟩ := h1
    cases e1
    cases x with
    | inl v' => exact zsim_rep hg more t v' s1 s1' e2
    | inr o => exact ⟨rfl, e2⟩
theorem zadd_k (n : Nat) (v : Int32) (h : zsk s s') : (zadd σ n v s = none ∧ zadd σ n v s' = none) ∨ (zadd σ n v s = some (zRt ((zadv σ n).2.1, v, n) s) ∧ zadd σ n v s' = some (zRt ((zadv σ n).2.1, v, n) s')) := by
  have hl : s.2.2.1.length = s'.2.2.1.length := by rw [h.2.2.1]
  rcases zadd_cases (σ := σ) n v s with ⟨h1, e1⟩ | ⟨h1, e1⟩ <;> rcases zadd_cases (σ := σ) n v s' with ⟨h2, e2⟩ | ⟨h2, e2⟩
  · exact Or.inl ⟨e1, e2⟩
  · exact absurd (hl ▸ h1) h2
  · exact absurd (hl.symm ▸ h2) h1
  · exact Or.inr ⟨e1, e2⟩
theorem zsim_beh (n : Nat) (h : zsim q q') : zsim (zbeh σ n q) (zbeh σ n q') := by
  obtain ⟨x, s1⟩ := q
  obtain ⟨x', s1'⟩ := q'
  obtain ⟨e1, e2⟩ := h
  cases e1
  have e2 : zsk s1 s1' := e2
  cases x with
  | inl v' =>
    show zsim (if (zadv σ n).2.1 = 120 then (.inl v', s1) else match zadd σ n v' s1 with | none => (zup, zRe s1) | some s1 => (.inl v', s1) : zX × zR) (if (zadv σ n).2.1 = 120 then (.inl v', s1') else match zadd σ n v' s1' with | none => (zup, zRe s1') | some s1 => (.inl v', s1) : zX × zR)
    by_cases hk : (zadv σ n).2.1 = 120
    · rw [if_pos hk, if_pos hk]
      exact ⟨rfl, e2⟩
    · rw [if_neg hk, if_neg hk]
      rcases zadd_k (σ := σ) n v' e2 with ⟨a1, a2⟩ | ⟨a1, a2⟩ <;> rw [a1, a2]
      · exact ⟨rfl, zsk_re e2⟩
      · exact ⟨rfl, zsk_rt _ e2⟩
  | inr o =>
    cases o with
    | none => exact ⟨rfl, e2⟩
    | some z =>
      show zsim (if (zadv σ n).2.1 = 97 then (zraise z, s1) else match zadd σ n z s1 with | none => (zup, zRe s1) | some s1 => (zraise z, s1) : zX × zR) (if (zadv σ n).2.1 = 97 then (zraise z, s1') else match zadd σ n z s1' with | none => (zup, zRe s1') | some s1 => (zraise z, s1) : zX × zR)
      by_cases hk : (zadv σ n).2.1 = 97
      · rw [if_pos hk, if_pos hk]
        exact ⟨rfl, e2⟩
      · rw [if_neg hk, if_neg hk]
        rcases zadd_k (σ := σ) n z e2 with ⟨a1, a2⟩ | ⟨a1, a2⟩ <;> rw [a1, a2]
        · exact ⟨rfl, zsk_re e2⟩
        · exact ⟨rfl, zsk_rt _ e2⟩
theorem zsim_go (ha : ∀ v s s', zsk s s' → zsim (act v s) (act v s')) : ∀ (l : List Nat) (v : Int32) (s s' : zR), zsk s s' → zsim (zgo σ act l v s) (zgo σ act l v s')
  | [], v, s, s', h => ha v _ _ (zsk_ra h)
  | n :: l, v, s, s', h => by
    have ih := zsim_go ha l
    by_cases hk : (zadv σ n).2.1 = 114
    · rw [zgo_r hk, zgo_r hk]
      rcases zadd_k (σ := σ) n v h with ⟨a1, a2⟩ | ⟨a1, a2⟩ <;> rw [a1, a2]
      · exact ⟨rfl, zsk_re h⟩
      · exact zsim_rep ih _ _ _ _ _ (zsk_rt _ h)
    · by_cases hk2 : (zadv σ n).2.1 = 98
      · rw [zgo_b hk2, zgo_b hk2]
        rcases zadd_k (σ := σ) n v h with ⟨a1, a2⟩ | ⟨a1, a2⟩ <;> rw [a1, a2]
        · exact ⟨rfl, zsk_re h⟩
        · exact ih _ _ _ (zsk_rt _ h)
      · rw [zgo_o hk hk2, zgo_o hk hk2]
        exact zsim_beh n (ih v s s' h)
theorem zsim_done (hp : ∀ q v s s', zsk s s' → zsim (pt q v s) (pt q v s')) (ty k m p : Nat) (st : zSt) (v : Int32) (s0 s0' : zR) (h : zsk s0 s0') : zsim (zdone wov pt ty k m p st v s0) (zdone wov pt ty k m p st v s0') := by
  rw [zdone_eq, zdone_eq]
  have hs : zsk (if 0 < zplaces st then zRk wov k m p s0 else s0) (if 0 < zplaces st then zRk wov k m p s0' else s0') := by
    split
    · exact h
    · exact h
  generalize (if 0 < zplaces st then zRk wov k m p s0 else s0) = s at hs ⊢
  generalize (if 0 < zplaces st then zRk wov k m p s0' else s0') = s' at hs ⊢
  unfold zdn1
  show zsim (if st.1 = 110 then _ else if st.1 = 99 then _ else if st.1 = 109 then _ else if st.1 = 103 ∨ st.1 = 115 then _ else if st.1 = 116 then _ else _ : zX × zR) (if st.1 = 110 then _ else if st.1 = 99 then _ else if st.1 = 109 then _ else if st.1 = 103 ∨ st.1 = 115 then _ else if st.1 = 116 then _ else _ : zX × zR)
  by_cases c1 : st.1 = 110
  · rw [if_pos c1, if_pos c1]
    exact ⟨rfl, hs⟩
  rw [if_neg c1, if_neg c1]
  by_cases c2 : st.1 = 99
  · rw [if_pos c2, if_pos c2]
    exact hp _ _ _ _ hs
  rw [if_neg c2, if_neg c2]
  by_cases c3 : st.1 = 109
  · rw [if_pos c3, if_pos c3]
    have h1 := hp (109, st.2.1, zAt st.2.1, some (k, m, p)) v _ _ (zsk_rf (fun _ => 0) (zsk_rm hs))
    have hF : s.2.2.2.1 = s'.2.2.2.1 := hs.2.2.2.1
    rw [hF]
    generalize pt (109, st.2.1, zAt st.2.1, some (k, m, p)) v (zRF (fun _ => 0) (zRm s)) = q1 at h1 ⊢
    generalize pt (109, st.2.1, zAt st.2.1, some (k, m, p)) v (zRF (fun _ => 0) (zRm s')) = q1' at h1 ⊢
    obtain ⟨x1, s1⟩ := q1
    obtain ⟨x1', s1'⟩ := q1'
    obtain ⟨e1, e2⟩ := h1
    cases e1
    have e2 : zsk s1 s1' := e2
    cases x1 with
    | inl v1 =>
      have h2 := hp (99, st.2.2, zAt st.2.1, some (k, m, p + 1)) v1 _ _ (zsk_rk (wov := wov) k m (p + 1) e2)
      show zsim (match pt (99, st.2.2, zAt st.2.1, some (k, m, p + 1)) v1 (zRk wov k m (p + 1) s1) with | (x, s2) => (x, zRF s'.2.2.2.1 s2) : zX × zR) (match pt (99, st.2.2, zAt st.2.1, some (k, m, p + 1)) v1 (zRk wov k m (p + 1) s1') with | (x, s2) => (x, zRF s'.2.2.2.1 s2) : zX × zR)
      generalize pt (99, st.2.2, zAt st.2.1, some (k, m, p + 1)) v1 (zRk wov k m (p + 1) s1) = q2 at h2 ⊢
      generalize pt (99, st.2.2, zAt st.2.1, some (k, m, p + 1)) v1 (zRk wov k m (p + 1) s1') = q2' at h2 ⊢
      exact ⟨h2.1, zsk_rf _ h2.2⟩
    | inr o => exact ⟨rfl, zsk_rf _ e2⟩
  rw [if_neg c3, if_neg c3]
  by_cases c4 : st.1 = 103 ∨ st.1 = 115
  · rw [if_pos c4, if_pos c4]
    exact hp _ _ _ _ hs
  rw [if_neg c4, if_neg c4]
  by_cases c5 : st.1 = 116
  · rw [if_pos c5, if_pos c5]
    by_cases c6 : st.2.2 < v
    · rw [if_pos c6, if_pos c6]
      exact ⟨rfl, zsk_re hs⟩
    · rw [if_neg c6, if_neg c6]
      exact ⟨rfl, hs⟩
  · rw [if_neg c5, if_neg c5]
    exact ⟨rfl, hs⟩
theorem zsim_steps (hp : ∀ q v s s', zsk s s' → zsim (pt q v s) (pt q v s')) (ty k m : Nat) : ∀ (l : List zSt) (i : Nat) (v : Int32) (s s' : zR), zsk s s' → zsim (zstepsF σ wov pt ty k m i l v s) (zstepsF σ wov pt ty k m i l v s')
  | [], i, v, s, s', h => ⟨rfl, h⟩
  | st :: l, i, v, s, s', h => by
    have ih := zsim_steps hp ty k m l
    rw [zsteps_c, zsteps_c]
    have h1 := zsim_done (wov := wov) hp ty k m (zplace (zbody σ k m) i) st v s s' h
    generalize zdone wov pt ty k m (zplace (zbody σ k m) i) st v s = q1 at h1 ⊢
    generalize zdone wov pt ty k m (zplace (zbody σ k m) i) st v s' = q1' at h1 ⊢
    obtain ⟨x1, s1⟩ := q1
    obtain ⟨x1', s1'⟩ := q1'
    obtain ⟨e1, e2⟩ := h1
    cases e1
    have e2 : zsk s1 s1' := e2
    cases x1 with
    | inl v1 => exact ih (i + 1) v1 s1 s1' e2
    | inr o =>
      cases o with
      | none => exact ⟨rfl, e2⟩
      | some z =>
        show zsim (match zhandled σ wov pt ty k m i z s1 with
          | (.inl v', s'') => zstepsF σ wov pt ty k m (i + 1) l v' s''
          | e => e : zX × zR) (match zhandled σ wov pt ty k m i z s1' with
          | (.inl v', s'') => zstepsF σ wov pt ty k m (i + 1) l v' s''
          | e => e : zX × zR)
        cases hz : zhandler (zbody σ k m) z i with
        | none =>
          rw [zhandled_n hz, zhandled_n hz]
          exact ⟨rfl, e2⟩
        | some j =>
          rw [zhandled_s hz, zhandled_s hz]
          have h5 := hp (104, z, ty, some (k, m, zplace (zbody σ k m) j)) 0 _ _ (zsk_rk (wov := wov) k m (zplace (zbody σ k m) j) e2)
          generalize pt (104, z, ty, some (k, m, zplace (zbody σ k m) j)) 0 (zRk wov k m (zplace (zbody σ k m) j) s1) = q5 at h5 ⊢
          generalize pt (104, z, ty, some (k, m, zplace (zbody σ k m) j)) 0 (zRk wov k m (zplace (zbody σ k m) j) s1') = q5' at h5 ⊢
          obtain ⟨x5, s5⟩ := q5
          obtain ⟨x5', s5'⟩ := q5'
          obtain ⟨f1, f2⟩ := h5
          cases f1
          have f2 : zsk s5 s5' := f2
          cases x5 with
          | inl v5 => exact ih (i + 1) v5 s5 s5' f2
          | inr o => exact ⟨rfl, f2⟩
theorem zsim_act (hp : ∀ q v s s', zsk s s' → zsim (pt q v s) (pt q v s')) (q : zPi) (v : Int32) (s s' : zR) (h : zsk s s') : zsim (zact σ wov pt q v s) (zact σ wov pt q v s') := by
  have hF : s.2.2.2.1 = s'.2.2.2.1 := h.2.2.2.1
  unfold zact
  show zsim (if q.1 = 99 then _ else if q.1 = 101 then _ else if q.1 = 103 then _ else if q.1 = 115 then _ else _ : zX × zR) (if q.1 = 99 then _ else if q.1 = 101 then _ else if q.1 = 103 then _ else if q.1 = 115 then _ else _ : zX × zR)
  by_cases c1 : q.1 = 99
  · rw [if_pos c1, if_pos c1]
    cases zfind σ (zAt q.2.1) q.2.2.1 with
    | none => exact ⟨rfl, zsk_re h⟩
    | some k => exact hp (101, q.2.1, q.2.2.1, some (k, zAt q.2.1, 0)) v _ _ (zsk_rk (wov := wov) k (zAt q.2.1) 0 h)
  rw [if_neg c1, if_neg c1]
  by_cases c2 : q.1 = 101
  · rw [if_pos c2, if_pos c2]
    cases q.2.2.2 with
    | none => exact ⟨rfl, h⟩
    | some x => exact zsim_steps hp q.2.2.1 x.1 x.2.1 (zbody σ x.1 x.2.1) 0 v s s' h
  rw [if_neg c2, if_neg c2]
  by_cases c3 : q.1 = 103
  · rw [if_pos c3, if_pos c3, hF]
    exact ⟨rfl, h⟩
  rw [if_neg c3, if_neg c3]
  by_cases c4 : q.1 = 115
  · rw [if_pos c4, if_pos c4, hF]
    exact ⟨rfl, zsk_rf _ h⟩
  rw [if_neg c4, if_neg c4]
  exact ⟨rfl, h⟩
theorem zsim_point : ∀ (d : Nat) (l : List zIn) (q : zPi) (v : Int32) (s s' : zR), zsk s s' → zsim (zpoint σ wov d l q v s) (zpoint σ wov d l q v s')
  | 0, l, q, v, s, s', h => ⟨rfl, zsk_re h⟩
  | d + 1, l, q, v, s, s', h => by
    rw [zpoint]
    show zsim (if s.1 = 120 then (zup, zRe s) else _ : zX × zR) (if s'.1 = 120 then (zup, zRe s') else _ : zX × zR)
    have h1 : s.1 = s'.1 := h.1
    by_cases h9 : s'.1 = 120
    · rw [if_pos h9, if_pos (h1.trans h9)]
      exact ⟨rfl, zsk_re h⟩
    · rw [if_neg h9, if_neg (fun x => h9 (h1.symm.trans x))]
      exact zsim_go (fun v s s' hs => zsim_act (fun q v s s' hs => zsim_point d _ q v s s' hs) q v s s' hs) _ _ _ _ (zsk_rq _ h)
theorem zend_k (h : zsim q q') : zend q = zend q' := by
  obtain ⟨x, p, a, t, F, c, f⟩ := q
  obtain ⟨x', p', a', t', F', c', f'⟩ := q'
  obtain ⟨h0, h1, h2, h3, -, -⟩ := h
  cases h0
  cases h1
  cases h2
  cases h3
  rfl
theorem zrun_k (k m : Nat) (v : Int32) (f g : Nat → Nat → Nat) : zend (zrun σ wov k m v f) = zend (zrun σ wov k m v g) := zend_k (zsim_point 20 [] (99, nI m, k, none) v (zr0 f) (zr0 g) ⟨rfl, rfl, rfl, rfl, rfl⟩)
theorem zsound_k (f g : Nat → Nat → Nat) : zsound σ f g = zsound σ (fun _ _ => 0) (fun _ _ => 0) := by
  unfold zsound
  cases zlw σ with
  | none => rfl
  | some k =>
    show (if zring σ = true then true else zalike (zend (zrun σ true k 0 0 f)) (zend (zrun σ false k 0 0 g))) = _
    rw [zrun_k k 0 0 f (fun _ _ => 0), zrun_k k 0 0 g (fun _ _ => 0)]
end ZY3
