/-! SPEC: how much a run can do, in numbers -/
section ZY2
variable {σ : zS} {act : Int32 → zM} {pt : zPF} {wov : Bool} {s s1 s2 : zR} {q : zX × zR} {f : Nat → Nat → Nat}
theorem zbd_steps (hp : ∀ q v s, zBd 0 1 0 1 s (pt q v s)) (ty k m : Nat) : ∀ (l : List zSt) (i : Nat) (v : Int32) (s : zR), zBd 0 0 (zru (zstepsF σ wov pt ty k m i l v s).1) 0 s (zstepsF σ wov pt ty k m i l v s)
  | [], i, v, s => by
    refine ⟨Nat.le_refl _, ?_, Nat.le_refl _⟩
    show s.2.2.2.2.1.2.1 + 0 + s.2.2.2.2.1.1 + s.1 ≤ s.2.2.2.2.1.2.1 + 0 + s.2.2.2.2.1.1 + s.1 + 2 * 0
    omega
  | st :: l, i, v, s => by
    have ih := zbd_steps hp ty k m l
    rw [zsteps_c]
    have h1 := zbd_done (wov := wov) hp ty k m (zplace (zbody σ k m) i) st v s
    generalize zdone wov pt ty k m (zplace (zbody σ k m) i) st v s = q1 at h1 ⊢
    obtain ⟨x1, s1⟩ := q1
    obtain ⟨g1, g2, g3⟩ := h1
    cases x1 with
    | inl v1 =>
      have h2 := ih (i + 1) v1 s1
      show zBd 0 0 (zru (zstepsF σ wov pt ty k m (i + 1) l v1 s1).1) 0 s (zstepsF σ wov pt ty k m (i + 1) l v1 s1)
      generalize zstepsF σ wov pt ty k m (i + 1) l v1 s1 = q2 at h2 ⊢
      obtain ⟨f1, f2, f3⟩ := h2
      have g1 : s1.2.2.2.2.1.1 + s.1 + s.2.2.1.length ≤ s.2.2.2.2.1.1 + 0 + s1.1 + s1.2.2.1.length := g1
      have g2 : s1.2.2.2.2.1.2.1 + 0 + s.2.2.2.2.1.1 + s.1 ≤ s.2.2.2.2.1.2.1 + 0 + s1.2.2.2.2.1.1 + s1.1 + 2 * 0 := g2
      have g3 : s1.2.2.2.2.1.2.2 + 0 + s.1 ≤ s.2.2.2.2.1.2.2 + s1.1 + 0 := g3
      refine ⟨?_, ?_, ?_⟩ <;> omega
    | inr o =>
      cases o with
      | none => exact ⟨g1, g2, g3⟩
      | some z =>
        have g1 : s1.2.2.2.2.1.1 + s.1 + s.2.2.1.length ≤ s.2.2.2.2.1.1 + 0 + s1.1 + s1.2.2.1.length := g1
        have g2 : s1.2.2.2.2.1.2.1 + 0 + s.2.2.2.2.1.1 + s.1 ≤ s.2.2.2.2.1.2.1 + 1 + s1.2.2.2.2.1.1 + s1.1 + 2 * 0 := g2
        have g3 : s1.2.2.2.2.1.2.2 + 0 + s.1 ≤ s.2.2.2.2.1.2.2 + s1.1 + 0 := g3
        show zBd 0 0 (zru (match zhandled σ wov pt ty k m i z s1 with
          | (.inl v', s'') => zstepsF σ wov pt ty k m (i + 1) l v' s''
          | e => e : zX × zR).1) 0 s (match zhandled σ wov pt ty k m i z s1 with
          | (.inl v', s'') => zstepsF σ wov pt ty k m (i + 1) l v' s''
          | e => e)
        cases hz : zhandler (zbody σ k m) z i with
        | none =>
          rw [zhandled_n hz]
          refine ⟨g1, ?_, g3⟩
          show s1.2.2.2.2.1.2.1 + 0 + s.2.2.2.2.1.1 + s.1 ≤ s.2.2.2.2.1.2.1 + 1 + s1.2.2.2.2.1.1 + s1.1 + 2 * 0
          omega
        | some j =>
          rw [zhandled_s hz]
          have h5 : zBn 0 1 0 1 s1.1 s1.2.2.1.length s1.2.2.2.2.1.1 s1.2.2.2.2.1.2.1 s1.2.2.2.2.1.2.2 (pt (104, z, ty, some (k, m, zplace (zbody σ k m) j)) 0 (zRk wov k m (zplace (zbody σ k m) j) s1)) := hp _ _ _
          generalize pt (104, z, ty, some (k, m, zplace (zbody σ k m) j)) 0 (zRk wov k m (zplace (zbody σ k m) j) s1) = q5 at h5 ⊢
          obtain ⟨x5, s5⟩ := q5
          obtain ⟨e1, e2, e3⟩ := h5
          have e1 : s5.2.2.2.2.1.1 + s1.1 + s1.2.2.1.length ≤ s1.2.2.2.2.1.1 + 0 + s5.1 + s5.2.2.1.length := e1
          have e2 : s5.2.2.2.2.1.2.1 + 1 + s1.2.2.2.2.1.1 + s1.1 ≤ s1.2.2.2.2.1.2.1 + 0 + s5.2.2.2.2.1.1 + s5.1 + 2 * zu x5 := e2
          have e3 : s5.2.2.2.2.1.2.2 + 1 + s1.1 ≤ s1.2.2.2.2.1.2.2 + s5.1 + zu x5 := e3
          cases x5 with
          | inl v5 =>
            have e2 : s5.2.2.2.2.1.2.1 + 1 + s1.2.2.2.2.1.1 + s1.1 ≤ s1.2.2.2.2.1.2.1 + 0 + s5.2.2.2.2.1.1 + s5.1 + 2 * 0 := e2
            have e3 : s5.2.2.2.2.1.2.2 + 1 + s1.1 ≤ s1.2.2.2.2.1.2.2 + s5.1 + 0 := e3
            have h2 := ih (i + 1) v5 s5
            show zBd 0 0 (zru (zstepsF σ wov pt ty k m (i + 1) l v5 s5).1) 0 s (zstepsF σ wov pt ty k m (i + 1) l v5 s5)
            generalize zstepsF σ wov pt ty k m (i + 1) l v5 s5 = q2 at h2 ⊢
            obtain ⟨f1, f2, f3⟩ := h2
            refine ⟨?_, ?_, ?_⟩ <;> omega
          | inr o =>
            show zBd 0 0 (zru (.inr o)) 0 s (.inr o, s5)
            refine ⟨?_, ?_, ?_⟩
            · show s5.2.2.2.2.1.1 + s.1 + s.2.2.1.length ≤ s.2.2.2.2.1.1 + 0 + s5.1 + s5.2.2.1.length
              omega
            · show s5.2.2.2.2.1.2.1 + 0 + s.2.2.2.2.1.1 + s.1 ≤ s.2.2.2.2.1.2.1 + zru (.inr o) + s5.2.2.2.2.1.1 + s5.1 + 2 * zu (.inr o)
              omega
            · show s5.2.2.2.2.1.2.2 + 0 + s.1 ≤ s.2.2.2.2.1.2.2 + s5.1 + zu (.inr o)
              omega
theorem zru_le (x : zX) : zru x ≤ 1 := by
  cases x with
  | inl v => exact Nat.zero_le _
  | inr o => cases o <;> exact zle
theorem zbd_same (v : Int32) (s : zR) : zBd 0 0 1 0 s (.inl v, s) := by
  refine ⟨Nat.le_refl _, ?_, Nat.le_refl _⟩
  show s.2.2.2.2.1.2.1 + 0 + s.2.2.2.2.1.1 + s.1 ≤ s.2.2.2.2.1.2.1 + 1 + s.2.2.2.2.1.1 + s.1 + 2 * 0
  omega
theorem zbd_act (hp : ∀ q v s, zBd 0 1 0 1 s (pt q v s)) (q : zPi) (v : Int32) (s : zR) : zBd 0 0 1 0 s (zact σ wov pt q v s) := by
  have hpt : ∀ q v s, zBd 0 0 1 0 s (pt q v s) := fun q v s => zbd_mono (hp q v s) (by omega) (by omega) (by omega)
  unfold zact
  show zBd 0 0 1 0 s (if q.1 = 99 then _ else if q.1 = 101 then _ else if q.1 = 103 then _ else if q.1 = 115 then _ else _ : zX × zR)
  by_cases c1 : q.1 = 99
  · rw [if_pos c1]
    cases zfind σ (zAt q.2.1) q.2.2.1 with
    | none =>
      refine ⟨Nat.le_refl _, ?_, Nat.le_refl _⟩
      show s.2.2.2.2.1.2.1 + 1 + 0 + s.2.2.2.2.1.1 + s.1 ≤ s.2.2.2.2.1.2.1 + 1 + s.2.2.2.2.1.1 + s.1 + 2 * 0
      omega
    | some k => exact hpt (101, q.2.1, q.2.2.1, some (k, zAt q.2.1, 0)) v (zRk wov k (zAt q.2.1) 0 s)
  rw [if_neg c1]
  by_cases c2 : q.1 = 101
  · rw [if_pos c2]
    cases q.2.2.2 with
    | none => exact zbd_same v s
    | some x => exact zbd_mono (zbd_steps (σ := σ) (wov := wov) hp q.2.2.1 x.1 x.2.1 (zbody σ x.1 x.2.1) 0 v s) (by omega) (by have := zru_le (zstepsF σ wov pt q.2.2.1 x.1 x.2.1 0 (zbody σ x.1 x.2.1) v s).1; omega) (by omega)
  rw [if_neg c2]
  by_cases c3 : q.1 = 103
  · rw [if_pos c3]
    exact zbd_same _ s
  rw [if_neg c3]
  by_cases c4 : q.1 = 115
  · rw [if_pos c4]
    exact zbd_same v s
  rw [if_neg c4]
  exact zbd_same v s
theorem zbd_point (hT : ∀ n, (zadv σ n).2.2.2.2.1 ≤ 2) : ∀ (d : Nat) (l : List zIn) (q : zPi) (v : Int32) (s : zR), zBd 0 1 0 1 s (zpoint σ wov d l q v s)
  | 0, l, q, v, s => zbd_up s
  | d + 1, l, q, v, s => by
    rw [zpoint]
    show zBd 0 1 0 1 s (if s.1 = 120 then (zup, zRe s) else _ : zX × zR)
    by_cases h9 : s.1 = 120
    · rw [if_pos h9]
      exact zbd_up s
    · rw [if_neg h9]
      have ih := zbd_point hT d
      generalize ((zoa σ).filter (zasks σ wov q.2.2.2)).length = n
      have h1 : zBn 1 0 0 0 (s.1 + 1) s.2.2.1.length s.2.2.2.2.1.1 s.2.2.2.2.1.2.1 s.2.2.2.2.1.2.2 (zgo σ (zact σ wov (zpoint σ wov d (zinfo q v :: l)) q) ((zoa σ).filter (ztakes σ wov q.2.2.2 (zinfo q v :: l))) v (zRq n (zRp s))) := zbd_go hT (fun v s => zbd_act (fun q v s => ih _ q v s) q v s) ((zoa σ).filter (ztakes σ wov q.2.2.2 (zinfo q v :: l))) v (zRq n (zRp s))
      generalize zgo σ (zact σ wov (zpoint σ wov d (zinfo q v :: l)) q) ((zoa σ).filter (ztakes σ wov q.2.2.2 (zinfo q v :: l))) v (zRq n (zRp s)) = q at h1 ⊢
      obtain ⟨g1, g2, g3⟩ := h1
      refine ⟨?_, ?_, ?_⟩ <;> omega
-- ===== points and trace never pass their bounds =====
def zlm (s : zR) : Prop := s.1 ≤ 120 ∧ s.2.2.1.length ≤ 400
theorem zlm_rep {g : Int32 → zM} (hg : ∀ v s, zlm s → zlm (g v s).2) (more : Int32) : ∀ (t : Nat) (v : Int32) (s : zR), zlm s → zlm (zrep g more t v s).2
  | 0, v, s, h => h
  | t + 1, v, s, h => by
    rw [zrep]
    have h1 := hg (v + more) s h
    show zlm (match g (v + more) s with | (.inl v', s') => zrep g more t v' s' | e => e : zX × zR).2
    generalize g (v + more) s = q at h1 ⊢
    obtain ⟨x, s'⟩ := q
    cases x with
    | inl v' => exact zlm_rep hg more t v' s' h1
    | inr o => exact h1
theorem zlm_add {n : Nat} {v : Int32} (h : zlm s) (hl : ¬ s.2.2.1.length = 400) : zlm (zRt ((zadv σ n).2.1, v, n) s) := by
  refine ⟨h.1, ?_⟩
  rw [zrt_len]
  have := h.2
  omega
theorem zlm_beh (n : Nat) (h : zlm q.2) : zlm (zbeh σ n q).2 := by
  obtain ⟨x, s'⟩ := q
  have h : zlm s' := h
  cases x with
  | inl v' =>
    show zlm (if (zadv σ n).2.1 = 120 then (.inl v', s') else match zadd σ n v' s' with | none => (zup, zRe s') | some s1 => (.inl v', s1) : zX × zR).2
    split
    · exact h
    · rcases zadd_cases (σ := σ) n v' s' with ⟨-, e⟩ | ⟨hl, e⟩ <;> rw [e]
      · exact h
      · exact zlm_add h hl
  | inr o =>
    cases o with
    | none => exact h
    | some z =>
      show zlm (if (zadv σ n).2.1 = 97 then (zraise z, s') else match zadd σ n z s' with | none => (zup, zRe s') | some s1 => (zraise z, s1) : zX × zR).2
      split
      · exact h
      · rcases zadd_cases (σ := σ) n z s' with ⟨-, e⟩ | ⟨hl, e⟩ <;> rw [e]
        · exact h
        · exact zlm_add h hl
theorem zlm_go (ha : ∀ v s, zlm s → zlm (act v s).2) : ∀ (l : List Nat) (v : Int32) (s : zR), zlm s → zlm (zgo σ act l v s).2
  | [], v, s, h => ha v (zRa s) h
  | n :: l, v, s, h => by
    have ih := zlm_go ha l
    by_cases hk : (zadv σ n).2.1 = 114
    · rw [zgo_r hk]
      rcases zadd_cases (σ := σ) n v s with ⟨-, e⟩ | ⟨hl, e⟩ <;> rw [e]
      · exact h
      · exact zlm_rep ih _ _ _ _ (zlm_add h hl)
    · by_cases hk2 : (zadv σ n).2.1 = 98
      · rw [zgo_b hk2]
        rcases zadd_cases (σ := σ) n v s with ⟨-, e⟩ | ⟨hl, e⟩ <;> rw [e]
        · exact h
        · exact ih _ _ (zlm_add h hl)
      · rw [zgo_o hk hk2]
        exact zlm_beh n (ih v s h)
theorem zlm_done (hp : ∀ q v s, zlm s → zlm (pt q v s).2) (ty k m p : Nat) (st : zSt) (v : Int32) (s0 : zR) (h : zlm s0) : zlm (zdone wov pt ty k m p st v s0).2 := by
  rw [zdone_eq]
  have hs : zlm (if 0 < zplaces st then zRk wov k m p s0 else s0) := by
    split
    · exact h
    · exact h
  generalize (if 0 < zplaces st then zRk wov k m p s0 else s0) = s at hs ⊢
  unfold zdn1
  show zlm (if st.1 = 110 then _ else if st.1 = 99 then _ else if st.1 = 109 then _ else if st.1 = 103 ∨ st.1 = 115 then _ else if st.1 = 116 then _ else _ : zX × zR).2
  split
  · exact hs
  split
  · exact hp _ _ _ hs
  split
  · have h1 := hp (109, st.2.1, zAt st.2.1, some (k, m, p)) v (zRF (fun _ => 0) (zRm s)) hs
    generalize pt (109, st.2.1, zAt st.2.1, some (k, m, p)) v (zRF (fun _ => 0) (zRm s)) = q1 at h1 ⊢
    obtain ⟨x1, s1⟩ := q1
    cases x1 with
    | inl v1 => exact hp (99, st.2.2, zAt st.2.1, some (k, m, p + 1)) v1 (zRk wov k m (p + 1) s1) h1
    | inr o => exact h1
  split
  · exact hp _ _ _ hs
  split
  · split
    · exact hs
    · exact hs
  · exact hs
theorem zlm_steps (hp : ∀ q v s, zlm s → zlm (pt q v s).2) (ty k m : Nat) : ∀ (l : List zSt) (i : Nat) (v : Int32) (s : zR), zlm s → zlm (zstepsF σ wov pt ty k m i l v s).2
  | [], i, v, s, h => h
  | st :: l, i, v, s, h => by
    have ih := zlm_steps hp ty k m l
    rw [zsteps_c]
    have h1 := zlm_done (wov := wov) hp ty k m (zplace (zbody σ k m) i) st v s h
    generalize zdone wov pt ty k m (zplace (zbody σ k m) i) st v s = q1 at h1 ⊢
    obtain ⟨x1, s1⟩ := q1
    cases x1 with
    | inl v1 => exact ih (i + 1) v1 s1 h1
    | inr o =>
      cases o with
      | none => exact h1
      | some z =>
        show zlm (match zhandled σ wov pt ty k m i z s1 with
          | (.inl v', s'') => zstepsF σ wov pt ty k m (i + 1) l v' s''
          | e => e : zX × zR).2
        cases hz : zhandler (zbody σ k m) z i with
        | none =>
          rw [zhandled_n hz]
          exact h1
        | some j =>
          rw [zhandled_s hz]
          have h5 := hp (104, z, ty, some (k, m, zplace (zbody σ k m) j)) 0 (zRk wov k m (zplace (zbody σ k m) j) s1) h1
          generalize pt (104, z, ty, some (k, m, zplace (zbody σ k m) j)) 0 (zRk wov k m (zplace (zbody σ k m) j) s1) = q5 at h5 ⊢
          obtain ⟨x5, s5⟩ := q5
          cases x5 with
          | inl v5 => exact ih (i + 1) v5 s5 h5
          | inr o => exact h5
theorem zlm_act (hp : ∀ q v s, zlm s → zlm (pt q v s).2) (q : zPi) (v : Int32) (s : zR) (h : zlm s) : zlm (zact σ wov pt q v s).2 := by
  unfold zact
  show zlm (if q.1 = 99 then _ else if q.1 = 101 then _ else if q.1 = 103 then _ else if q.1 = 115 then _ else _ : zX × zR).2
  split
  · cases zfind σ (zAt q.2.1) q.2.2.1 with
    | none => exact h
    | some k => exact hp (101, q.2.1, q.2.2.1, some (k, zAt q.2.1, 0)) v (zRk wov k (zAt q.2.1) 0 s) h
  split
  · cases q.2.2.2 with
    | none => exact h
    | some x => exact zlm_steps hp q.2.2.1 x.1 x.2.1 (zbody σ x.1 x.2.1) 0 v s h
  split
  · exact h
  split
  · exact h
  · exact h
theorem zlm_point : ∀ (d : Nat) (l : List zIn) (q : zPi) (v : Int32) (s : zR), zlm s → zlm (zpoint σ wov d l q v s).2
  | 0, l, q, v, s, h => h
  | d + 1, l, q, v, s, h => by
    rw [zpoint]
    show zlm (if s.1 = 120 then (zup, zRe s) else _ : zX × zR).2
    by_cases h9 : s.1 = 120
    · rw [if_pos h9]
      exact h
    · rw [if_neg h9]
      refine zlm_go (fun v s hs => zlm_act (fun q v s hs => zlm_point d _ q v s hs) q v s hs) _ _ _ ⟨?_, h.2⟩
      show s.1 + 1 ≤ 120
      have := h.1
      omega
theorem zwf_times (hw : zwf σ) (n : Nat) : (zadv σ n).2.2.2.2.1 ≤ 2 := by
  unfold zadv
  rw [List.getD_eq_getElem?_getD]
  cases hn : σ.2.2.1[n]? with
  | none => exact zle
  | some a => exact (hw.2.2.2.2.2.1 a (List.mem_of_getElem? hn)).2.2.2
/-- a run's room -/
theorem zrun_room (hw : zwf σ) (k m : Nat) (v : Int32) (f : Nat → Nat → Nat) : (zrun σ wov k m v f).2.1 ≤ 120 ∧ (zrun σ wov k m v f).2.2.2.1.length ≤ 400 ∧ (zrun σ wov k m v f).2.2.2.2.2.1.1 ≤ 520 ∧ (zrun σ wov k m v f).2.2.2.2.2.1.2.1 ≤ 641 ∧ (zrun σ wov k m v f).2.2.2.2.2.1.2.2 ≤ 120 := by
  have h1 : zBn 0 1 0 1 0 0 0 0 0 (zrun σ wov k m v f) := zbd_point (zwf_times hw) 20 [] (99, nI m, k, none) v (zr0 f)
  have h2 : zlm (zrun σ wov k m v f).2 := zlm_point 20 [] (99, nI m, k, none) v (zr0 f) ⟨Nat.zero_le _, Nat.zero_le _⟩
  generalize zrun σ wov k m v f = q at h1 h2 ⊢
  obtain ⟨g1, g2, g3⟩ := h1
  obtain ⟨l1, l2⟩ := h2
  have hu : zu q.1 ≤ 1 := by
    cases q.1 with
    | inl v => exact Nat.zero_le _
    | inr o => cases o <;> exact zle
  refine ⟨l1, l2, ?_, ?_, ?_⟩ <;> omega
theorem zsm_c {f : Nat → Nat} {c : Nat} : ∀ {n : Nat}, (∀ j, j < n → f j ≤ c) → zsm f n ≤ c * n
  | 0, h => Nat.zero_le _
  | n + 1, h => by
    have ih := zsm_c (fun j hj => h j (by omega)) (f := f) (n := n) (c := c)
    have h1 := h n (by omega)
    show zsm f n + f n ≤ c * (n + 1)
    rw [Nat.mul_succ]
    omega
theorem zrem_612 (hw : zwf σ) (f : Nat → Nat → Nat) : zrem σ f ≤ 612 := by
  refine Nat.le_trans (zsm_c (c := 17) (fun j hj => ?_)) (by decide)
  have := zspots_le hw (k := j / 6) (m := j % 6) (by omega)
  omega
theorem zrun_cost (hw : zwf σ) (k m : Nat) (v : Int32) (f : Nat → Nat → Nat) : zcc σ (zr0 f) (zrun σ wov k m v f).2 ≤ 2986 ∧ zcs σ (zr0 f) (zrun σ wov k m v f).2 ≤ 28183 := by
  obtain ⟨b1, b2, b3, b4, b5⟩ := zrun_room (wov := wov) hw k m v f
  have h6 := zrem_612 hw f
  generalize (zrun σ wov k m v f).2 = s at b1 b2 b3 b4 b5 ⊢
  constructor
  · show zPc s - 0 + 2 * (zrem σ f - zrem σ s.2.2.2.2.2) ≤ 2986
    unfold zPc
    omega
  · show zPs s - 0 + 31 * (zrem σ f - zrem σ s.2.2.2.2.2) ≤ 28183
    unfold zPs
    omega
end ZY2
