/-! SPEC: how much a run can do -/
section ZY1
variable {σ : zS} {act : Int32 → zM} {pt : zPF} {wov : Bool} {s s1 s2 : zR} {q : zX × zR}
def zu (x : zX) : Nat := match x with | .inr none => 1 | _ => 0
def zru (x : zX) : Nat := match x with | .inr (some _) => 1 | _ => 0
/-- acts, exceptions and objects made, in terms of points and trace -/
def zBn (A1 E0 E1 M0 p t a e m : Nat) (q : zX × zR) : Prop :=
  q.2.2.2.2.2.1.1 + p + t ≤ a + A1 + q.2.1 + q.2.2.2.1.length ∧ q.2.2.2.2.2.1.2.1 + E0 + a + p ≤ e + E1 + q.2.2.2.2.2.1.1 + q.2.1 + 2 * zu q.1 ∧ q.2.2.2.2.2.1.2.2 + M0 + p ≤ m + q.2.1 + zu q.1
abbrev zBd (A1 E0 E1 M0 : Nat) (s : zR) (q : zX × zR) : Prop := zBn A1 E0 E1 M0 s.1 s.2.2.1.length s.2.2.2.2.1.1 s.2.2.2.2.1.2.1 s.2.2.2.2.1.2.2 q
theorem zrt_len (x : zAc) (s : zR) : (zRt x s).2.2.1.length = s.2.2.1.length + 1 := by
  unfold zRt
  simp
theorem zbd_up (s : zR) : zBd 0 1 0 1 s (zup, zRe s) := by
  refine ⟨?_, ?_, ?_⟩
  · show s.2.2.2.2.1.1 + s.1 + s.2.2.1.length ≤ s.2.2.2.2.1.1 + 0 + s.1 + s.2.2.1.length
    omega
  · show s.2.2.2.2.1.2.1 + 1 + 1 + s.2.2.2.2.1.1 + s.1 ≤ s.2.2.2.2.1.2.1 + 0 + s.2.2.2.2.1.1 + s.1 + 2 * 1
    omega
  · show s.2.2.2.2.1.2.2 + 1 + s.1 ≤ s.2.2.2.2.1.2.2 + s.1 + 1
    omega
theorem zbd_mono {A1 E0 E1 M0 A1' E0' E1' M0' : Nat} (h : zBd A1 E0 E1 M0 s q) (hA : A1 ≤ A1') (hE : E0' + E1 ≤ E0 + E1') (hM : M0' ≤ M0) : zBd A1' E0' E1' M0' s q := by
  obtain ⟨h1, h2, h3⟩ := h
  refine ⟨?_, ?_, ?_⟩ <;> omega
theorem zbd_rep {g : Int32 → zM} (hg : ∀ v s, zBd 1 0 0 0 s (g v s)) (more : Int32) : ∀ (t : Nat) (v : Int32) (s : zR), zBd t 0 0 0 s (zrep g more t v s)
  | 0, v, s => by
    refine ⟨Nat.le_refl _, Nat.le_refl _, Nat.le_refl _⟩
  | t + 1, v, s => by
    rw [zrep]
    have h := hg (v + more) s
    show zBd (t + 1) 0 0 0 s (match g (v + more) s with | (.inl v', s') => zrep g more t v' s' | e => e)
    generalize g (v + more) s = q at h ⊢
    obtain ⟨x, s'⟩ := q
    cases x with
    | inl v' =>
      have h9 := zbd_rep hg more t v' s'
      show zBd (t + 1) 0 0 0 s (zrep g more t v' s')
      generalize zrep g more t v' s' = q at h9 ⊢
      obtain ⟨h1, h2, h3⟩ := h
      obtain ⟨g1, g2, g3⟩ := h9
      have h1 : s'.2.2.2.2.1.1 + s.1 + s.2.2.1.length ≤ s.2.2.2.2.1.1 + 1 + s'.1 + s'.2.2.1.length := h1
      have h2 : s'.2.2.2.2.1.2.1 + 0 + s.2.2.2.2.1.1 + s.1 ≤ s.2.2.2.2.1.2.1 + 0 + s'.2.2.2.2.1.1 + s'.1 + 2 * 0 := h2
      have h3 : s'.2.2.2.2.1.2.2 + 0 + s.1 ≤ s.2.2.2.2.1.2.2 + s'.1 + 0 := h3
      refine ⟨?_, ?_, ?_⟩ <;> omega
    | inr o => exact zbd_mono h (by omega) (by omega) (by omega)
theorem zbd_beh (n : Nat) (h : zBd 1 0 0 0 s q) : zBd 1 0 0 0 s (zbeh σ n q) := by
  obtain ⟨x, s'⟩ := q
  have up : (zu x = 0) → zBd 1 0 0 0 s (zup, zRe s') := by
    intro hx
    obtain ⟨h1, h2, h3⟩ := h
    obtain ⟨g1, g2, g3⟩ := zbd_up s'
    have h1 : s'.2.2.2.2.1.1 + s.1 + s.2.2.1.length ≤ s.2.2.2.2.1.1 + 1 + s'.1 + s'.2.2.1.length := h1
    have h2 : s'.2.2.2.2.1.2.1 + 0 + s.2.2.2.2.1.1 + s.1 ≤ s.2.2.2.2.1.2.1 + 0 + s'.2.2.2.2.1.1 + s'.1 + 2 * zu x := h2
    have h3 : s'.2.2.2.2.1.2.2 + 0 + s.1 ≤ s.2.2.2.2.1.2.2 + s'.1 + zu x := h3
    refine ⟨?_, ?_, ?_⟩ <;> omega
  have ad : ∀ (v : Int32), zBd 1 0 0 0 s (x, zRt ((zadv σ n).2.1, v, n) s') := by
    intro v
    have hl := zrt_len ((zadv σ n).2.1, v, n) s'
    obtain ⟨h1, h2, h3⟩ := h
    have h1 : s'.2.2.2.2.1.1 + s.1 + s.2.2.1.length ≤ s.2.2.2.2.1.1 + 1 + s'.1 + s'.2.2.1.length := h1
    refine ⟨?_, h2, h3⟩
    show s'.2.2.2.2.1.1 + s.1 + s.2.2.1.length ≤ s.2.2.2.2.1.1 + 1 + s'.1 + (zRt ((zadv σ n).2.1, v, n) s').2.2.1.length
    omega
  cases x with
  | inl v' =>
    show zBd 1 0 0 0 s (if (zadv σ n).2.1 = 120 then (.inl v', s') else match zadd σ n v' s' with | none => (zup, zRe s') | some s1 => (.inl v', s1) : zX × zR)
    split
    · exact h
    · rcases zadd_cases (σ := σ) n v' s' with ⟨-, e⟩ | ⟨-, e⟩ <;> rw [e]
      · exact up rfl
      · exact ad v'
  | inr o =>
    cases o with
    | none => exact h
    | some z =>
      show zBd 1 0 0 0 s (if (zadv σ n).2.1 = 97 then (zraise z, s') else match zadd σ n z s' with | none => (zup, zRe s') | some s1 => (zraise z, s1) : zX × zR)
      split
      · exact h
      · rcases zadd_cases (σ := σ) n z s' with ⟨-, e⟩ | ⟨-, e⟩ <;> rw [e]
        · exact up rfl
        · exact ad z
theorem zbd_go (hT : ∀ n, (zadv σ n).2.2.2.2.1 ≤ 2) (ha : ∀ v s, zBd 0 0 1 0 s (act v s)) : ∀ (l : List Nat) (v : Int32) (s : zR), zBd 1 0 0 0 s (zgo σ act l v s)
  | [], v, s => by
    have h : zBn 0 0 1 0 s.1 s.2.2.1.length (s.2.2.2.2.1.1 + 1) s.2.2.2.2.1.2.1 s.2.2.2.2.1.2.2 (act v (zRa s)) := ha v (zRa s)
    show zBd 1 0 0 0 s (act v (zRa s))
    obtain ⟨h1, h2, h3⟩ := h
    refine ⟨?_, ?_, ?_⟩ <;> omega
  | n :: l, v, s => by
    have ih := zbd_go hT ha l
    by_cases hk : (zadv σ n).2.1 = 114
    · rw [zgo_r hk]
      rcases zadd_cases (σ := σ) n v s with ⟨-, e⟩ | ⟨-, e⟩ <;> rw [e]
      · exact zbd_mono (zbd_up s) (by omega) (by omega) (by omega)
      · have h9 := zbd_rep ih (zadv σ n).2.2.2.1 (zadv σ n).2.2.2.2.1 v (zRt ((zadv σ n).2.1, v, n) s)
        have hl := zrt_len ((zadv σ n).2.1, v, n) s
        have ht := hT n
        show zBd 1 0 0 0 s (zrep (zgo σ act l) (zadv σ n).2.2.2.1 (zadv σ n).2.2.2.2.1 v (zRt ((zadv σ n).2.1, v, n) s))
        generalize zrep (zgo σ act l) (zadv σ n).2.2.2.1 (zadv σ n).2.2.2.2.1 v (zRt ((zadv σ n).2.1, v, n) s) = q at h9 ⊢
        rw [zBd, hl] at h9
        obtain ⟨g1, g2, g3⟩ := h9
        have g1 : q.2.2.2.2.2.1.1 + s.1 + (s.2.2.1.length + 1) ≤ s.2.2.2.2.1.1 + (zadv σ n).2.2.2.2.1 + q.2.1 + q.2.2.2.1.length := g1
        have g2 : q.2.2.2.2.2.1.2.1 + 0 + s.2.2.2.2.1.1 + s.1 ≤ s.2.2.2.2.1.2.1 + 0 + q.2.2.2.2.2.1.1 + q.2.1 + 2 * zu q.1 := g2
        have g3 : q.2.2.2.2.2.1.2.2 + 0 + s.1 ≤ s.2.2.2.2.1.2.2 + q.2.1 + zu q.1 := g3
        refine ⟨?_, ?_, ?_⟩ <;> omega
    · by_cases hk2 : (zadv σ n).2.1 = 98
      · rw [zgo_b hk2]
        rcases zadd_cases (σ := σ) n v s with ⟨-, e⟩ | ⟨-, e⟩ <;> rw [e]
        · exact zbd_mono (zbd_up s) (by omega) (by omega) (by omega)
        · have h9 := ih v (zRt ((zadv σ n).2.1, v, n) s)
          have hl := zrt_len ((zadv σ n).2.1, v, n) s
          show zBd 1 0 0 0 s (zgo σ act l v (zRt ((zadv σ n).2.1, v, n) s))
          generalize zgo σ act l v (zRt ((zadv σ n).2.1, v, n) s) = q at h9 ⊢
          rw [zBd, hl] at h9
          obtain ⟨g1, g2, g3⟩ := h9
          have g1 : q.2.2.2.2.2.1.1 + s.1 + (s.2.2.1.length + 1) ≤ s.2.2.2.2.1.1 + 1 + q.2.1 + q.2.2.2.1.length := g1
          have g2 : q.2.2.2.2.2.1.2.1 + 0 + s.2.2.2.2.1.1 + s.1 ≤ s.2.2.2.2.1.2.1 + 0 + q.2.2.2.2.2.1.1 + q.2.1 + 2 * zu q.1 := g2
          have g3 : q.2.2.2.2.2.1.2.2 + 0 + s.1 ≤ s.2.2.2.2.1.2.2 + q.2.1 + zu q.1 := g3
          refine ⟨?_, ?_, ?_⟩ <;> omega
      · rw [zgo_o hk hk2]
        exact zbd_beh n (ih v s)
theorem zbd_done (hp : ∀ q v s, zBd 0 1 0 1 s (pt q v s)) (ty k m p : Nat) (st : zSt) (v : Int32) (s0 : zR) : zBd 0 0 (zru (zdone wov pt ty k m p st v s0).1) 0 s0 (zdone wov pt ty k m p st v s0) := by
  have hpt : ∀ q v s, zBd 0 0 (zru (pt q v s).1) 0 s (pt q v s) := fun q v s => zbd_mono (hp q v s) (by omega) (by omega) (by omega)
  rw [zdone_eq]
  have hs : ∀ q x, zBd 0 0 x 0 (if 0 < zplaces st then zRk wov k m p s0 else s0) q → zBd 0 0 x 0 s0 q := by
    intro q x h
    split at h
    · exact h
    · exact h
  refine hs _ _ ?_
  generalize (if 0 < zplaces st then zRk wov k m p s0 else s0) = s
  unfold zdn1
  show zBd 0 0 (zru (if st.1 = 110 then _ else if st.1 = 99 then _ else if st.1 = 109 then _ else if st.1 = 103 ∨ st.1 = 115 then _ else if st.1 = 116 then _ else _ : zX × zR).1) 0 s (if st.1 = 110 then _ else if st.1 = 99 then _ else if st.1 = 109 then _ else if st.1 = 103 ∨ st.1 = 115 then _ else if st.1 = 116 then _ else _ : zX × zR)
  by_cases c1 : st.1 = 110
  · rw [if_pos c1]
    refine ⟨Nat.le_refl _, ?_, Nat.le_refl _⟩
    show s.2.2.2.2.1.2.1 + 0 + s.2.2.2.2.1.1 + s.1 ≤ s.2.2.2.2.1.2.1 + 0 + s.2.2.2.2.1.1 + s.1 + 2 * 0
    omega
  rw [if_neg c1]
  by_cases c2 : st.1 = 99
  · rw [if_pos c2]
    exact hpt _ _ _
  rw [if_neg c2]
  by_cases c3 : st.1 = 109
  · rw [if_pos c3]
    have h9 : zBn 0 1 0 1 s.1 s.2.2.1.length s.2.2.2.2.1.1 s.2.2.2.2.1.2.1 (s.2.2.2.2.1.2.2 + 1) (pt (109, st.2.1, zAt st.2.1, some (k, m, p)) v (zRF (fun _ => 0) (zRm s))) := hp (109, st.2.1, zAt st.2.1, some (k, m, p)) v (zRF (fun _ => 0) (zRm s))
    generalize pt (109, st.2.1, zAt st.2.1, some (k, m, p)) v (zRF (fun _ => 0) (zRm s)) = q1 at h9 ⊢
    obtain ⟨x1, s1⟩ := q1
    obtain ⟨g1, g2, g3⟩ := h9
    cases x1 with
    | inl v1 =>
      have h8 : zBn 0 1 0 1 s1.1 s1.2.2.1.length s1.2.2.2.2.1.1 s1.2.2.2.2.1.2.1 s1.2.2.2.2.1.2.2 (pt (99, st.2.2, zAt st.2.1, some (k, m, p + 1)) v1 (zRk wov k m (p + 1) s1)) := hp (99, st.2.2, zAt st.2.1, some (k, m, p + 1)) v1 (zRk wov k m (p + 1) s1)
      generalize hq2 : pt (99, st.2.2, zAt st.2.1, some (k, m, p + 1)) v1 (zRk wov k m (p + 1) s1) = q2 at h8
      show zBd 0 0 (zru (match pt (99, st.2.2, zAt st.2.1, some (k, m, p + 1)) v1 (zRk wov k m (p + 1) s1) with | (x, s2) => (x, zRF s.2.2.2.1 s2) : zX × zR).1) 0 s (match pt (99, st.2.2, zAt st.2.1, some (k, m, p + 1)) v1 (zRk wov k m (p + 1) s1) with | (x, s2) => (x, zRF s.2.2.2.1 s2) : zX × zR)
      rw [hq2]
      obtain ⟨x2, s2⟩ := q2
      obtain ⟨f1, f2, f3⟩ := h8
      have g1 : s1.2.2.2.2.1.1 + s.1 + s.2.2.1.length ≤ s.2.2.2.2.1.1 + 0 + s1.1 + s1.2.2.1.length := g1
      have g2 : s1.2.2.2.2.1.2.1 + 1 + s.2.2.2.2.1.1 + s.1 ≤ s.2.2.2.2.1.2.1 + 0 + s1.2.2.2.2.1.1 + s1.1 + 2 * 0 := g2
      have g3 : s1.2.2.2.2.1.2.2 + 1 + s.1 ≤ s.2.2.2.2.1.2.2 + 1 + s1.1 + 0 := g3
      have f1 : s2.2.2.2.2.1.1 + s1.1 + s1.2.2.1.length ≤ s1.2.2.2.2.1.1 + 0 + s2.1 + s2.2.2.1.length := f1
      have f2 : s2.2.2.2.2.1.2.1 + 1 + s1.2.2.2.2.1.1 + s1.1 ≤ s1.2.2.2.2.1.2.1 + 0 + s2.2.2.2.2.1.1 + s2.1 + 2 * zu x2 := f2
      have f3 : s2.2.2.2.2.1.2.2 + 1 + s1.1 ≤ s1.2.2.2.2.1.2.2 + s2.1 + zu x2 := f3
      refine ⟨?_, ?_, ?_⟩
      · show s2.2.2.2.2.1.1 + s.1 + s.2.2.1.length ≤ s.2.2.2.2.1.1 + 0 + s2.1 + s2.2.2.1.length
        omega
      · show s2.2.2.2.2.1.2.1 + 0 + s.2.2.2.2.1.1 + s.1 ≤ s.2.2.2.2.1.2.1 + zru x2 + s2.2.2.2.2.1.1 + s2.1 + 2 * zu x2
        omega
      · show s2.2.2.2.2.1.2.2 + 0 + s.1 ≤ s.2.2.2.2.1.2.2 + s2.1 + zu x2
        omega
    | inr o =>
      have g1 : s1.2.2.2.2.1.1 + s.1 + s.2.2.1.length ≤ s.2.2.2.2.1.1 + 0 + s1.1 + s1.2.2.1.length := g1
      have g2 : s1.2.2.2.2.1.2.1 + 1 + s.2.2.2.2.1.1 + s.1 ≤ s.2.2.2.2.1.2.1 + 0 + s1.2.2.2.2.1.1 + s1.1 + 2 * zu (.inr o) := g2
      have g3 : s1.2.2.2.2.1.2.2 + 1 + s.1 ≤ s.2.2.2.2.1.2.2 + 1 + s1.1 + zu (.inr o) := g3
      refine ⟨?_, ?_, ?_⟩
      · show s1.2.2.2.2.1.1 + s.1 + s.2.2.1.length ≤ s.2.2.2.2.1.1 + 0 + s1.1 + s1.2.2.1.length
        omega
      · show s1.2.2.2.2.1.2.1 + 0 + s.2.2.2.2.1.1 + s.1 ≤ s.2.2.2.2.1.2.1 + zru (.inr o) + s1.2.2.2.2.1.1 + s1.1 + 2 * zu (.inr o)
        omega
      · show s1.2.2.2.2.1.2.2 + 0 + s.1 ≤ s.2.2.2.2.1.2.2 + s1.1 + zu (.inr o)
        omega
  rw [if_neg c3]
  by_cases c4 : st.1 = 103 ∨ st.1 = 115
  · rw [if_pos c4]
    exact hpt _ _ _
  rw [if_neg c4]
  have same : zBd 0 0 (zru (.inl v)) 0 s (.inl v, s) := by
    refine ⟨Nat.le_refl _, ?_, Nat.le_refl _⟩
    show s.2.2.2.2.1.2.1 + 0 + s.2.2.2.2.1.1 + s.1 ≤ s.2.2.2.2.1.2.1 + 0 + s.2.2.2.2.1.1 + s.1 + 2 * 0
    omega
  by_cases c5 : st.1 = 116
  · rw [if_pos c5]
    by_cases c6 : st.2.2 < v
    · rw [if_pos c6]
      refine ⟨Nat.le_refl _, ?_, Nat.le_refl _⟩
      show s.2.2.2.2.1.2.1 + 1 + 0 + s.2.2.2.2.1.1 + s.1 ≤ s.2.2.2.2.1.2.1 + 1 + s.2.2.2.2.1.1 + s.1 + 2 * 0
      omega
    · rw [if_neg c6]
      exact same
  · rw [if_neg c5]
    exact same
end ZY1
