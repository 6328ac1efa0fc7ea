/-! THE REFERENCE: a run under way, what it costs -/
section ZTT
variable {G : wv_G} {B B' : zA} {σ σ' : zS} {h h0 h1 h2 h' : wv_H} {w : wv_W} {fr fr' kc ks : Nat} {P : wv_R → wv_H → Prop} {KX : String → Nat → wv_W → Prop} {a b L : Nat} {t : wv_T} {n : Nat} {ps : List Nat} {l : List zIn} {th : Int32} {wov : Bool} {s s1 s2 s' : zR} {cp : Nat × Nat}
-- ===== what a run costs =====
def zDc (σ : zS) (cp : Nat × Nat) (s : zR) : Nat := s.1 * (σ.2.1.length + 7 + cp.1 * σ.2.2.1.length) + 3 * s.2.2.2.2.1.1 + 2 * s.2.2.2.2.1.2.1 + 2 * s.2.2.2.2.1.2.2 + s.2.2.1.length + zgc (min s.2.2.1.length 400)
def zDs (σ : zS) (cp : Nat × Nat) (s : zR) : Nat := s.1 * (4 * σ.2.1.length + 66 + cp.2 * σ.2.2.1.length) + 17 * s.2.2.2.2.1.1 + 11 * s.2.2.2.2.1.2.1 + 6 * s.2.2.2.2.1.2.2 + 3 * s.2.2.1.length + zgs (min s.2.2.1.length 400)
def zdc (σ : zS) (cp : Nat × Nat) (s s' : zR) : Nat := zDc σ cp s' - zDc σ cp s
def zds (σ : zS) (cp : Nat × Nat) (s s' : zR) : Nat := zDs σ cp s' - zDs σ cp s
/-- later in a run -/
def zdl (σ : zS) (cp : Nat × Nat) (s s' : zR) : Prop := zDc σ cp s ≤ zDc σ cp s' ∧ zDs σ cp s ≤ zDs σ cp s'
theorem zdl.refl (s : zR) : zdl σ cp s s := ⟨Nat.le_refl _, Nat.le_refl _⟩
theorem zdl.trans (k1 : zdl σ cp s s1) (k2 : zdl σ cp s1 s2) : zdl σ cp s s2 := ⟨Nat.le_trans k1.1 k2.1, Nat.le_trans k1.2 k2.2⟩
theorem zdc_add (k1 : zdl σ cp s s1) (k2 : zdl σ cp s1 s2) : zdc σ cp s s1 + zdc σ cp s1 s2 = zdc σ cp s s2 := by
  obtain ⟨a1, a2⟩ := k1
  obtain ⟨b1, b2⟩ := k2
  unfold zdc
  omega
theorem zds_add (k1 : zdl σ cp s s1) (k2 : zdl σ cp s1 s2) : zds σ cp s s1 + zds σ cp s1 s2 = zds σ cp s s2 := by
  obtain ⟨a1, a2⟩ := k1
  obtain ⟨b1, b2⟩ := k2
  unfold zds
  omega
theorem zdl_e (s : zR) : zdl σ cp s (zRe s) ∧ zdc σ cp s (zRe s) = 2 ∧ zds σ cp s (zRe s) = 11 := by
  have e1 : zDc σ cp (zRe s) = zDc σ cp s + 2 := by
    show s.1 * (σ.2.1.length + 7 + cp.1 * σ.2.2.1.length) + 3 * s.2.2.2.2.1.1 + 2 * (s.2.2.2.2.1.2.1 + 1) + 2 * s.2.2.2.2.1.2.2 + s.2.2.1.length + zgc (min s.2.2.1.length 400) = zDc σ cp s + 2
    unfold zDc
    omega
  have e2 : zDs σ cp (zRe s) = zDs σ cp s + 11 := by
    show s.1 * (4 * σ.2.1.length + 66 + cp.2 * σ.2.2.1.length) + 17 * s.2.2.2.2.1.1 + 11 * (s.2.2.2.2.1.2.1 + 1) + 6 * s.2.2.2.2.1.2.2 + 3 * s.2.2.1.length + zgs (min s.2.2.1.length 400) = zDs σ cp s + 11
    unfold zDs
    omega
  unfold zdl zdc zds
  rw [e1, e2]
  omega
theorem zdl_a (s : zR) : zdl σ cp s (zRa s) ∧ zdc σ cp s (zRa s) = 3 ∧ zds σ cp s (zRa s) = 17 := by
  have e1 : zDc σ cp (zRa s) = zDc σ cp s + 3 := by
    show s.1 * (σ.2.1.length + 7 + cp.1 * σ.2.2.1.length) + 3 * (s.2.2.2.2.1.1 + 1) + 2 * s.2.2.2.2.1.2.1 + 2 * s.2.2.2.2.1.2.2 + s.2.2.1.length + zgc (min s.2.2.1.length 400) = zDc σ cp s + 3
    unfold zDc
    omega
  have e2 : zDs σ cp (zRa s) = zDs σ cp s + 17 := by
    show s.1 * (4 * σ.2.1.length + 66 + cp.2 * σ.2.2.1.length) + 17 * (s.2.2.2.2.1.1 + 1) + 11 * s.2.2.2.2.1.2.1 + 6 * s.2.2.2.2.1.2.2 + 3 * s.2.2.1.length + zgs (min s.2.2.1.length 400) = zDs σ cp s + 17
    unfold zDs
    omega
  unfold zdl zdc zds
  rw [e1, e2]
  omega
theorem zdl_m (s : zR) : zdl σ cp s (zRm s) ∧ zdc σ cp s (zRm s) = 2 ∧ zds σ cp s (zRm s) = 6 := by
  have e1 : zDc σ cp (zRm s) = zDc σ cp s + 2 := by
    show s.1 * (σ.2.1.length + 7 + cp.1 * σ.2.2.1.length) + 3 * s.2.2.2.2.1.1 + 2 * s.2.2.2.2.1.2.1 + 2 * (s.2.2.2.2.1.2.2 + 1) + s.2.2.1.length + zgc (min s.2.2.1.length 400) = zDc σ cp s + 2
    unfold zDc
    omega
  have e2 : zDs σ cp (zRm s) = zDs σ cp s + 6 := by
    show s.1 * (4 * σ.2.1.length + 66 + cp.2 * σ.2.2.1.length) + 17 * s.2.2.2.2.1.1 + 11 * s.2.2.2.2.1.2.1 + 6 * (s.2.2.2.2.1.2.2 + 1) + 3 * s.2.2.1.length + zgs (min s.2.2.1.length 400) = zDs σ cp s + 6
    unfold zDs
    omega
  unfold zdl zdc zds
  rw [e1, e2]
  omega
theorem zdl_p (n : Nat) (s : zR) : zdl σ cp s (zRq n (zRp s)) ∧ zdc σ cp s (zRq n (zRp s)) = σ.2.1.length + 7 + cp.1 * σ.2.2.1.length ∧ zds σ cp s (zRq n (zRp s)) = 4 * σ.2.1.length + 66 + cp.2 * σ.2.2.1.length := by
  have e1 : zDc σ cp (zRq n (zRp s)) = zDc σ cp s + (σ.2.1.length + 7 + cp.1 * σ.2.2.1.length) := by
    show (s.1 + 1) * (σ.2.1.length + 7 + cp.1 * σ.2.2.1.length) + 3 * s.2.2.2.2.1.1 + 2 * s.2.2.2.2.1.2.1 + 2 * s.2.2.2.2.1.2.2 + s.2.2.1.length + zgc (min s.2.2.1.length 400) = zDc σ cp s + _
    unfold zDc
    generalize (σ.2.1.length + 7 + cp.1 * σ.2.2.1.length) = X
    rw [Nat.succ_mul]
    omega
  have e2 : zDs σ cp (zRq n (zRp s)) = zDs σ cp s + (4 * σ.2.1.length + 66 + cp.2 * σ.2.2.1.length) := by
    show (s.1 + 1) * (4 * σ.2.1.length + 66 + cp.2 * σ.2.2.1.length) + 17 * s.2.2.2.2.1.1 + 11 * s.2.2.2.2.1.2.1 + 6 * s.2.2.2.2.1.2.2 + 3 * s.2.2.1.length + zgs (min s.2.2.1.length 400) = zDs σ cp s + _
    unfold zDs
    generalize (4 * σ.2.1.length + 66 + cp.2 * σ.2.2.1.length) = X
    rw [Nat.succ_mul]
    omega
  unfold zdl zdc zds
  rw [e1, e2]
  omega
theorem zdl_t (x : zAc) (s : zR) (hl : s.2.2.1.length < 400) : zdl σ cp s (zRt x s) ∧ zdc σ cp s (zRt x s) = 1 + (zgc (s.2.2.1.length + 1) - zgc s.2.2.1.length) ∧ zds σ cp s (zRt x s) = 3 + (zgs (s.2.2.1.length + 1) - zgs s.2.2.1.length) := by
  have hg := zgc_le hl
  have hl1 : (zRt x s).2.2.1.length = s.2.2.1.length + 1 := zrt_len x s
  have m1 : min s.2.2.1.length 400 = s.2.2.1.length := Nat.min_eq_left (by omega)
  have m2 : min (s.2.2.1.length + 1) 400 = s.2.2.1.length + 1 := Nat.min_eq_left (by omega)
  have e1 : zDc σ cp (zRt x s) = zDc σ cp s + (1 + (zgc (s.2.2.1.length + 1) - zgc s.2.2.1.length)) := by
    unfold zDc
    rw [hl1, m1, m2]
    show s.1 * (σ.2.1.length + 7 + cp.1 * σ.2.2.1.length) + 3 * s.2.2.2.2.1.1 + 2 * s.2.2.2.2.1.2.1 + 2 * s.2.2.2.2.1.2.2 + (s.2.2.1.length + 1) + zgc (s.2.2.1.length + 1) = _
    omega
  have e2 : zDs σ cp (zRt x s) = zDs σ cp s + (3 + (zgs (s.2.2.1.length + 1) - zgs s.2.2.1.length)) := by
    unfold zDs
    rw [hl1, m1, m2]
    show s.1 * (4 * σ.2.1.length + 66 + cp.2 * σ.2.2.1.length) + 17 * s.2.2.2.2.1.1 + 11 * s.2.2.2.2.1.2.1 + 6 * s.2.2.2.2.1.2.2 + 3 * (s.2.2.1.length + 1) + zgs (s.2.2.1.length + 1) = _
    omega
  unfold zdl zdc zds
  rw [e1, e2]
  omega
theorem zdl_t1 (x : zAc) (s : zR) : zdl σ cp s (zRt x s) := by
  by_cases hl : s.2.2.1.length < 400
  · exact (zdl_t x s hl).1
  · have hl1 : (zRt x s).2.2.1.length = s.2.2.1.length + 1 := zrt_len x s
    have m1 : min s.2.2.1.length 400 = 400 := Nat.min_eq_right (by omega)
    have m2 : min (s.2.2.1.length + 1) 400 = 400 := Nat.min_eq_right (by omega)
    constructor
    · unfold zDc
      rw [hl1, m1, m2]
      show _ ≤ s.1 * (σ.2.1.length + 7 + cp.1 * σ.2.2.1.length) + 3 * s.2.2.2.2.1.1 + 2 * s.2.2.2.2.1.2.1 + 2 * s.2.2.2.2.1.2.2 + (s.2.2.1.length + 1) + zgc 400
      omega
    · unfold zDs
      rw [hl1, m1, m2]
      show _ ≤ s.1 * (4 * σ.2.1.length + 66 + cp.2 * σ.2.2.1.length) + 17 * s.2.2.2.2.1.1 + 11 * s.2.2.2.2.1.2.1 + 6 * s.2.2.2.2.1.2.2 + 3 * (s.2.2.1.length + 1) + zgs 400
      omega
theorem zdl_k (wov : Bool) (k m p : Nat) (s : zR) : zdl σ cp s (zRk wov k m p s) := zdl.refl s
-- ===== a run only goes on =====
variable {act : Int32 → zM} {pt : zPF} {ρ : zR → zR → Prop}
/-- what every step of a run keeps to -/
def zmr (ρ : zR → zR → Prop) : Prop := (∀ s, ρ s s) ∧ (∀ s s1 s2, ρ s s1 → ρ s1 s2 → ρ s s2) ∧ (∀ s, ρ s (zRe s)) ∧ (∀ x s, ρ s (zRt x s)) ∧ (∀ s, ρ s (zRa s)) ∧ (∀ s, ρ s (zRF (fun _ => 0) (zRm s))) ∧ (∀ f s, ρ s (zRF f s)) ∧ (∀ w k m p s, ρ s (zRk w k m p s)) ∧ (∀ n s, ρ s (zRq n (zRp s)))
theorem zmr.re (r : zmr ρ) (s : zR) : ρ s (zRe s) := r.2.2.1 s
theorem zmr.rt (r : zmr ρ) (x : zAc) (s : zR) : ρ s (zRt x s) := r.2.2.2.1 x s
theorem zmr.tr (r : zmr ρ) (h1 : ρ s s1) (h2 : ρ s1 s2) : ρ s s2 := r.2.1 _ _ _ h1 h2
theorem zmr.beh (r : zmr ρ) (n : Nat) (q : zX × zR) : ρ q.2 (zbeh σ n q).2 := by
  obtain ⟨x, s'⟩ := q
  cases x with
  | inl v' =>
    unfold zbeh
    show ρ s' (if _ then _ else _ : zX × zR).2
    split
    · exact r.1 _
    · rcases zadd_cases (σ := σ) n v' s' with ⟨-, e⟩ | ⟨-, e⟩ <;> rw [e]
      · exact r.re _
      · exact r.rt _ _
  | inr o =>
    cases o with
    | none => exact r.1 _
    | some x =>
      unfold zbeh
      show ρ s' (if _ then _ else _ : zX × zR).2
      split
      · exact r.1 _
      · rcases zadd_cases (σ := σ) n x s' with ⟨-, e⟩ | ⟨-, e⟩ <;> rw [e]
        · exact r.re _
        · exact r.rt _ _
theorem zmr.rep (r : zmr ρ) {g : Int32 → zM} (hg : ∀ v s, ρ s (g v s).2) (more : Int32) : ∀ t v s, ρ s (zrep g more t v s).2
  | 0, v, s => r.1 s
  | t + 1, v, s => by
    rw [zrep]
    have h1 := hg (v + more) s
    cases hq : g (v + more) s with
    | mk x s' =>
      rw [hq] at h1
      show ρ s (match g (v + more) s with | (.inl v', s') => zrep g more t v' s' | e => e).2
      rw [hq]
      cases x with
      | inl v' => exact r.tr h1 (zmr.rep r hg more t v' s')
      | inr o => exact h1
theorem zmr.go (r : zmr ρ) (ha : ∀ v s, ρ s (act v s).2) : ∀ l v s, ρ s (zgo σ act l v s).2
  | [], v, s => r.tr (r.2.2.2.2.1 s) (ha v (zRa s))
  | n :: l, v, s => by
    by_cases h1 : (zadv σ n).2.1 = 114
    · rw [zgo_r h1]
      rcases zadd_cases (σ := σ) n v s with ⟨-, e⟩ | ⟨-, e⟩ <;> rw [e]
      · exact r.re _
      · exact r.tr (r.rt _ s) (r.rep (fun v s => zmr.go r ha l v s) _ _ _ _)
    · by_cases h2 : (zadv σ n).2.1 = 98
      · rw [zgo_b h2]
        rcases zadd_cases (σ := σ) n v s with ⟨-, e⟩ | ⟨-, e⟩ <;> rw [e]
        · exact r.re _
        · exact r.tr (r.rt _ s) (zmr.go r ha l v _)
      · rw [zgo_o h1 h2]
        exact r.tr (zmr.go r ha l v s) (r.beh n _)
theorem zmr.handled (r : zmr ρ) (hp : ∀ q v s, ρ s (pt q v s).2) (wov : Bool) (ty k m i : Nat) (x : Int32) (s : zR) : ρ s (zhandled σ wov pt ty k m i x s).2 := by
  unfold zhandled
  show ρ s (match zhandler (zbody σ k m) x i with | none => (zraise x, s) | some j => pt _ 0 _ : zX × zR).2
  cases zhandler (zbody σ k m) x i with
  | none => exact r.1 s
  | some j => exact r.tr (r.2.2.2.2.2.2.2.1 _ _ _ _ _) (hp _ _ _)
theorem zmr.done (r : zmr ρ) (hp : ∀ q v s, ρ s (pt q v s).2) (wov : Bool) (ty k m p : Nat) (st : zSt) (v : Int32) (s0 : zR) : ρ s0 (zdone wov pt ty k m p st v s0).2 := by
  have h1 : ρ s0 (if 0 < zplaces st then zRk wov k m p s0 else s0) := by
    split
    · exact r.2.2.2.2.2.2.2.1 _ _ _ _ _
    · exact r.1 _
  unfold zdone
  generalize (if 0 < zplaces st then zRk wov k m p s0 else s0) = s at h1 ⊢
  show ρ s0 (if _ then _ else if _ then _ else if _ then _ else if _ then _ else if _ then _ else _ : zX × zR).2
  split
  · exact h1
  · split
    · exact r.tr h1 (hp _ _ _)
    · split
      · have h2 := hp (109, st.2.1, zAt st.2.1, some (k, m, p)) v (zRF (fun _ => 0) (zRm s))
        have h3 : ρ s (zRF (fun _ => 0) (zRm s)) := r.2.2.2.2.2.1 s
        cases hq : pt (109, st.2.1, zAt st.2.1, some (k, m, p)) v (zRF (fun _ => 0) (zRm s)) with
        | mk x s1 =>
          rw [hq] at h2
          cases x with
          | inl v1 =>
            have h4 := hp (99, st.2.2, zAt st.2.1, some (k, m, p + 1)) v1 (zRk wov k m (p + 1) s1)
            show ρ s0 (match pt (99, st.2.2, zAt st.2.1, some (k, m, p + 1)) v1 (zRk wov k m (p + 1) s1) with | (x, s2) => (x, zRF s.2.2.2.1 s2)).2
            cases hq2 : pt (99, st.2.2, zAt st.2.1, some (k, m, p + 1)) v1 (zRk wov k m (p + 1) s1) with
            | mk y s2 =>
              rw [hq2] at h4
              exact r.tr (r.tr (r.tr (r.tr (r.tr h1 h3) h2) (r.2.2.2.2.2.2.2.1 _ _ _ _ _)) h4) (r.2.2.2.2.2.2.1 _ _)
          | inr o => exact r.tr (r.tr (r.tr h1 h3) h2) (r.2.2.2.2.2.2.1 _ _)
      · split
        · exact r.tr h1 (hp _ _ _)
        · split
          · split
            · exact r.tr h1 (r.re _)
            · exact h1
          · exact h1
theorem zmr.steps (r : zmr ρ) (hp : ∀ q v s, ρ s (pt q v s).2) (wov : Bool) (ty k m : Nat) : ∀ (l : List zSt) (i : Nat) (v : Int32) (s : zR), ρ s (zstepsF σ wov pt ty k m i l v s).2
  | [], i, v, s => r.1 s
  | st :: l, i, v, s => by
    rw [zstepsF]
    have h1 := r.done hp wov ty k m (zplace (zbody σ k m) i) st v s
    show ρ s (match zdone wov pt ty k m (zplace (zbody σ k m) i) st v s with
     | (.inl v', s') => zstepsF σ wov pt ty k m (i + 1) l v' s'
     | (.inr (some n), s') => (match zhandled σ wov pt ty k m i n s' with
       | (.inl v', s'') => zstepsF σ wov pt ty k m (i + 1) l v' s''
       | e => e)
     | (.inr none, s') => (zup, s')).2
    cases hq : zdone wov pt ty k m (zplace (zbody σ k m) i) st v s with
    | mk x s' =>
      rw [hq] at h1
      cases x with
      | inl v' => exact r.tr h1 (zmr.steps r hp wov ty k m l (i + 1) v' s')
      | inr o =>
        cases o with
        | none => exact h1
        | some n =>
          have h2 := r.handled (σ := σ) hp wov ty k m i n s'
          show ρ s (match zhandled σ wov pt ty k m i n s' with | (.inl v', s'') => zstepsF σ wov pt ty k m (i + 1) l v' s'' | e => e).2
          cases hq2 : zhandled σ wov pt ty k m i n s' with
          | mk y s'' =>
            rw [hq2] at h2
            cases y with
            | inl v' => exact r.tr (r.tr h1 h2) (zmr.steps r hp wov ty k m l (i + 1) v' s'')
            | inr o => exact r.tr h1 h2
theorem zmr.acts (r : zmr ρ) (hp : ∀ q v s, ρ s (pt q v s).2) (wov : Bool) (q : zPi) (v : Int32) (s : zR) : ρ s (zact σ wov pt q v s).2 := by
  unfold zact
  show ρ s (if _ then _ else if _ then _ else if _ then _ else if _ then _ else _ : zX × zR).2
  split
  · cases zfind σ (zAt q.2.1) q.2.2.1 with
    | none => exact r.re _
    | some k => exact r.tr (r.2.2.2.2.2.2.2.1 _ _ _ _ _) (hp _ _ _)
  · split
    · cases q.2.2.2 with
      | none => exact r.1 _
      | some x => exact r.steps hp wov _ _ _ _ _ _ _
    · split
      · exact r.1 _
      · split
        · exact r.2.2.2.2.2.2.1 _ _
        · exact r.1 _
theorem zmr.point (r : zmr ρ) (wov : Bool) : ∀ (d : Nat) (l : List zIn) (q : zPi) (v : Int32) (s : zR), ρ s (zpoint σ wov d l q v s).2
  | 0, l, q, v, s => r.re s
  | d + 1, l, q, v, s => by
    rw [zpoint]
    show ρ s (if s.1 = 120 then (zup, zRe s) else _ : zX × zR).2
    split
    · exact r.re s
    · exact r.tr (r.2.2.2.2.2.2.2.2 _ s) (r.go (fun v s => r.acts (fun q v s => zmr.point r wov d _ q v s) wov q v s) _ _ _)
theorem zdl_mr : zmr (zdl σ cp) := ⟨fun s => zdl.refl s, fun _ _ _ => zdl.trans, fun s => (zdl_e s).1, zdl_t1, fun s => (zdl_a s).1, fun s => (zdl_m s).1, fun _ s => zdl.refl s, zdl_k, fun n s => (zdl_p n s).1⟩
theorem zdl_beh (n : Nat) (q : zX × zR) : zdl σ cp q.2 (zbeh σ n q).2 := zdl_mr.beh n q
theorem zdl_rep {g : Int32 → zM} (hg : ∀ v s, zdl σ cp s (g v s).2) (more : Int32) (t : Nat) (v : Int32) (s : zR) : zdl σ cp s (zrep g more t v s).2 := zdl_mr.rep hg more t v s
theorem zdl_go (ha : ∀ v s, zdl σ cp s (act v s).2) (l : List Nat) (v : Int32) (s : zR) : zdl σ cp s (zgo σ act l v s).2 := zdl_mr.go ha l v s
theorem zdl_handled (hp : ∀ q v s, zdl σ cp s (pt q v s).2) (wov : Bool) (ty k m i : Nat) (x : Int32) (s : zR) : zdl σ cp s (zhandled σ wov pt ty k m i x s).2 := zdl_mr.handled hp wov ty k m i x s
theorem zdl_done (hp : ∀ q v s, zdl σ cp s (pt q v s).2) (wov : Bool) (ty k m p : Nat) (st : zSt) (v : Int32) (s0 : zR) : zdl σ cp s0 (zdone wov pt ty k m p st v s0).2 := zdl_mr.done hp wov ty k m p st v s0
theorem zdl_steps (hp : ∀ q v s, zdl σ cp s (pt q v s).2) (wov : Bool) (ty k m : Nat) (l : List zSt) (i : Nat) (v : Int32) (s : zR) : zdl σ cp s (zstepsF σ wov pt ty k m i l v s).2 := zdl_mr.steps hp wov ty k m l i v s
theorem zdl_act (hp : ∀ q v s, zdl σ cp s (pt q v s).2) (wov : Bool) (q : zPi) (v : Int32) (s : zR) : zdl σ cp s (zact σ wov pt q v s).2 := zdl_mr.acts hp wov q v s
theorem zdl_point (wov : Bool) (d : Nat) (l : List zIn) (q : zPi) (v : Int32) (s : zR) : zdl σ cp s (zpoint σ wov d l q v s).2 := zdl_mr.point wov d l q v s
/-- a point costs something -/
theorem zdc_point (wov : Bool) (d : Nat) (l : List zIn) (q : zPi) (v : Int32) (s : zR) : 2 ≤ zdc σ cp s (zpoint σ wov d l q v s).2 ∧ 11 ≤ zds σ cp s (zpoint σ wov d l q v s).2 := by
  have up : zpoint σ wov d l q v s = (zup, zRe s) → 2 ≤ zdc σ cp s (zpoint σ wov d l q v s).2 ∧ 11 ≤ zds σ cp s (zpoint σ wov d l q v s).2 := by
    intro e
    rw [e]
    obtain ⟨-, e1, e2⟩ := zdl_e (σ := σ) (cp := cp) s
    exact ⟨Nat.le_of_eq e1.symm, Nat.le_of_eq e2.symm⟩
  cases d with
  | zero => exact up (zpoint_up (e := (wov, 0, 0)) (Or.inl rfl))
  | succ d =>
    by_cases h9 : s.1 = 120
    · exact up (zpoint_up (e := (wov, 0, 0)) (Or.inr h9))
    · have e : zpoint σ wov (d + 1) l q v s = zgo σ (zact σ wov (zpoint σ wov d (zinfo q v :: l)) q) ((zoa σ).filter (ztakes σ wov q.2.2.2 (zinfo q v :: l))) v (zRq ((zoa σ).filter (zasks σ wov q.2.2.2)).length (zRp s)) := by
        rw [zpoint]
        show (if s.1 = 120 then (zup, zRe s) else _ : zX × zR) = _
        rw [if_neg h9]
      rw [e]
      generalize ((zoa σ).filter (zasks σ wov q.2.2.2)).length = n
      obtain ⟨p1, p2, p3⟩ := zdl_p (σ := σ) (cp := cp) n s
      have g := zdl_go (σ := σ) (cp := cp) (act := zact σ wov (zpoint σ wov d (zinfo q v :: l)) q) (fun v' s' => zdl_act (fun q' v' s' => zdl_point wov d _ q' v' s') wov q v' s') ((zoa σ).filter (ztakes σ wov q.2.2.2 (zinfo q v :: l))) v (zRq n (zRp s))
      generalize zgo σ (zact σ wov (zpoint σ wov d (zinfo q v :: l)) q) ((zoa σ).filter (ztakes σ wov q.2.2.2 (zinfo q v :: l))) v (zRq n (zRp s)) = Q at g ⊢
      have c1 := zdc_add p1 g
      have c2 := zds_add p1 g
      rw [p2] at c1
      rw [p3] at c2
      omega
end ZTT
