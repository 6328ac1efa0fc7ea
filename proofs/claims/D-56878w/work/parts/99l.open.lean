/-! THE REFERENCE: what the points that go on hold -/
section ZTP
variable {G : wv_G} {A B B' : zA} {σ σ' : zS} {h h0 h1 h2 h' : wv_H} {w : wv_W} {fr fr' kc ks : Nat} {P : wv_R → wv_H → Prop} {KX : String → Nat → wv_W → Prop} {a b : Nat} {t : wv_T} {n : Nat}
/-- points that go on, the newest first: what each holds -/
def zOpn (σ : zS) (h : wv_H) : List Nat → List zIn → Prop
  | [], [] => True
  | b :: ps, i :: l => (∃ m ix hd : Int32, h b = some ((143, 0, 0, 0), zpnO i.1 i.2.1 (nI i.2.2.1) i.2.2.2.1 m ix i.2.2.2.2 hd) ∧ ∀ n, n < σ.2.1.length → zb hd n = zhold σ n (i :: l)) ∧ zOpn σ h ps l
  | _, _ => False
theorem zOpn.keep {S : Nat → wv_T → Prop} (k : kp S h h1) (hS : ∀ a t, S a t → t.1 ≠ 143) : ∀ {ps : List Nat} {l : List zIn}, zOpn σ h ps l → zOpn σ h1 ps l
  | [], [], _ => trivial
  | b :: ps, i :: l, ⟨⟨m, ix, hd, e1, e2⟩, r⟩ => ⟨⟨m, ix, hd, k _ _ e1 (fun q => hS _ _ q rfl), e2⟩, zOpn.keep k hS r⟩
theorem z_any {g g' : Nat → Bool} : ∀ {ps : List Nat}, (∀ x ∈ ps, g x = g' x) → ps.any g = ps.any g'
  | [], _ => rfl
  | y :: ps, h => by
    rw [List.any_cons, List.any_cons, h y List.mem_cons_self, z_any (fun x hx => h x (List.mem_cons_of_mem _ hx))]
/-- whether one of them holds a pattern -/
theorem zOpn_at (hn : n < σ.2.1.length) : ∀ {ps : List Nat} {l : List zIn}, zOpn σ h ps l → ∃ g : Nat → Bool, (∀ b ∈ ps, ∃ c nm ty pc m ix v hd : Int32, h b = some ((143, 0, 0, 0), zpnO c nm ty pc m ix v hd) ∧ zb hd n = g b) ∧ zany (zhold σ n) l = ps.any g
  | [], [], _ => ⟨fun _ => false, fun b hb => (by cases hb), rfl⟩
  | b :: ps, i :: l, ⟨⟨m, ix, hd, e1, e2⟩, r⟩ => by
    obtain ⟨g, g1, g2⟩ := zOpn_at hn r
    refine ⟨fun x => if x = b then zb hd n else g x, fun x hx => ?_, ?_⟩
    · by_cases e : x = b
      · subst e
        exact ⟨_, _, _, _, _, _, _, _, e1, (if_pos rfl).symm⟩
      · rcases List.mem_cons.mp hx with q | q
        · exact absurd q e
        · obtain ⟨c, nm, ty, pc, m2, ix2, v, hd2, f1, f2⟩ := g1 x q
          exact ⟨c, nm, ty, pc, m2, ix2, v, hd2, f1, f2.trans (if_neg e).symm⟩
    · show (zhold σ n (i :: l) || zany (zhold σ n) l) = ((if b = b then zb hd n else g b) || ps.any (fun x => if x = b then zb hd n else g x))
      rw [if_pos rfl, ← e2 n hn, g2]
      cases hz : zb hd n with
      | true => rfl
      | false =>
        rw [Bool.false_or, Bool.false_or]
        have eg : ∀ x ∈ ps, g x = (if x = b then false else g x) := by
          intro x hx
          by_cases e : x = b
          · subst e
            obtain ⟨c, nm, ty, pc, m2, ix2, v, hd2, f1, f2⟩ := g1 x hx
            rw [e1] at f1
            have : hd = hd2 := by
              have := Option.some.inj f1
              simp at this
              exact this.2.2.2.2.2.2.2
            rw [if_pos rfl, ← f2, ← this, hz]
          · rw [if_neg e]
        exact z_any eg
end ZTP
