/-! THE REFERENCE: isHeldByOpen -/
section ZTR
variable {G : wv_G} {A B B' : zA} {σ σ' : zS} {h h0 h1 h2 h' : wv_H} {w : wv_W} {fr fr' kc ks : Nat} {P : wv_R → wv_H → Prop} {KX : String → Nat → wv_W → Prop} {a b ro ol : Nat} {t tr : wv_T} {n : Nat} {ps : List Nat} {l : List zIn} {x0 x2 x4 : Option Nat} {x3 : Int32}
theorem z26_isHeldByOpen (hG : wv_G0 G) (hn : n < σ.2.1.length) (hn2 : n < 32) (hro : h ro = some (tr, wo_o ciX26 [va_rf x0, va_rf (some ol), va_rf x2, .int x3, va_rf x4])) (hL : zLy h ol (141, 0, 0, 0) ps.reverse) (hlen : ps.length ≤ 20) (hO : zOpn σ h ps l) : wv_C G yX26_isHeldByOpen [.ref ro, .int (nI n)] h 3 1 4 (fun r h' => r = .inl (some (.int (zbI (zany (zhold σ n) l)))) ∧ kp kn h h') := by
  obtain ⟨g, g1, g2⟩ := zOpn_at hn hO
  rw [g2]
  have hr : ps.reverse.length ≤ 20 := by rw [List.length_reverse]; exact hlen
  have ga : ps.any g = ps.reverse.any g := by rw [List.any_reverse]
  rw [ga]
  have g3 : ∀ b ∈ ps.reverse, ∃ c nm ty pc m ix v hd : Int32, h b = some ((143, 0, 0, 0), zpnO c nm ty pc m ix v hd) ∧ zb hd n = g b := fun b hb => g1 b (List.mem_reverse.mp hb)
  generalize ps.reverse = xs at hL hr g3 ⊢
  refine wk_X26_isHeldByOpen (v0 := some ro) hG (z_gA hro rfl (hL.iter hG (by omega) (Nat.le_refl 1) (Nat.le_refl 4) (fun it h1 f1 k1 I1 => ?_)))
  have k1 : kp kn h h1 := k1
  have f1 : h it = none := f1
  refine z_loopI xs.length (fun i u w => u = (some ro, nI n, some it) ∧ kp kn h w.1 ∧ zIt w.1 it ol (141, 0, 0, 0) xs i ∧ ∀ j, j < i → ∀ b, xs[j]? = some b → g b = false) ⟨rfl, k1, I1, fun j hj => absurd hj (Nat.not_lt_zero _)⟩ (fun i j a w _ _ hi hj => zIt.unique (by omega) hi.2.2.1 hj.2.2.1) ?_
  rintro K i _ w hi ⟨rfl, kw, Iw, hf⟩ hK
  refine Iw.has hG (by omega) ⟨fun q => ?_, fun q => ?_⟩
  · have e : i = xs.length := by
      by_cases e : i = xs.length
      · exact e
      · rw [if_neg e] at q; exact absurd q (by decide)
    have ha : xs.any g = false := by
      rw [List.any_eq_false]
      intro b hb
      obtain ⟨j, hj⟩ := List.mem_iff_getElem?.mp hb
      rw [hf j (by rw [e]; exact (List.getElem?_eq_some_iff.mp hj).1) b hj]
      decide
    rw [ha]
    exact ⟨rfl, rfl, kw⟩
  · have hlt : i < xs.length := by
      by_cases e : i = xs.length
      · rw [if_pos e] at q; exact absurd rfl q
      · omega
    have hx : xs[i]? = some xs[i] := List.getElem?_eq_getElem hlt
    have hm : xs[i] ∈ xs := List.getElem_mem hlt
    generalize xs[i] = b at hx hm
    refine Iw.next hG hx (by omega) (fun h2 k2 I2 => ?_)
    have k02 : kp kn h h2 := fun c z hc _ => k2 c z (kn.at kw hc) (fun q => z_nw f1 hc q)
    obtain ⟨c, nm, ty, pc, m, ix, v, hd, e1, e2⟩ := g3 b hm
    have e3 := kn.at k02 e1
    refine z_cc (z_is e3 ccX29) (z_vI (z_is e3 ccX29) (z29_held hG e3) (by omega) (z_vI (z_is (kn.at k02 hro) ccX26) (z26_isBit hG hn2 hd) (by omega) ⟨fun q2 => ?_, fun q2 => ?_⟩))
    · refine hK _ _ hlt ⟨rfl, k02, I2, fun j hj b' hb' => ?_⟩
      rcases Nat.lt_or_ge j i with h9 | h9
      · exact hf j h9 b' hb'
      · rw [show j = i by omega, hx] at hb'
        cases hb'
        rw [← e2]
        exact zbI_e0 q2
    · have ha : xs.any g = true := List.any_eq_true.mpr ⟨b, hm, by rw [← e2]; exact zbI_n0 q2⟩
      rw [ha]
      exact ⟨rfl, rfl, k02⟩
end ZTR
