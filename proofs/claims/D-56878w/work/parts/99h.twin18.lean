/-! THE REFERENCE: a place's pairs with advices -/
section ZTL
variable {G : wv_G} {A B B' : zA} {σ σ' : zS} {h h0 h1 h2 h' : wv_H} {w : wv_W} {fr fr' kc ks : Nat} {P : wv_R → wv_H → Prop} {KX : String → Nat → wv_W → Prop} {sl L b : Nat} {k m r i j : Nat} {t : wv_T} {x y v th c : Int32} {sp : zSp}
/-- an advice that is on with this match, or with any for 32 -/
def zcn4 (σ : zS) (q : zPl) (c : Int32) (j : Nat) : Nat := if (zadv σ j).2.2.2.2.2 = true ∧ (c = 32 ∨ zat σ q (zadv σ j).2.2.1 = c) then 1 else 0
theorem z6div (hk : k < 6) (hm : m < 6) : nI (6 * k + m) / 6 = nI k := by
  rw [show (6 : Int32) = nI 6 by decide, pk_div (by omega) (by decide) (by decide)]
  congr 1
  omega
theorem z6rem (hk : k < 6) (hm : m < 6) : nI (6 * k + m) - nI (6 * k + m) / 6 * 6 = nI m := by
  rw [show (6 : Int32) = nI 6 by decide, pk_rem (by omega) (by decide) (by decide)]
  congr 1
  omega
theorem z4_pairs57 (hG : wv_G0 G) (hw : zwf σ) (ht : zwt σ) (M : zMf G B σ th L w.1) (hk : k < zn σ) (hm : m < 6) (hb : w.1 b = some (t, zspO sp)) (hf : wv_fit .char sp.1) (hsp : ∀ q, sp.2.2.1 = some q → q < 6) (hfr : 27 < fr) {q0 : Nat} {v4 : Option Nat} {K4 : ((Option Nat) × Int32 × Int32 × Int32) → wv_W → Prop} {K32 : ((Option Nat) × Int32 × Int32 × Int32 × (Option Nat)) → wv_W → Prop}
    (hK32 : K32 (some (B 100 0 0), c, nI (q0 + zsm (zcn4 σ (zqS σ k m sp) c) σ.2.2.1.length), nI (6 * k + m), v4) w) :
    wv_L (fun K57 a w => vc_X4_pairs_57 G fr P K4 K32 K57 a.1 a.2.1 a.2.2.1 a.2.2.2.1 a.2.2.2.2.1 a.2.2.2.2.2.1 a.2.2.2.2.2.2 w) (some (B 100 0 0), c, nI q0, nI (6 * k + m), v4, some b, (0 : Int32)) w := by
  have hn6 := hw.1
  have h12 := hw.2.2.2.2.1
  have h24 := hw.2.2.1
  obtain ⟨f11, m11, u11⟩ := id M.2.2.2.2.2.2.2.2.2.2.2.2.1
  obtain ⟨f6, m6, u6⟩ := id M.2.2.2.2.2.2.2.1
  refine z_loopV σ.2.2.1.length (by omega) (fun v => v.2.2.2.2.2.2) (fun i => (some (B 100 0 0), c, nI (q0 + zsm (zcn4 σ (zqS σ k m sp) c) i), nI (6 * k + m), v4, some b, nI i)) (fun i => rfl) rfl ?_
  intro K i hi hK
  refine z_gI M.1 rfl (pk_le σ.2.2.1.length i (fun hle => ?_) (fun hlt => ?_))
  · have e : i = σ.2.2.1.length := by omega
    subst e
    exact hK32
  · have hadv := zadv_get hlt
    have hap := (hw.2.2.2.2.2.1 _ (List.mem_of_getElem? hadv)).2.2.1
    have k9 := hK hlt
    -- on, counted or not
    have on : ∀ d : Bool, (zcn4 σ (zqS σ k m sp) c i = if d = true then 1 else 0) → vc_X4_pairs_112 G fr P K4 K32 K (some (B 100 0 0)) c (nI (q0 + zsm (zcn4 σ (zqS σ k m sp) c) i)) (nI (6 * k + m)) v4 (some b) (nI i) (zbI d) w := by
      intro d hd
      have e1 : zsm (zcn4 σ (zqS σ k m sp) c) (i + 1) = zsm (zcn4 σ (zqS σ k m sp) c) i + zcn4 σ (zqS σ k m sp) c i := rfl
      rw [e1, hd, ← Nat.add_assoc] at k9
      cases d with
      | false =>
        refine ⟨fun _ => ?_, fun q => absurd rfl q⟩
        show K (_, _, nI (q0 + zsm (zcn4 σ (zqS σ k m sp) c) i) + 0, _, _, _, nI i + 1) w
        rw [← nI_succ, show nI (q0 + zsm (zcn4 σ (zqS σ k m sp) c) i) + 0 = nI (q0 + zsm (zcn4 σ (zqS σ k m sp) c) i) from Int32.add_zero _]
        exact k9
      | true =>
        refine ⟨fun q => absurd q (by decide), fun _ => ?_⟩
        show K (_, _, nI (q0 + zsm (zcn4 σ (zqS σ k m sp) c) i) + 1, _, _, _, nI i + 1) w
        rw [← nI_succ, ← nI_succ]
        exact k9
    refine z_gA M.1 rfl (z_li m11 (by omega) (by decide) ?_)
    rw [u11 i _ hadv]
    refine ⟨fun q => on false ?_, fun q => ⟨fun q2 => on true ?_, fun q2 => ⟨by decide, by decide, z_gA M.1 rfl (z_li m6 (by omega) (by decide) ?_)⟩⟩⟩
    · unfold zcn4
      rw [if_neg (by rw [zbI_e0 q]; simp)]
      rfl
    · unfold zcn4
      rw [if_pos ⟨zbI_n0 q, Or.inl q2⟩]
      rfl
    · rw [u6 i _ hadv]
      show wv_cV G fr yX4_matches (some (B 100 0 0)) [.ref b, .int (nI (6 * k + m) / 6), .int (nI (6 * k + m) - nI (6 * k + m) / 6 * 6), .int (nI (zadv σ i).2.2.1)] w _
      rw [z6rem (by omega) hm, z6div (by omega) hm]
      refine z_vI M.is (z4_matches hG hw ht M hk hm hb hf hsp _ hap) (by omega) ⟨fun q3 => on false ?_, fun q3 => on true ?_⟩
      · unfold zcn4
        rw [if_neg (fun e => e.2.elim q2 q3)]
        rfl
      · unfold zcn4
        rw [if_pos ⟨zbI_n0 q, Or.inr q3⟩]
        rfl
end ZTL
