/-! THE REFERENCE: places; Spots asked; names matched -/
section ZTH
variable {G : wv_G} {A B B' : zA} {σ σ' : zS} {h h0 h1 h2 h' : wv_H} {w : wv_W} {fr fr' kc ks : Nat} {P : wv_R → wv_H → Prop} {KX : String → Nat → wv_W → Prop} {sl L a b : Nat} {k m r i j : Nat} {t : wv_T} {x y v th : Int32} {xs : List Nat} {sps : List zSp} {sp : zSp}
theorem zg_17 {n : Nat} (hn : n ≤ 17) : zgc n ≤ 3 ∧ zgs n ≤ 47 := by
  have h1 := zgc_mono hn (by decide)
  have h2 : zgc 17 = 3 ∧ zgs 17 = 47 := by decide
  omega
theorem z20_kind (hG : wv_G0 G) (hb : h b = some (t, zspO sp)) (hf : wv_fit .char sp.1) : wv_C G yX20_kind [.ref b] h 0 0 0 (fun r h' => r = .inl (some (.int sp.1)) ∧ h' = h) := wk_X20_kind (v0 := some b) hG (z_gI hb rfl ⟨hf.1, rfl, rfl⟩)
theorem z20_name (hG : wv_G0 G) (hb : h b = some (t, zspO sp)) : wv_C G yX20_name [.ref b] h 0 0 0 (fun r h' => r = .inl (some (.int sp.2.1)) ∧ h' = h) := wk_X20_name (v0 := some b) hG (z_gI hb rfl ⟨rfl, rfl⟩)
theorem z20_made (hG : wv_G0 G) (hb : h b = some (t, zspO sp)) : wv_C G yX20_made [.ref b] h 0 0 0 (fun r h' => r = .inl (some (.int (zoN sp.2.2.1))) ∧ h' = h) := wk_X20_made (v0 := some b) hG (z_gI hb rfl ⟨rfl, rfl⟩)
theorem z20_index (hG : wv_G0 G) (hb : h b = some (t, zspO sp)) : wv_C G yX20_index [.ref b] h 0 0 0 (fun r h' => r = .inl (some (.int sp.2.2.2)) ∧ h' = h) := wk_X20_index (v0 := some b) hG (z_gI hb rfl ⟨rfl, rfl⟩)
theorem z4_places (hG : wv_G0 G) (hw : zwf σ) (M : zMf G B σ th L h) (x y : Int32) : wv_C G yX4_places [.ref (B 100 0 0), .int x, .int y] h 8 21 118 (zTw G B σ L h (zwr σ x y) (.int 0) (fun r h' => r = .inl (some (.int (nI (zspots σ (zAt x) (zAt y)).length))) ∧ zTN G B σ L h h')) := by
  have hn6 := hw.1
  have h2 := zwr_le (σ := σ) x y
  refine wk_X4_places (v0 := some (B 100 0 0)) hG (z_vI M.is (z4_wrong hG M x y) (by omega) (z4_put M (fun h1 M1 k1 => z_gI M1.1 rfl (z4_code (by omega) (fun hc0 => ?_) (fun hc => zTw.bad (zwr σ x y) rfl hc M1 (k1.mono z100T))))))
  obtain ⟨k, m, hk, hm, hlt, hm6, rfl, rfl⟩ := zwr_ok hn6 hc0
  rw [zix_at hk, zix_at hm]
  have M2 : zMf G B σ 0 L h1 := by rw [hc0] at M1; exact M1
  have h17 := zspots_le hw (k := k) hm6
  have hg := zg_17 h17
  refine ⟨B 100 0 0, rfl, M2.is, z_c (z4_spots hG hw M2 hlt hm6) (by omega) (by show _ ≤ 21; omega) (by show _ ≤ 118; omega) ?_⟩
  rintro z h3 ⟨sl, xs, rfl, -, S, k3⟩
  refine Or.inl ⟨_, rfl, S.1.vsize hG (by omega) (zTw.ok hc0 ⟨?_, B, rfl, M2.keepn k3, (k1.mono z100T).trans (kn.to k3)⟩)⟩
  rw [S.2.1]
theorem z4_sure (hG : wv_G0 G) (b : Bool) : wv_C G yX4_sure [.int (zbI b)] h 0 0 0 (fun r h' => r = .inl (some (.int (zsure b))) ∧ h' = h) := by
  refine wk_X4_sure hG ?_
  cases b
  · exact ⟨fun _ => ⟨rfl, rfl, rfl⟩, fun q => absurd rfl q⟩
  · exact ⟨fun q => absurd q (by decide), fun _ => ⟨rfl, rfl, rfl⟩⟩
theorem z4_nameMatch (hG : wv_G0 G) (hb : h b = some (t, zspO sp)) (hf : wv_fit .char sp.1) (x : Int32) : wv_C G yX4_nameMatch [.ref (B 100 0 0), .ref b, .int x] h 1 0 0 (fun r h' => r = .inl (some (.int (if sp.1 = 104 then (if sp.2.1 < x then 110 else 109) else zsure (decide (sp.2.1 = x))))) ∧ h' = h) := by
  refine wk_X4_nameMatch (v0 := some (B 100 0 0)) (v1 := some b) hG (z_vI (z_is hb ccX20) (z20_kind hG hb hf) (by omega) ⟨fun e => ?_, fun e => ?_⟩)
  · rw [if_pos e]
    refine z_vI (z_is hb ccX20) (z20_name hG hb) (by omega) ⟨fun e2 => ?_, fun e2 => ?_⟩
    · rw [if_pos e2]
      exact ⟨rfl, rfl, rfl⟩
    · rw [if_neg e2]
      exact ⟨rfl, rfl, rfl⟩
  · rw [if_neg e]
    refine z_vI (z_is hb ccX20) (z20_name hG hb) (by omega) ⟨fun e2 => ?_, fun e2 => ?_⟩
    · rw [decide_eq_false e2]
      exact z_cI (z4_sure hG false) (by omega) ⟨zsure_n _, rfl, rfl⟩
    · rw [decide_eq_true e2]
      exact z_cI (z4_sure hG true) (by omega) ⟨zsure_n _, rfl, rfl⟩
theorem z4_turned (hG : wv_G0 G) (x : Int32) : wv_C G yX4_turned [.int x] h 0 0 0 (fun r h' => r = .inl (some (.int (if x = 121 then 110 else if x = 110 then 121 else 109))) ∧ h' = h) := by
  refine wk_X4_turned hG ⟨fun e => ⟨fun e2 => ?_, fun e2 => ?_⟩, fun e => ?_⟩
  · rw [if_neg e, if_neg e2]
    exact ⟨rfl, rfl, rfl⟩
  · rw [if_neg e, if_pos e2]
    exact ⟨rfl, rfl, rfl⟩
  · rw [if_pos e]
    exact ⟨rfl, rfl, rfl⟩
end ZTH
