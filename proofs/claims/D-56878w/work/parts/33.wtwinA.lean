def vc_X5_init_0 (G : wv_G) (fr : Nat) (P : wv_R → wv_H → Prop) (v0 : Option Nat) (w : wv_W) : Prop :=
  (∃ a, v0 = some a) ∧ 1 ≤ fr ∧ (wv_no G w (wo_o ciJ2 [.int 0, va_rf none, .int 0]) 3 (fun a5 w5 => wv_cI G fr yJ2_init (some a5) [] w5 (wv_rV (fun w9 => wv_pt w9 v0 ciX5 0 (va_rf (some a5)) (fun w12 => wv_fit .char (32 : Int32) ∧ wv_pt w12 v0 ciX5 1 (.int (32 : Int32)) (fun w18 => wv_pt w18 v0 ciX5 2 (.int (0 : Int32)) (fun w23 => wv_pt w23 v0 ciX5 3 (.int (0 : Int32)) (fun w28 => wv_pt w28 v0 ciX5 4 (.int (0 : Int32)) (fun w33 => P (.inl none) w33.1)))))) (wv_pr P))))
set_option maxHeartbeats 4000000 in
theorem wk_X5_init_0 {G : wv_G} {p : Program} {e : Env} {R : Room} {s : State} {m : MethodId} {args : Array Value} {below : List Frame} {meth : Method} {c : Code} {fr : Nat} {P : wv_R → wv_H → Prop} (X : wv_ok G p R s m args meth c fr "WeaversgateModel$Result" cX5_init 1 (Option.none : Option Jvm.ClassFile.FieldType) "<init>" []) {v0 : Option Nat} {w : wv_W} (hv : vc_X5_init_0 G fr P v0 w) : wv_J G p e R s m args below meth c 1 P w 0 [(0, va_rf v0)] [] := by
  intro H locs cells slots ls S hl
  unfold vc_X5_init_0 at hv
  refine wq_aload_n X dX5_init_0 rfl (lv_at hl 0 rfl) ?_
  obtain ⟨⟨_, hr⟩, h1, hv⟩ := hv
  refine wq_objInit X hr q1771 q125 q126 h1 (by simp [wv_rfc, wv_kI, wv_kJ, wv_kF, wv_kD]) hl.1 dX5_init_1 ?_
  refine wq_aload_n X dX5_init_4 rfl (lv_at hl 0 rfl) ?_
  refine wq_new X S hv tyJ2 tyJ2_ok ccJ2 in_J2 q1772 q128 q63 (fun j hj => by have hj : j < 3 := hj; rcases (show j = 0 ∨ j = 1 ∨ j = 2 by omega) with rfl | rfl | rfl <;> rfl) dX5_init_5 (fun a5 w5 H cells slots S hv => ?_)
  refine lv_dup X.hx X.hb dX5_init_8 (wv_rfc _) ?_
  refine wq_cI_V X S hv rfl q1773 q130 q131 q63 ⟨by decide +kernel, by decide +kernel⟩ (nA := 0) (As := []) (by decide +kernel) rfl rfl (by simp [wv_rfc, wv_kI, wv_kJ, wv_kF, wv_kD]) hl.1 dX5_init_9 (fun w9 H locs cells slots S hv => ?_) (wq_kx X rfl)
  refine wq_ptF X S hv tyX5 tyX5_ok nmX5 ccX5 in_X5 (k := 0) (by decide) q1774 rfl rfl rfl (wv_fnA (Or.inl ⟨_, rfl⟩)).1 (wv_fnA (Or.inl ⟨_, rfl⟩)).2 dX5_init_12 (fun w12 H locs S hv => ?_)
  refine wq_aload_n X dX5_init_15 rfl (lv_at hl 0 rfl) ?_
  refine lv_bipush (v := (32 : Int32)) X.hx X.hb dX5_init_16 (by decide) ?_
  have hv18 := hv.1
  have hv := hv.2
  refine wq_pt X S hv tyX5 tyX5_ok nmX5 ccX5 in_X5 (k := 1) (by decide) q1777 rfl rfl hv18.1 hv18.2 dX5_init_18 (fun w18 H locs S hv => ?_)
  refine wq_aload_n X dX5_init_21 rfl (lv_at hl 0 rfl) ?_
  refine lv_iconst (v := (0 : Int32)) X.hx X.hb dX5_init_22 (by decide) ?_
  refine wq_pt X S hv tyX5 tyX5_ok nmX5 ccX5 in_X5 (k := 2) (by decide) q1780 rfl rfl rfl rfl dX5_init_23 (fun w23 H locs S hv => ?_)
  refine wq_aload_n X dX5_init_26 rfl (lv_at hl 0 rfl) ?_
  refine lv_iconst (v := (0 : Int32)) X.hx X.hb dX5_init_27 (by decide) ?_
  refine wq_pt X S hv tyX5 tyX5_ok nmX5 ccX5 in_X5 (k := 3) (by decide) q1783 rfl rfl rfl rfl dX5_init_28 (fun w28 H locs S hv => ?_)
  refine wq_aload_n X dX5_init_31 rfl (lv_at hl 0 rfl) ?_
  refine lv_iconst (v := (0 : Int32)) X.hx X.hb dX5_init_32 (by decide) ?_
  refine wq_pt X S hv tyX5 tyX5_ok nmX5 ccX5 in_X5 (k := 4) (by decide) q1786 rfl rfl rfl rfl dX5_init_33 (fun w33 H locs S hv => ?_)
  exact wr_vret X S hv dX5_init_36
theorem wk_X5_init {G : wv_G} (hG : wv_G0 G) {v0 : Option Nat} {h : wv_H} {fr kc ks : Nat} {P : wv_R → wv_H → Prop} (hv : vc_X5_init_0 G fr P v0 (h, kc, ks)) : wv_C G yX5_init [va_rf v0] h fr kc ks P := by
  refine wv_enter (lv := [(0, va_rf v0)]) hG (by decide +kernel) q1770 (by decide) (by simp [lg_sl, wv_rfc, wv_kI, wv_kJ, wv_kF, wv_kD]) (by simp [lv_args, wv_rfc, wv_kI, wv_kJ, wv_kF, wv_kD]) ?_
  intro p e R s m args below meth c X H locs cells slots ls S hl
  exact wk_X5_init_0 X hv H locs cells slots ls S (lv_sub hl [0] rfl)

def vc_X8_init_0 (G : wv_G) (fr : Nat) (P : wv_R → wv_H → Prop) (v0 : Option Nat) (w : wv_W) : Prop :=
  (∃ a, v0 = some a) ∧ 1 ≤ fr ∧ (wv_na G w (8 : Int32) (fun N => wo_i (wv_A G 1) N (fun _ => 0)) (fun a7 w7 => wv_pt w7 v0 ciX8 0 (va_rf (some a7)) (fun w9 => wv_na G w9 (8 : Int32) (fun N => wo_i (wv_A G 0) N (fun _ => 0)) (fun a15 w15 => wv_pt w15 v0 ciX8 1 (va_rf (some a15)) (fun w17 => wv_na G w17 (8 : Int32) (fun N => wo_i (wv_A G 0) N (fun _ => 0)) (fun a23 w23 => wv_pt w23 v0 ciX8 2 (va_rf (some a23)) (fun w25 => wv_pt w25 v0 ciX8 3 (.int (0 : Int32)) (fun w30 => P (.inl none) w30.1))))))))
set_option maxHeartbeats 4000000 in
theorem wk_X8_init_0 {G : wv_G} {p : Program} {e : Env} {R : Room} {s : State} {m : MethodId} {args : Array Value} {below : List Frame} {meth : Method} {c : Code} {fr : Nat} {P : wv_R → wv_H → Prop} (X : wv_ok G p R s m args meth c fr "WeaversgateModel$Body" cX8_init 1 (Option.none : Option Jvm.ClassFile.FieldType) "<init>" []) {v0 : Option Nat} {w : wv_W} (hv : vc_X8_init_0 G fr P v0 w) : wv_J G p e R s m args below meth c 1 P w 0 [(0, va_rf v0)] [] := by
  intro H locs cells slots ls S hl
  unfold vc_X8_init_0 at hv
  refine wq_aload_n X dX8_init_0 rfl (lv_at hl 0 rfl) ?_
  obtain ⟨⟨_, hr⟩, h1, hv⟩ := hv
  refine wq_objInit X hr q1897 q125 q126 h1 (by simp [wv_rfc, wv_kI, wv_kJ, wv_kF, wv_kD]) hl.1 dX8_init_1 ?_
  refine wq_aload_n X dX8_init_4 rfl (lv_at hl 0 rfl) ?_
  refine lv_bipush (v := (8 : Int32)) X.hx X.hb dX8_init_5 (by decide) ?_
  refine wq_nwc X S hv q187 dX8_init_7 (fun a7 w7 H cells slots S hv => ?_)
  refine wq_ptF X S hv tyX8 tyX8_ok nmX8 ccX8 in_X8 (k := 0) (by decide) q1898 rfl rfl rfl (wv_fnA (Or.inr ⟨_, rfl⟩)).1 (wv_fnA (Or.inr ⟨_, rfl⟩)).2 dX8_init_9 (fun w9 H locs S hv => ?_)
  refine wq_aload_n X dX8_init_12 rfl (lv_at hl 0 rfl) ?_
  refine lv_bipush (v := (8 : Int32)) X.hx X.hb dX8_init_13 (by decide) ?_
  refine wq_nwi X S hv q188 dX8_init_15 (fun a15 w15 H cells slots S hv => ?_)
  refine wq_ptF X S hv tyX8 tyX8_ok nmX8 ccX8 in_X8 (k := 1) (by decide) q1901 rfl rfl rfl (wv_fnA (Or.inr ⟨_, rfl⟩)).1 (wv_fnA (Or.inr ⟨_, rfl⟩)).2 dX8_init_17 (fun w17 H locs S hv => ?_)
  refine wq_aload_n X dX8_init_20 rfl (lv_at hl 0 rfl) ?_
  refine lv_bipush (v := (8 : Int32)) X.hx X.hb dX8_init_21 (by decide) ?_
  refine wq_nwi X S hv q188 dX8_init_23 (fun a23 w23 H cells slots S hv => ?_)
  refine wq_ptF X S hv tyX8 tyX8_ok nmX8 ccX8 in_X8 (k := 2) (by decide) q1904 rfl rfl rfl (wv_fnA (Or.inr ⟨_, rfl⟩)).1 (wv_fnA (Or.inr ⟨_, rfl⟩)).2 dX8_init_25 (fun w25 H locs S hv => ?_)
  refine wq_aload_n X dX8_init_28 rfl (lv_at hl 0 rfl) ?_
  refine lv_iconst (v := (0 : Int32)) X.hx X.hb dX8_init_29 (by decide) ?_
  refine wq_pt X S hv tyX8 tyX8_ok nmX8 ccX8 in_X8 (k := 3) (by decide) q1907 rfl rfl rfl rfl dX8_init_30 (fun w30 H locs S hv => ?_)
  exact wr_vret X S hv dX8_init_33
theorem wk_X8_init {G : wv_G} (hG : wv_G0 G) {v0 : Option Nat} {h : wv_H} {fr kc ks : Nat} {P : wv_R → wv_H → Prop} (hv : vc_X8_init_0 G fr P v0 (h, kc, ks)) : wv_C G yX8_init [va_rf v0] h fr kc ks P := by
  refine wv_enter (lv := [(0, va_rf v0)]) hG (by decide +kernel) q1896 (by decide) (by simp [lg_sl, wv_rfc, wv_kI, wv_kJ, wv_kF, wv_kD]) (by simp [lv_args, wv_rfc, wv_kI, wv_kJ, wv_kF, wv_kD]) ?_
  intro p e R s m args below meth c X H locs cells slots ls S hl
  exact wk_X8_init_0 X hv H locs cells slots ls S (lv_sub hl [0] rfl)

def vc_X20_index_0 (G : wv_G) (fr : Nat) (P : wv_R → wv_H → Prop) (v0 : Option Nat) (w : wv_W) : Prop :=
  wv_gI w v0 ciX20 3 (fun x1 => P (.inl (some (.int x1))) w.1)
set_option maxHeartbeats 4000000 in
theorem wk_X20_index_0 {G : wv_G} {p : Program} {e : Env} {R : Room} {s : State} {m : MethodId} {args : Array Value} {below : List Frame} {meth : Method} {c : Code} {fr : Nat} {P : wv_R → wv_H → Prop} (X : wv_ok G p R s m args meth c fr "WeaversgateModel$Spot" cX20_index 1 (Option.some Jvm.ClassFile.FieldType.int) "index" []) {v0 : Option Nat} {w : wv_W} (hv : vc_X20_index_0 G fr P v0 w) : wv_J G p e R s m args below meth c 1 P w 0 [(0, va_rf v0)] [] := by
  intro H locs cells slots ls S hl
  unfold vc_X20_index_0 at hv
  refine wq_aload_n X dX20_index_0 rfl (lv_at hl 0 rfl) ?_
  refine wq_gI X S hv ccX20 in_X20 (k := 3) (by decide) q2114 dX20_index_1 (fun x1 hv => ?_)
  exact wr_iret X S rfl hv dX20_index_4
theorem wk_X20_index {G : wv_G} (hG : wv_G0 G) {v0 : Option Nat} {h : wv_H} {fr kc ks : Nat} {P : wv_R → wv_H → Prop} (hv : vc_X20_index_0 G fr P v0 (h, kc, ks)) : wv_C G yX20_index [va_rf v0] h fr kc ks P := by
  refine wv_enter (lv := [(0, va_rf v0)]) hG (by decide +kernel) q2391 (by decide) (by simp [lg_sl, wv_rfc, wv_kI, wv_kJ, wv_kF, wv_kD]) (by simp [lv_args, wv_rfc, wv_kI, wv_kJ, wv_kF, wv_kD]) ?_
  intro p e R s m args below meth c X H locs cells slots ls S hl
  exact wk_X20_index_0 X hv H locs cells slots ls S (lv_sub hl [0] rfl)

def vc_X20_init_0 (G : wv_G) (fr : Nat) (P : wv_R → wv_H → Prop) (v0 : Option Nat) (v1 : Int32) (v2 : Int32) (v3 : Int32) (v4 : Int32) (w : wv_W) : Prop :=
  wv_cI G fr yJ23_init v0 [] w (wv_rV (fun w1 => wv_fit .char v1 ∧ wv_pt w1 v0 ciX20 0 (.int v1) (fun w6 => wv_pt w6 v0 ciX20 1 (.int v2) (fun w11 => wv_pt w11 v0 ciX20 2 (.int v3) (fun w16 => wv_pt w16 v0 ciX20 3 (.int v4) (fun w22 => P (.inl none) w22.1))))) (wv_pr P))
set_option maxHeartbeats 4000000 in
theorem wk_X20_init_0 {G : wv_G} {p : Program} {e : Env} {R : Room} {s : State} {m : MethodId} {args : Array Value} {below : List Frame} {meth : Method} {c : Code} {fr : Nat} {P : wv_R → wv_H → Prop} (X : wv_ok G p R s m args meth c fr "WeaversgateModel$Spot" cX20_init 5 (Option.none : Option Jvm.ClassFile.FieldType) "<init>" []) {v0 : Option Nat} {v1 : Int32} {v2 : Int32} {v3 : Int32} {v4 : Int32} {w : wv_W} (hv : vc_X20_init_0 G fr P v0 v1 v2 v3 v4 w) : wv_J G p e R s m args below meth c 5 P w 0 [(0, va_rf v0), (1, .int v1), (2, .int v2), (3, .int v3), (4, .int v4)] [] := by
  intro H locs cells slots ls S hl
  unfold vc_X20_init_0 at hv
  refine wq_aload_n X dX20_init_0 rfl (lv_at hl 0 rfl) ?_
  refine wq_cI_V X S hv rfl q2107 q2108 q2109 q104 ⟨by decide +kernel, by decide +kernel⟩ (nA := 0) (As := []) (by decide +kernel) rfl rfl (by simp [wv_rfc, wv_kI, wv_kJ, wv_kF, wv_kD]) hl.1 dX20_init_1 (fun w1 H locs cells slots S hv => ?_) (wq_kx X rfl)
  refine wq_aload_n X dX20_init_4 rfl (lv_at hl 0 rfl) ?_
  refine lv_iload_n X.hx X.hb dX20_init_5 rfl (lv_at hl 1 rfl) ?_
  have hv6 := hv.1
  have hv := hv.2
  refine wq_ptF X S hv tyX20 tyX20_ok nmX20 ccX20 in_X20 (k := 0) (by decide) q2111 rfl rfl rfl hv6.1 hv6.2 dX20_init_6 (fun w6 H locs S hv => ?_)
  refine wq_aload_n X dX20_init_9 rfl (lv_at hl 0 rfl) ?_
  refine lv_iload_n X.hx X.hb dX20_init_10 rfl (lv_at hl 2 rfl) ?_
  refine wq_ptF X S hv tyX20 tyX20_ok nmX20 ccX20 in_X20 (k := 1) (by decide) q2112 rfl rfl rfl rfl rfl dX20_init_11 (fun w11 H locs S hv => ?_)
  refine wq_aload_n X dX20_init_14 rfl (lv_at hl 0 rfl) ?_
  refine lv_iload_n X.hx X.hb dX20_init_15 rfl (lv_at hl 3 rfl) ?_
  refine wq_ptF X S hv tyX20 tyX20_ok nmX20 ccX20 in_X20 (k := 2) (by decide) q2113 rfl rfl rfl rfl rfl dX20_init_16 (fun w16 H locs S hv => ?_)
  refine wq_aload_n X dX20_init_19 rfl (lv_at hl 0 rfl) ?_
  refine lv_iload X.hx X.hb dX20_init_20 (lv_at hl 4 rfl) ?_
  refine wq_ptF X S hv tyX20 tyX20_ok nmX20 ccX20 in_X20 (k := 3) (by decide) q2114 rfl rfl rfl rfl rfl dX20_init_22 (fun w22 H locs S hv => ?_)
  exact wr_vret X S hv dX20_init_25
theorem wk_X20_init {G : wv_G} (hG : wv_G0 G) {v0 : Option Nat} {v1 : Int32} {v2 : Int32} {v3 : Int32} {v4 : Int32} {h : wv_H} {fr kc ks : Nat} {P : wv_R → wv_H → Prop} (hv : vc_X20_init_0 G fr P v0 v1 v2 v3 v4 (h, kc, ks)) : wv_C G yX20_init [va_rf v0, .int v1, .int v2, .int v3, .int v4] h fr kc ks P := by
  refine wv_enter (lv := [(0, va_rf v0), (1, .int v1), (2, .int v2), (3, .int v3), (4, .int v4)]) hG (by decide +kernel) q2106 (by decide) (by simp [lg_sl, wv_rfc, wv_kI, wv_kJ, wv_kF, wv_kD]) (by simp [lv_args, wv_rfc, wv_kI, wv_kJ, wv_kF, wv_kD]) ?_
  intro p e R s m args below meth c X H locs cells slots ls S hl
  exact wk_X20_init_0 X hv H locs cells slots ls S (lv_sub hl [0, 1, 2, 3, 4] rfl)

def vc_X20_kind_0 (G : wv_G) (fr : Nat) (P : wv_R → wv_H → Prop) (v0 : Option Nat) (w : wv_W) : Prop :=
  wv_gI w v0 ciX20 0 (fun x1 => narrow .char (.int x1) = .int x1 ∧ P (.inl (some (.int x1))) w.1)
set_option maxHeartbeats 4000000 in
theorem wk_X20_kind_0 {G : wv_G} {p : Program} {e : Env} {R : Room} {s : State} {m : MethodId} {args : Array Value} {below : List Frame} {meth : Method} {c : Code} {fr : Nat} {P : wv_R → wv_H → Prop} (X : wv_ok G p R s m args meth c fr "WeaversgateModel$Spot" cX20_kind 1 (Option.some Jvm.ClassFile.FieldType.char) "kind" []) {v0 : Option Nat} {w : wv_W} (hv : vc_X20_kind_0 G fr P v0 w) : wv_J G p e R s m args below meth c 1 P w 0 [(0, va_rf v0)] [] := by
  intro H locs cells slots ls S hl
  unfold vc_X20_kind_0 at hv
  refine wq_aload_n X dX20_kind_0 rfl (lv_at hl 0 rfl) ?_
  refine wq_gI X S hv ccX20 in_X20 (k := 0) (by decide) q2111 dX20_kind_1 (fun x1 hv => ?_)
  exact wr_iret X S hv.1 hv.2 dX20_kind_4
theorem wk_X20_kind {G : wv_G} (hG : wv_G0 G) {v0 : Option Nat} {h : wv_H} {fr kc ks : Nat} {P : wv_R → wv_H → Prop} (hv : vc_X20_kind_0 G fr P v0 (h, kc, ks)) : wv_C G yX20_kind [va_rf v0] h fr kc ks P := by
  refine wv_enter (lv := [(0, va_rf v0)]) hG (by decide +kernel) q2140 (by decide) (by simp [lg_sl, wv_rfc, wv_kI, wv_kJ, wv_kF, wv_kD]) (by simp [lv_args, wv_rfc, wv_kI, wv_kJ, wv_kF, wv_kD]) ?_
  intro p e R s m args below meth c X H locs cells slots ls S hl
  exact wk_X20_kind_0 X hv H locs cells slots ls S (lv_sub hl [0] rfl)

def vc_X20_made_0 (G : wv_G) (fr : Nat) (P : wv_R → wv_H → Prop) (v0 : Option Nat) (w : wv_W) : Prop :=
  wv_gI w v0 ciX20 2 (fun x1 => P (.inl (some (.int x1))) w.1)
set_option maxHeartbeats 4000000 in
theorem wk_X20_made_0 {G : wv_G} {p : Program} {e : Env} {R : Room} {s : State} {m : MethodId} {args : Array Value} {below : List Frame} {meth : Method} {c : Code} {fr : Nat} {P : wv_R → wv_H → Prop} (X : wv_ok G p R s m args meth c fr "WeaversgateModel$Spot" cX20_made 1 (Option.some Jvm.ClassFile.FieldType.int) "made" []) {v0 : Option Nat} {w : wv_W} (hv : vc_X20_made_0 G fr P v0 w) : wv_J G p e R s m args below meth c 1 P w 0 [(0, va_rf v0)] [] := by
  intro H locs cells slots ls S hl
  unfold vc_X20_made_0 at hv
  refine wq_aload_n X dX20_made_0 rfl (lv_at hl 0 rfl) ?_
  refine wq_gI X S hv ccX20 in_X20 (k := 2) (by decide) q2113 dX20_made_1 (fun x1 hv => ?_)
  exact wr_iret X S rfl hv dX20_made_4
theorem wk_X20_made {G : wv_G} (hG : wv_G0 G) {v0 : Option Nat} {h : wv_H} {fr kc ks : Nat} {P : wv_R → wv_H → Prop} (hv : vc_X20_made_0 G fr P v0 (h, kc, ks)) : wv_C G yX20_made [va_rf v0] h fr kc ks P := by
  refine wv_enter (lv := [(0, va_rf v0)]) hG (by decide +kernel) q2155 (by decide) (by simp [lg_sl, wv_rfc, wv_kI, wv_kJ, wv_kF, wv_kD]) (by simp [lv_args, wv_rfc, wv_kI, wv_kJ, wv_kF, wv_kD]) ?_
  intro p e R s m args below meth c X H locs cells slots ls S hl
  exact wk_X20_made_0 X hv H locs cells slots ls S (lv_sub hl [0] rfl)

def vc_X20_name_0 (G : wv_G) (fr : Nat) (P : wv_R → wv_H → Prop) (v0 : Option Nat) (w : wv_W) : Prop :=
  wv_gI w v0 ciX20 1 (fun x1 => P (.inl (some (.int x1))) w.1)
set_option maxHeartbeats 4000000 in
theorem wk_X20_name_0 {G : wv_G} {p : Program} {e : Env} {R : Room} {s : State} {m : MethodId} {args : Array Value} {below : List Frame} {meth : Method} {c : Code} {fr : Nat} {P : wv_R → wv_H → Prop} (X : wv_ok G p R s m args meth c fr "WeaversgateModel$Spot" cX20_name 1 (Option.some Jvm.ClassFile.FieldType.int) "name" []) {v0 : Option Nat} {w : wv_W} (hv : vc_X20_name_0 G fr P v0 w) : wv_J G p e R s m args below meth c 1 P w 0 [(0, va_rf v0)] [] := by
  intro H locs cells slots ls S hl
  unfold vc_X20_name_0 at hv
  refine wq_aload_n X dX20_name_0 rfl (lv_at hl 0 rfl) ?_
  refine wq_gI X S hv ccX20 in_X20 (k := 1) (by decide) q2112 dX20_name_1 (fun x1 hv => ?_)
  exact wr_iret X S rfl hv dX20_name_4
theorem wk_X20_name {G : wv_G} (hG : wv_G0 G) {v0 : Option Nat} {h : wv_H} {fr kc ks : Nat} {P : wv_R → wv_H → Prop} (hv : vc_X20_name_0 G fr P v0 (h, kc, ks)) : wv_C G yX20_name [va_rf v0] h fr kc ks P := by
  refine wv_enter (lv := [(0, va_rf v0)]) hG (by decide +kernel) q2144 (by decide) (by simp [lg_sl, wv_rfc, wv_kI, wv_kJ, wv_kF, wv_kD]) (by simp [lv_args, wv_rfc, wv_kI, wv_kJ, wv_kF, wv_kD]) ?_
  intro p e R s m args below meth c X H locs cells slots ls S hl
  exact wk_X20_name_0 X hv H locs cells slots ls S (lv_sub hl [0] rfl)

def vc_X26_acts_0 (G : wv_G) (fr : Nat) (P : wv_R → wv_H → Prop) (v0 : Option Nat) (v1 : Int32) (v2 : Int32) (w : wv_W) : Prop :=
  wv_gA w v0 ciX26 0 (fun x1 => wv_gA w x1 ciX5 0 (fun x4 => wv_cV G fr yJ2_size x4 [] w (wv_rI (fun x7 w7 => (¬ x7 = (400 : Int32) → wv_gA w7 v0 ciX26 0 (fun x25 => wv_gA w7 x25 ciX5 0 (fun x28 => wv_no G w7 (wo_o ciX31 [.int 0, .int 0, .int 0]) 3 (fun a31 w31 => wv_gA w31 v0 ciX26 4 (fun x36 => wv_gA w31 x36 ciX4 9 (fun x39 => wv_li G 1 w31 x39 v1 (fun x43 => wv_cI G fr yX31_init (some a31) [.int x43, .int v2, .int v1] w31 (wv_rV (fun w46 => wv_cV G fr yJ2_add x28 [va_rf (some a31)] w46 (wv_rI (fun x49 w49 => P (.inl none) w49.1) (wv_pr P))) (wv_pr P))))))))) ∧ (x7 = (400 : Int32) → wv_no G w7 (wo_o ciX28 [va_rf none, va_rf none, va_rf none, va_rf none, va_rf none, .int 0]) 6 (fun a16 w16 => wv_cI G fr yX28_init (some a16) [] w16 (wv_rV (fun w20 => wv_at w20 (some a16) (wv_pr P)) (wv_pr P))))) (wv_pr P))))
set_option maxHeartbeats 4000000 in
theorem wk_X26_acts_0 {G : wv_G} {p : Program} {e : Env} {R : Room} {s : State} {m : MethodId} {args : Array Value} {below : List Frame} {meth : Method} {c : Code} {fr : Nat} {P : wv_R → wv_H → Prop} (X : wv_ok G p R s m args meth c fr "WeaversgateModel$Run" cX26_acts 3 (Option.none : Option Jvm.ClassFile.FieldType) "acts" []) {v0 : Option Nat} {v1 : Int32} {v2 : Int32} {w : wv_W} (hv : vc_X26_acts_0 G fr P v0 v1 v2 w) : wv_J G p e R s m args below meth c 3 P w 0 [(0, va_rf v0), (1, .int v1), (2, .int v2)] [] := by
  intro H locs cells slots ls S hl
  unfold vc_X26_acts_0 at hv
  refine wq_aload_n X dX26_acts_0 rfl (lv_at hl 0 rfl) ?_
  refine wq_gA X S hv ccX26 in_X26 (k := 0) (by decide) q2249 dX26_acts_1 (fun x1 hv => ?_)
  refine wq_gA X S hv ccX5 in_X5 (k := 0) (by decide) q1775 dX26_acts_4 (fun x4 hv => ?_)
  refine wq_cV_I X S hv q2290 q270 q271 q63 ⟨by decide +kernel, by decide +kernel⟩ (nA := 0) (As := []) (by decide +kernel) rfl rfl (by simp [wv_rfc, wv_kI, wv_kJ, wv_kF, wv_kD]) hl.1 dX26_acts_7 (fun x7 w7 H locs cells slots S hv => ?_) (wq_kx X rfl)
  refine lv_sipush (v := (400 : Int32)) X.hx X.hb dX26_acts_10 (by decide) ?_
  refine lv_icmp_ne (tgt := 24) X.hx X.hb dX26_acts_13 (by decide) (fun c13 => ?_) (fun c13 => ?_)
  · have hv := hv.1 c13
    refine wq_aload_n X dX26_acts_24 rfl (lv_at hl 0 rfl) ?_
    refine wq_gA X S hv ccX26 in_X26 (k := 0) (by decide) q2249 dX26_acts_25 (fun x25 hv => ?_)
    refine wq_gA X S hv ccX5 in_X5 (k := 0) (by decide) q1775 dX26_acts_28 (fun x28 hv => ?_)
    refine wq_new X S hv tyX31 tyX31_ok ccX31 in_X31 q2451 q2452 q117 (fun j hj => by have hj : j < 3 := hj; rcases (show j = 0 ∨ j = 1 ∨ j = 2 by omega) with rfl | rfl | rfl <;> rfl) dX26_acts_31 (fun a31 w31 H cells slots S hv => ?_)
    refine lv_dup X.hx X.hb dX26_acts_34 (wv_rfc _) ?_
    refine wq_aload_n X dX26_acts_35 rfl (lv_at hl 0 rfl) ?_
    refine wq_gA X S hv ccX26 in_X26 (k := 4) (by decide) q2253 dX26_acts_36 (fun x36 hv => ?_)
    refine wq_gAN X S hv ccX4 in_X4 (k := 9) (by decide) q1817 dX26_acts_39 (fun x39 hv => ?_)
    refine lv_iload_n X.hx X.hb dX26_acts_42 rfl (lv_at hl 1 rfl) ?_
    refine wq_li1 X S hv dX26_acts_43 (fun x43 hv => ?_)
    refine lv_iload_n X.hx X.hb dX26_acts_44 rfl (lv_at hl 2 rfl) ?_
    refine lv_iload_n X.hx X.hb dX26_acts_45 rfl (lv_at hl 1 rfl) ?_
    refine wq_cIN_V X S hv rfl q2453 q2454 q2455 q117 ⟨by decide +kernel, by decide +kernel⟩ (nA := 3) (As := [.int x43, .int v2, .int v1]) (by decide +kernel) rfl rfl (by simp [wv_rfc, wv_kI, wv_kJ, wv_kF, wv_kD]) hl.1 dX26_acts_46 (fun w46 H locs cells slots S hv => ?_) (wq_kx X rfl)
    refine wq_cV_I X S hv q2358 q752 q753 q63 ⟨by decide +kernel, by decide +kernel⟩ (nA := 1) (As := [va_rf (some a31)]) (by decide +kernel) rfl rfl (by simp [wv_rfc, wv_kI, wv_kJ, wv_kF, wv_kD]) hl.1 dX26_acts_49 (fun x49 w49 H locs cells slots S hv => ?_) (wq_kx X rfl)
    refine lv_pop X.hx X.hb dX26_acts_52 rfl ?_
    exact wr_vret X S hv dX26_acts_53
  · have hv := hv.2 c13
    refine wq_new X S hv tyX28 tyX28_ok ccX28 in_X28 q2270 q2291 q114 (fun j hj => by have hj : j < 6 := hj; rcases (show j = 0 ∨ j = 1 ∨ j = 2 ∨ j = 3 ∨ j = 4 ∨ j = 5 by omega) with rfl | rfl | rfl | rfl | rfl | rfl <;> rfl) dX26_acts_16 (fun a16 w16 H cells slots S hv => ?_)
    refine lv_dup X.hx X.hb dX26_acts_19 (wv_rfc _) ?_
    refine wq_cIN_V X S hv rfl q2299 q2300 q2301 q114 ⟨by decide +kernel, by decide +kernel⟩ (nA := 0) (As := []) (by decide +kernel) rfl rfl (by simp [wv_rfc, wv_kI, wv_kJ, wv_kF, wv_kD]) hl.1 dX26_acts_20 (fun w20 H locs cells slots S hv => ?_) (wq_kx X rfl)
    exact wq_athrow X S hv dX26_acts_23 (wq_kx X rfl)
theorem wk_X26_acts {G : wv_G} (hG : wv_G0 G) {v0 : Option Nat} {v1 : Int32} {v2 : Int32} {h : wv_H} {fr kc ks : Nat} {P : wv_R → wv_H → Prop} (hv : vc_X26_acts_0 G fr P v0 v1 v2 (h, kc, ks)) : wv_C G yX26_acts [va_rf v0, .int v1, .int v2] h fr kc ks P := by
  refine wv_enter (lv := [(0, va_rf v0), (1, .int v1), (2, .int v2)]) hG (by decide +kernel) q2450 (by decide) (by simp [lg_sl, wv_rfc, wv_kI, wv_kJ, wv_kF, wv_kD]) (by simp [lv_args, wv_rfc, wv_kI, wv_kJ, wv_kF, wv_kD]) ?_
  intro p e R s m args below meth c X H locs cells slots ls S hl
  exact wk_X26_acts_0 X hv H locs cells slots ls S (lv_sub hl [0, 1, 2] rfl)

def vc_X26_around_102 (G : wv_G) (fr : Nat) (P : wv_R → wv_H → Prop) (K16 : ((Option Nat) × (Option Nat) × (Option Nat) × (Option Nat)) → wv_W → Prop) (K42 : ((Option Nat) × (Option Nat) × (Option Nat) × (Option Nat) × Int32 × Int32) → wv_W → Prop) (v0 : Option Nat) (v1 : Option Nat) (v2 : Option Nat) (v3 : Option Nat) (v4 : Int32) (v5 : Int32) (w : wv_W) : Prop :=
  K42 (v0, v1, v2, v3, v4, (v5 + (1 : Int32))) w
def vc_X26_around_42 (G : wv_G) (fr : Nat) (P : wv_R → wv_H → Prop) (K16 : ((Option Nat) × (Option Nat) × (Option Nat) × (Option Nat)) → wv_W → Prop) (K42 : ((Option Nat) × (Option Nat) × (Option Nat) × (Option Nat) × Int32 × Int32) → wv_W → Prop) (v0 : Option Nat) (v1 : Option Nat) (v2 : Option Nat) (v3 : Option Nat) (v4 : Int32) (v5 : Int32) (w : wv_W) : Prop :=
  wv_gA w v0 ciX26 4 (fun x45 => wv_gI w x45 ciX4 15 (fun x48 => (x48 ≤ v5 → K16 (v0, v1, v2, v3) w) ∧ (¬ x48 ≤ v5 → wv_gA w v0 ciX26 4 (fun x55 => wv_gA w x55 ciX4 10 (fun x58 => wv_li G 2 w x58 v5 (fun x63 => (x63 = 0 → vc_X26_around_102 G fr P K16 K42 v0 v1 v2 v3 v4 v5 w) ∧ (¬ x63 = 0 → wv_gA w v0 ciX26 4 (fun x68 => wv_gA w x68 ciX4 4 (fun x71 => wv_li G 0 w x71 v5 (fun x76 => (¬ x76 = v4 → vc_X26_around_102 G fr P K16 K42 v0 v1 v2 v3 v4 v5 w) ∧ (x76 = v4 → wv_cV G fr yX26_isTaken v0 [va_rf v1, .int v5] w (wv_rI (fun x86 w86 => (x86 = 0 → vc_X26_around_102 G fr P K16 K42 v0 v1 v2 v3 v4 v5 w86) ∧ (¬ x86 = 0 → wv_c0 G fr yJ20_valueOf [.int v5] w86 (wv_rA (fun x95 w95 => wv_cV G fr yJ2_add v2 [va_rf x95] w95 (wv_rI (fun x98 w98 => vc_X26_around_102 G fr P K16 K42 v0 v1 v2 v3 v4 v5 w98) (wv_pr P))) (wv_pr P)))) (wv_pr P)))))))))))))
def vc_X26_around_16 (G : wv_G) (fr : Nat) (P : wv_R → wv_H → Prop) (K16 : ((Option Nat) × (Option Nat) × (Option Nat) × (Option Nat)) → wv_W → Prop) (v0 : Option Nat) (v1 : Option Nat) (v2 : Option Nat) (v3 : Option Nat) (w : wv_W) : Prop :=
  wv_cF G fr (⟨"java/util/Iterator", "hasNext", "()Z"⟩ : MethodName) v3 [] w (wv_rI (fun x17 w17 => (x17 = 0 → P (.inl (some (va_rf v2))) w17.1) ∧ (¬ x17 = 0 → wv_cF G fr (⟨"java/util/Iterator", "next", "()Ljava/lang/Object;"⟩ : MethodName) v3 [] w17 (wv_rA (fun x26 w26 => wv_cc G w26 x26 "java/lang/Integer" (wv_cV G fr yJ20_intValue x26 [] w26 (wv_rI (fun x34 w34 => wv_L (fun K42 a w => vc_X26_around_42 G fr P K16 K42 a.1 a.2.1 a.2.2.1 a.2.2.2.1 a.2.2.2.2.1 a.2.2.2.2.2 w) (v0, v1, v2, v3, x34, (0 : Int32)) w34) (wv_pr P)))) (wv_pr P)))) (wv_pr P))
def vc_X26_around_0 (G : wv_G) (fr : Nat) (P : wv_R → wv_H → Prop) (v0 : Option Nat) (v1 : Option Nat) (w : wv_W) : Prop :=
  wv_no G w (wo_o ciJ2 [.int 0, va_rf none, .int 0]) 3 (fun a0 w0 => wv_cI G fr yJ2_init (some a0) [] w0 (wv_rV (fun w4 => wv_gA w4 v0 ciX26 2 (fun x9 => wv_cV G fr yJ2_iterator x9 [] w4 (wv_rA (fun x12 w12 => wv_L (fun K16 a w => vc_X26_around_16 G fr P K16 a.1 a.2.1 a.2.2.1 a.2.2.2 w) (v0, v1, (some a0), x12) w12) (wv_pr P)))) (wv_pr P)))
set_option maxHeartbeats 4000000 in
theorem wk_X26_around_102 {G : wv_G} {p : Program} {e : Env} {R : Room} {s : State} {m : MethodId} {args : Array Value} {below : List Frame} {meth : Method} {c : Code} {fr : Nat} {P : wv_R → wv_H → Prop} (X : wv_ok G p R s m args meth c fr "WeaversgateModel$Run" cX26_around 6 (Option.some (Jvm.ClassFile.FieldType.object "java/util/ArrayList")) "around" []) {K16 : ((Option Nat) × (Option Nat) × (Option Nat) × (Option Nat)) → wv_W → Prop} (hK16 : ∀ a w, K16 a w → wv_J G p e R s m args below meth c 6 P w 16 [(0, va_rf a.1), (1, va_rf a.2.1), (2, va_rf a.2.2.1), (3, va_rf a.2.2.2)] []) {K42 : ((Option Nat) × (Option Nat) × (Option Nat) × (Option Nat) × Int32 × Int32) → wv_W → Prop} (hK42 : ∀ a w, K42 a w → wv_J G p e R s m args below meth c 6 P w 42 [(0, va_rf a.1), (1, va_rf a.2.1), (2, va_rf a.2.2.1), (3, va_rf a.2.2.2.1), (4, .int a.2.2.2.2.1), (5, .int a.2.2.2.2.2)] []) {v0 : Option Nat} {v1 : Option Nat} {v2 : Option Nat} {v3 : Option Nat} {v4 : Int32} {v5 : Int32} {w : wv_W} (hv : vc_X26_around_102 G fr P K16 K42 v0 v1 v2 v3 v4 v5 w) : wv_J G p e R s m args below meth c 6 P w 102 [(0, va_rf v0), (1, va_rf v1), (2, va_rf v2), (3, va_rf v3), (4, .int v4), (5, .int v5)] [] := by
  intro H locs cells slots ls S hl
  unfold vc_X26_around_102 at hv
  refine lv_iinc (v := (v5 + (1 : Int32))) (lv' := [(5, .int (v5 + (1 : Int32))), (0, va_rf v0), (1, va_rf v1), (2, va_rf v2), (3, va_rf v3), (4, .int v4)]) X.hx X.hb dX26_around_102 hl (k := 5) rfl (by rfl) (by decide) (by simp [wv_rfc, wv_kI, wv_kJ, wv_kF, wv_kD]) (fun ls hl => ?_)
  refine lv_goto (tgt := 42) X.hx X.hb dX26_around_105 (by decide) ?_
  exact hK42 _ _ hv H locs cells slots ls S (lv_sub hl [1, 2, 3, 4, 5, 0] rfl)
set_option maxHeartbeats 4000000 in
theorem wk_X26_around_42 {G : wv_G} {p : Program} {e : Env} {R : Room} {s : State} {m : MethodId} {args : Array Value} {below : List Frame} {meth : Method} {c : Code} {fr : Nat} {P : wv_R → wv_H → Prop} (X : wv_ok G p R s m args meth c fr "WeaversgateModel$Run" cX26_around 6 (Option.some (Jvm.ClassFile.FieldType.object "java/util/ArrayList")) "around" []) {K16 : ((Option Nat) × (Option Nat) × (Option Nat) × (Option Nat)) → wv_W → Prop} (hK16 : ∀ a w, K16 a w → wv_J G p e R s m args below meth c 6 P w 16 [(0, va_rf a.1), (1, va_rf a.2.1), (2, va_rf a.2.2.1), (3, va_rf a.2.2.2)] []) {K42 : ((Option Nat) × (Option Nat) × (Option Nat) × (Option Nat) × Int32 × Int32) → wv_W → Prop} (hK42 : ∀ a w, K42 a w → wv_J G p e R s m args below meth c 6 P w 42 [(0, va_rf a.1), (1, va_rf a.2.1), (2, va_rf a.2.2.1), (3, va_rf a.2.2.2.1), (4, .int a.2.2.2.2.1), (5, .int a.2.2.2.2.2)] []) {v0 : Option Nat} {v1 : Option Nat} {v2 : Option Nat} {v3 : Option Nat} {v4 : Int32} {v5 : Int32} {w : wv_W} (hv : vc_X26_around_42 G fr P K16 K42 v0 v1 v2 v3 v4 v5 w) : wv_J G p e R s m args below meth c 6 P w 42 [(0, va_rf v0), (1, va_rf v1), (2, va_rf v2), (3, va_rf v3), (4, .int v4), (5, .int v5)] [] := by
  intro H locs cells slots ls S hl
  unfold vc_X26_around_42 at hv
  refine lv_iload X.hx X.hb dX26_around_42 (lv_at hl 5 rfl) ?_
  refine wq_aload_n X dX26_around_44 rfl (lv_at hl 0 rfl) ?_
  refine wq_gA X S hv ccX26 in_X26 (k := 4) (by decide) q2253 dX26_around_45 (fun x45 hv => ?_)
  refine wq_gIN X S hv ccX4 in_X4 (k := 15) (by decide) q1826 dX26_around_48 (fun x48 hv => ?_)
  refine lv_icmp_ge (tgt := 108) X.hx X.hb dX26_around_51 (by decide) (fun c51 => ?_) (fun c51 => ?_)
  · have hv := hv.1 c51
    refine lv_goto (tgt := 16) X.hx X.hb dX26_around_108 (by decide) ?_
    exact hK16 _ _ hv H locs cells slots ls S (lv_sub hl [0, 1, 2, 3] rfl)
  · have hv := hv.2 c51
    refine wq_aload_n X dX26_around_54 rfl (lv_at hl 0 rfl) ?_
    refine wq_gA X S hv ccX26 in_X26 (k := 4) (by decide) q2253 dX26_around_55 (fun x55 hv => ?_)
    refine wq_gAN X S hv ccX4 in_X4 (k := 10) (by decide) q1819 dX26_around_58 (fun x58 hv => ?_)
    refine lv_iload X.hx X.hb dX26_around_61 (lv_at hl 5 rfl) ?_
    refine wq_li2 X S hv dX26_around_63 (fun x63 hv => ?_)
    refine lv_if_eq (tgt := 102) X.hx X.hb dX26_around_64 (by decide) (fun c64 => ?_) (fun c64 => ?_)
    · have hv := hv.1 c64
      exact wk_X26_around_102 X hK16 hK42 hv H locs cells slots ls S (lv_sub hl [0, 1, 2, 3, 4, 5] rfl)
    · have hv := hv.2 c64
      refine wq_aload_n X dX26_around_67 rfl (lv_at hl 0 rfl) ?_
      refine wq_gA X S hv ccX26 in_X26 (k := 4) (by decide) q2253 dX26_around_68 (fun x68 hv => ?_)
      refine wq_gAN X S hv ccX4 in_X4 (k := 4) (by decide) q1807 dX26_around_71 (fun x71 hv => ?_)
      refine lv_iload X.hx X.hb dX26_around_74 (lv_at hl 5 rfl) ?_
      refine wq_li0 X S hv dX26_around_76 (fun x76 hv => ?_)
      refine lv_iload X.hx X.hb dX26_around_77 (lv_at hl 4 rfl) ?_
      refine lv_icmp_ne (tgt := 102) X.hx X.hb dX26_around_79 (by decide) (fun c79 => ?_) (fun c79 => ?_)
      · have hv := hv.1 c79
        exact wk_X26_around_102 X hK16 hK42 hv H locs cells slots ls S (lv_sub hl [0, 1, 2, 3, 4, 5] rfl)
      · have hv := hv.2 c79
        refine wq_aload_n X dX26_around_82 rfl (lv_at hl 0 rfl) ?_
        refine wq_aload_n X dX26_around_83 rfl (lv_at hl 1 rfl) ?_
        refine lv_iload X.hx X.hb dX26_around_84 (lv_at hl 5 rfl) ?_
        refine wq_cV_I X S hv q2365 q2366 q2367 q112 ⟨by decide +kernel, by decide +kernel⟩ (nA := 2) (As := [va_rf v1, .int v5]) (by decide +kernel) rfl rfl (by simp [wv_rfc, wv_kI, wv_kJ, wv_kF, wv_kD]) hl.1 dX26_around_86 (fun x86 w86 H locs cells slots S hv => ?_) (wq_kx X rfl)
        refine lv_if_eq (tgt := 102) X.hx X.hb dX26_around_89 (by decide) (fun c89 => ?_) (fun c89 => ?_)
        · have hv := hv.1 c89
          exact wk_X26_around_102 X hK16 hK42 hv H locs cells slots ls S (lv_sub hl [0, 1, 2, 3, 4, 5] rfl)
        · have hv := hv.2 c89
          refine wq_aload_n X dX26_around_92 rfl (lv_at hl 2 rfl) ?_
          refine lv_iload X.hx X.hb dX26_around_93 (lv_at hl 5 rfl) ?_
          refine wq_cS_A X S hv q2397 q1998 q100 ⟨by decide +kernel, by decide +kernel⟩ (nA := 1) (As := [.int v5]) (by decide +kernel) rfl rfl (by simp [wv_rfc, wv_kI, wv_kJ, wv_kF, wv_kD]) hl.1 dX26_around_95 (fun x95 w95 H locs cells slots S hv => ?_) (wq_kx X rfl)
          refine wq_cV_I X S hv q2358 q752 q753 q63 ⟨by decide +kernel, by decide +kernel⟩ (nA := 1) (As := [va_rf x95]) (by decide +kernel) rfl rfl (by simp [wv_rfc, wv_kI, wv_kJ, wv_kF, wv_kD]) hl.1 dX26_around_98 (fun x98 w98 H locs cells slots S hv => ?_) (wq_kx X rfl)
          refine lv_pop X.hx X.hb dX26_around_101 rfl ?_
          exact wk_X26_around_102 X hK16 hK42 hv H locs cells slots ls S (lv_sub hl [0, 1, 2, 3, 4, 5] rfl)
set_option maxHeartbeats 4000000 in
theorem wk_X26_around_16 {G : wv_G} {p : Program} {e : Env} {R : Room} {s : State} {m : MethodId} {args : Array Value} {below : List Frame} {meth : Method} {c : Code} {fr : Nat} {P : wv_R → wv_H → Prop} (X : wv_ok G p R s m args meth c fr "WeaversgateModel$Run" cX26_around 6 (Option.some (Jvm.ClassFile.FieldType.object "java/util/ArrayList")) "around" []) {K16 : ((Option Nat) × (Option Nat) × (Option Nat) × (Option Nat)) → wv_W → Prop} (hK16 : ∀ a w, K16 a w → wv_J G p e R s m args below meth c 6 P w 16 [(0, va_rf a.1), (1, va_rf a.2.1), (2, va_rf a.2.2.1), (3, va_rf a.2.2.2)] []) {v0 : Option Nat} {v1 : Option Nat} {v2 : Option Nat} {v3 : Option Nat} {w : wv_W} (hv : vc_X26_around_16 G fr P K16 v0 v1 v2 v3 w) : wv_J G p e R s m args below meth c 6 P w 16 [(0, va_rf v0), (1, va_rf v1), (2, va_rf v2), (3, va_rf v3)] [] := by
  intro H locs cells slots ls S hl
  unfold vc_X26_around_16 at hv
  refine wq_aload_n X dX26_around_16 rfl (lv_at hl 3 rfl) ?_
  refine wq_cF_I X S hv q2320 ⟨by decide +kernel, by decide +kernel⟩ (nA := 0) (As := []) (by decide +kernel) rfl rfl (by simp [wv_rfc, wv_kI, wv_kJ, wv_kF, wv_kD]) hl.1 dX26_around_17 (fun x17 w17 H locs cells slots S hv => ?_) (wq_kx X rfl)
  refine lv_if_eq (tgt := 111) X.hx X.hb dX26_around_22 (by decide) (fun c22 => ?_) (fun c22 => ?_)
  · have hv := hv.1 c22
    refine wq_aload_n X dX26_around_111 rfl (lv_at hl 2 rfl) ?_
    exact wr_aret X S (Or.inl ⟨_, rfl⟩) hv dX26_around_112
  · have hv := hv.2 c22
    refine wq_aload_n X dX26_around_25 rfl (lv_at hl 3 rfl) ?_
    refine wq_cF_A X S hv q2322 ⟨by decide +kernel, by decide +kernel⟩ (nA := 0) (As := []) (by decide +kernel) rfl rfl (by simp [wv_rfc, wv_kI, wv_kJ, wv_kF, wv_kD]) hl.1 dX26_around_26 (fun x26 w26 H locs cells slots S hv => ?_) (wq_kx X rfl)
    refine wq_cc X S hv q2363 dX26_around_31 (fun hv => ?_)
    refine wq_cV_I X S hv q2364 q2078 q2079 q100 ⟨by decide +kernel, by decide +kernel⟩ (nA := 0) (As := []) (by decide +kernel) rfl rfl (by simp [wv_rfc, wv_kI, wv_kJ, wv_kF, wv_kD]) hl.1 dX26_around_34 (fun x34 w34 H locs cells slots S hv => ?_) (wq_kx X rfl)
    refine lv_istore X.hx X.hb (i := 4) (lv' := [(4, .int x34), (0, va_rf v0), (1, va_rf v1), (2, va_rf v2), (3, va_rf v3)]) dX26_around_37 hl (by decide) (by simp [wv_rfc, wv_kI, wv_kJ, wv_kF, wv_kD]) (fun ls hl => ?_)
    refine lv_iconst (v := (0 : Int32)) X.hx X.hb dX26_around_39 (by decide) ?_
    refine lv_istore X.hx X.hb (i := 5) (lv' := [(5, .int (0 : Int32)), (4, .int x34), (0, va_rf v0), (1, va_rf v1), (2, va_rf v2), (3, va_rf v3)]) dX26_around_40 hl (by decide) (by simp [wv_rfc, wv_kI, wv_kJ, wv_kF, wv_kD]) (fun ls hl => ?_)
    exact wv_loop (A := (Option Nat) × (Option Nat) × (Option Nat) × (Option Nat) × Int32 × Int32) (fun a w => wv_J G p e R s m args below meth c 6 P w 42 [(0, va_rf a.1), (1, va_rf a.2.1), (2, va_rf a.2.2.1), (3, va_rf a.2.2.2.1), (4, .int a.2.2.2.2.1), (5, .int a.2.2.2.2.2)] []) (fun K42 hK42 a w hv => wk_X26_around_42 X hK16 hK42 hv) hv H locs cells slots ls S (lv_sub hl [2, 3, 4, 5, 1, 0] rfl)
set_option maxHeartbeats 4000000 in
theorem wk_X26_around_0 {G : wv_G} {p : Program} {e : Env} {R : Room} {s : State} {m : MethodId} {args : Array Value} {below : List Frame} {meth : Method} {c : Code} {fr : Nat} {P : wv_R → wv_H → Prop} (X : wv_ok G p R s m args meth c fr "WeaversgateModel$Run" cX26_around 6 (Option.some (Jvm.ClassFile.FieldType.object "java/util/ArrayList")) "around" []) {v0 : Option Nat} {v1 : Option Nat} {w : wv_W} (hv : vc_X26_around_0 G fr P v0 v1 w) : wv_J G p e R s m args below meth c 6 P w 0 [(0, va_rf v0), (1, va_rf v1)] [] := by
  intro H locs cells slots ls S hl
  unfold vc_X26_around_0 at hv
  refine wq_new X S hv tyJ2 tyJ2_ok ccJ2 in_J2 q2246 q128 q63 (fun j hj => by have hj : j < 3 := hj; rcases (show j = 0 ∨ j = 1 ∨ j = 2 by omega) with rfl | rfl | rfl <;> rfl) dX26_around_0 (fun a0 w0 H cells slots S hv => ?_)
  refine lv_dup X.hx X.hb dX26_around_3 (wv_rfc _) ?_
  refine wq_cI_V X S hv rfl q2247 q130 q131 q63 ⟨by decide +kernel, by decide +kernel⟩ (nA := 0) (As := []) (by decide +kernel) rfl rfl (by simp [wv_rfc, wv_kI, wv_kJ, wv_kF, wv_kD]) hl.1 dX26_around_4 (fun w4 H locs cells slots S hv => ?_) (wq_kx X rfl)
  refine wq_astore_n X (i := 2) (lv' := [(2, va_rf (some a0)), (0, va_rf v0), (1, va_rf v1)]) dX26_around_7 rfl hl (by decide) (by simp [wv_rfc, wv_kI, wv_kJ, wv_kF, wv_kD]) (fun ls hl => ?_)
  refine wq_aload_n X dX26_around_8 rfl (lv_at hl 1 rfl) ?_
  refine wq_gA X S hv ccX26 in_X26 (k := 2) (by decide) q2251 dX26_around_9 (fun x9 hv => ?_)
  refine wq_cV_A X S hv q2318 q2175 q2176 q63 ⟨by decide +kernel, by decide +kernel⟩ (nA := 0) (As := []) (by decide +kernel) rfl rfl (by simp [wv_rfc, wv_kI, wv_kJ, wv_kF, wv_kD]) hl.1 dX26_around_12 (fun x12 w12 H locs cells slots S hv => ?_) (wq_kx X rfl)
  refine wq_astore_n X (i := 3) (lv' := [(3, va_rf x12), (2, va_rf (some a0)), (0, va_rf v0), (1, va_rf v1)]) dX26_around_15 rfl hl (by decide) (by simp [wv_rfc, wv_kI, wv_kJ, wv_kF, wv_kD]) (fun ls hl => ?_)
  exact wv_loop (A := (Option Nat) × (Option Nat) × (Option Nat) × (Option Nat)) (fun a w => wv_J G p e R s m args below meth c 6 P w 16 [(0, va_rf a.1), (1, va_rf a.2.1), (2, va_rf a.2.2.1), (3, va_rf a.2.2.2)] []) (fun K16 hK16 a w hv => wk_X26_around_16 X hK16 hv) hv H locs cells slots ls S (lv_sub hl [2, 3, 1, 0] rfl)
theorem wk_X26_around {G : wv_G} (hG : wv_G0 G) {v0 : Option Nat} {v1 : Option Nat} {h : wv_H} {fr kc ks : Nat} {P : wv_R → wv_H → Prop} (hv : vc_X26_around_0 G fr P v0 v1 (h, kc, ks)) : wv_C G yX26_around [va_rf v0, va_rf v1] h fr kc ks P := by
  refine wv_enter (lv := [(0, va_rf v0), (1, va_rf v1)]) hG (by decide +kernel) q2362 (by decide) (by simp [lg_sl, wv_rfc, wv_kI, wv_kJ, wv_kF, wv_kD]) (by simp [lv_args, wv_rfc, wv_kI, wv_kJ, wv_kF, wv_kD]) ?_
  intro p e R s m args below meth c X H locs cells slots ls S hl
  exact wk_X26_around_0 X hv H locs cells slots ls S (lv_sub hl [0, 1] rfl)

def vc_X26_carries_124 (G : wv_G) (fr : Nat) (P : wv_R → wv_H → Prop) (K27 : ((Option Nat) × (Option Nat) × Int32 × Int32 × (Option Nat) × (Option Nat) × Int32 × Int32) → wv_W → Prop) (v0 : Option Nat) (v1 : Option Nat) (v2 : Int32) (v3 : Int32) (v5 : Option Nat) (v6 : Option Nat) (v7 : Int32) (v8 : Int32) (w : wv_W) : Prop :=
  K27 (v0, v1, v2, v3, v5, v6, v7, (v8 + (1 : Int32))) w
def vc_X26_carries_79 (G : wv_G) (fr : Nat) (P : wv_R → wv_H → Prop) (K27 : ((Option Nat) × (Option Nat) × Int32 × Int32 × (Option Nat) × (Option Nat) × Int32 × Int32) → wv_W → Prop) (v0 : Option Nat) (v1 : Option Nat) (v2 : Int32) (v3 : Int32) (v5 : Option Nat) (v6 : Option Nat) (v8 : Int32) (s0 : Option Nat) (w : wv_W) : Prop :=
  wv_gI w s0 ciX30 6 (fun x88 => wv_cV G fr yX26_handler v0 [va_rf v5, va_rf v6, .int x88] w (wv_rI (fun x91 w91 => (¬ x91 = (-1 : Int32) → wv_gI w91 s0 ciX30 6 (fun x110 => wv_cV G fr yX26_point v0 [.int (104 : Int32), .int x110, va_rf v1, .int v2, .int v3, .int x91, .int (0 : Int32)] w91 (wv_rI (fun x119 w119 => vc_X26_carries_124 G fr P K27 v0 v1 v2 v3 v5 v6 x119 v8 w119) (wv_pr P)))) ∧ (x91 = (-1 : Int32) → wv_at w91 s0 (wv_pr P))) (wv_pr P)))
def vc_X26_carries_61 (G : wv_G) (fr : Nat) (P : wv_R → wv_H → Prop) (K27 : ((Option Nat) × (Option Nat) × Int32 × Int32 × (Option Nat) × (Option Nat) × Int32 × Int32) → wv_W → Prop) (v0 : Option Nat) (v1 : Option Nat) (v2 : Int32) (v3 : Int32) (v5 : Option Nat) (v6 : Option Nat) (v7 : Int32) (v8 : Int32) (w : wv_W) : Prop :=
  wv_cV G fr yX26_step v0 [va_rf v1, .int v2, .int v3, va_rf v5, .int v8, .int v7] w (wv_rI (fun x71 w71 => vc_X26_carries_124 G fr P K27 v0 v1 v2 v3 v5 v6 x71 v8 w71) (fun E q w => (E = "WeaversgateModel$Raised" → vc_X26_carries_79 G fr P K27 v0 v1 v2 v3 v5 v6 v8 (some q) w) ∧ (¬ E = "WeaversgateModel$Raised" → (va_Nc E "WeaversgateModel$Raised" G.2.1 ∧ P (.inr (E, q)) w.1))))
def vc_X26_carries_27 (G : wv_G) (fr : Nat) (P : wv_R → wv_H → Prop) (K27 : ((Option Nat) × (Option Nat) × Int32 × Int32 × (Option Nat) × (Option Nat) × Int32 × Int32) → wv_W → Prop) (v0 : Option Nat) (v1 : Option Nat) (v2 : Int32) (v3 : Int32) (v5 : Option Nat) (v6 : Option Nat) (v7 : Int32) (v8 : Int32) (w : wv_W) : Prop :=
  wv_gI w v5 ciX8 3 (fun x31 => (x31 ≤ v8 → P (.inl (some (.int v7))) w.1) ∧ (¬ x31 ≤ v8 → wv_gA w v5 ciX8 0 (fun x39 => wv_li G 1 w x39 v8 (fun x44 => (¬ x44 = (104 : Int32) → vc_X26_carries_61 G fr P K27 v0 v1 v2 v3 v5 v6 v7 v8 w) ∧ (x44 = (104 : Int32) → wv_c0 G fr yJ20_valueOf [.int v8] w (wv_rA (fun x54 w54 => wv_cV G fr yJ2_add v6 [va_rf x54] w54 (wv_rI (fun x57 w57 => vc_X26_carries_61 G fr P K27 v0 v1 v2 v3 v5 v6 v7 v8 w57) (fun E q w => (E = "WeaversgateModel$Raised" → vc_X26_carries_79 G fr P K27 v0 v1 v2 v3 v5 v6 v8 (some q) w) ∧ (¬ E = "WeaversgateModel$Raised" → (va_Nc E "WeaversgateModel$Raised" G.2.1 ∧ P (.inr (E, q)) w.1))))) (fun E q w => (E = "WeaversgateModel$Raised" → vc_X26_carries_79 G fr P K27 v0 v1 v2 v3 v5 v6 v8 (some q) w) ∧ (¬ E = "WeaversgateModel$Raised" → (va_Nc E "WeaversgateModel$Raised" G.2.1 ∧ P (.inr (E, q)) w.1)))))))))
def vc_X26_carries_0 (G : wv_G) (fr : Nat) (P : wv_R → wv_H → Prop) (v0 : Option Nat) (v1 : Option Nat) (v2 : Int32) (v3 : Int32) (v4 : Int32) (w : wv_W) : Prop :=
  wv_gA w v0 ciX26 4 (fun x1 => wv_cV G fr yX4_body x1 [.int v2, .int v3] w (wv_rA (fun x6 w6 => wv_no G w6 (wo_o ciJ2 [.int 0, va_rf none, .int 0]) 3 (fun a11 w11 => wv_cI G fr yJ2_init (some a11) [] w11 (wv_rV (fun w15 => wv_L (fun K27 a w => vc_X26_carries_27 G fr P K27 a.1 a.2.1 a.2.2.1 a.2.2.2.1 a.2.2.2.2.1 a.2.2.2.2.2.1 a.2.2.2.2.2.2.1 a.2.2.2.2.2.2.2 w) (v0, v1, v2, v3, x6, (some a11), v4, (0 : Int32)) w15) (wv_pr P)))) (wv_pr P)))
set_option maxHeartbeats 4000000 in
theorem wk_X26_carries_124 {G : wv_G} {p : Program} {e : Env} {R : Room} {s : State} {m : MethodId} {args : Array Value} {below : List Frame} {meth : Method} {c : Code} {fr : Nat} {P : wv_R → wv_H → Prop} (X : wv_ok G p R s m args meth c fr "WeaversgateModel$Run" cX26_carries 11 (Option.some Jvm.ClassFile.FieldType.int) "carries" [(37, 76, 79, 205)]) {K27 : ((Option Nat) × (Option Nat) × Int32 × Int32 × (Option Nat) × (Option Nat) × Int32 × Int32) → wv_W → Prop} (hK27 : ∀ a w, K27 a w → wv_J G p e R s m args below meth c 11 P w 27 [(0, va_rf a.1), (1, va_rf a.2.1), (2, .int a.2.2.1), (3, .int a.2.2.2.1), (5, va_rf a.2.2.2.2.1), (6, va_rf a.2.2.2.2.2.1), (7, .int a.2.2.2.2.2.2.1), (8, .int a.2.2.2.2.2.2.2)] []) {v0 : Option Nat} {v1 : Option Nat} {v2 : Int32} {v3 : Int32} {v5 : Option Nat} {v6 : Option Nat} {v7 : Int32} {v8 : Int32} {w : wv_W} (hv : vc_X26_carries_124 G fr P K27 v0 v1 v2 v3 v5 v6 v7 v8 w) : wv_J G p e R s m args below meth c 11 P w 124 [(0, va_rf v0), (1, va_rf v1), (2, .int v2), (3, .int v3), (5, va_rf v5), (6, va_rf v6), (7, .int v7), (8, .int v8)] [] := by
  intro H locs cells slots ls S hl
  unfold vc_X26_carries_124 at hv
  refine lv_iinc (v := (v8 + (1 : Int32))) (lv' := [(8, .int (v8 + (1 : Int32))), (0, va_rf v0), (1, va_rf v1), (2, .int v2), (3, .int v3), (5, va_rf v5), (6, va_rf v6), (7, .int v7)]) X.hx X.hb dX26_carries_124 hl (k := 7) rfl (by rfl) (by decide) (by simp [wv_rfc, wv_kI, wv_kJ, wv_kF, wv_kD]) (fun ls hl => ?_)
  refine lv_goto (tgt := 27) X.hx X.hb dX26_carries_127 (by decide) ?_
  exact hK27 _ _ hv H locs cells slots ls S (lv_sub hl [1, 2, 3, 4, 5, 6, 7, 0] rfl)
set_option maxHeartbeats 4000000 in
theorem wk_X26_carries_79 {G : wv_G} {p : Program} {e : Env} {R : Room} {s : State} {m : MethodId} {args : Array Value} {below : List Frame} {meth : Method} {c : Code} {fr : Nat} {P : wv_R → wv_H → Prop} (X : wv_ok G p R s m args meth c fr "WeaversgateModel$Run" cX26_carries 11 (Option.some Jvm.ClassFile.FieldType.int) "carries" [(37, 76, 79, 205)]) {K27 : ((Option Nat) × (Option Nat) × Int32 × Int32 × (Option Nat) × (Option Nat) × Int32 × Int32) → wv_W → Prop} (hK27 : ∀ a w, K27 a w → wv_J G p e R s m args below meth c 11 P w 27 [(0, va_rf a.1), (1, va_rf a.2.1), (2, .int a.2.2.1), (3, .int a.2.2.2.1), (5, va_rf a.2.2.2.2.1), (6, va_rf a.2.2.2.2.2.1), (7, .int a.2.2.2.2.2.2.1), (8, .int a.2.2.2.2.2.2.2)] []) {v0 : Option Nat} {v1 : Option Nat} {v2 : Int32} {v3 : Int32} {v5 : Option Nat} {v6 : Option Nat} {v8 : Int32} {s0 : Option Nat} {w : wv_W} (hv : vc_X26_carries_79 G fr P K27 v0 v1 v2 v3 v5 v6 v8 s0 w) : wv_J G p e R s m args below meth c 11 P w 79 [(0, va_rf v0), (1, va_rf v1), (2, .int v2), (3, .int v3), (5, va_rf v5), (6, va_rf v6), (8, .int v8)] [va_rf s0] := by
  intro H locs cells slots ls S hl
  unfold vc_X26_carries_79 at hv
  refine wq_astore X (i := 9) (lv' := [(9, va_rf s0), (0, va_rf v0), (1, va_rf v1), (2, .int v2), (3, .int v3), (5, va_rf v5), (6, va_rf v6), (8, .int v8)]) dX26_carries_79 hl (by decide) (by simp [wv_rfc, wv_kI, wv_kJ, wv_kF, wv_kD]) (fun ls hl => ?_)
  refine wq_aload_n X dX26_carries_81 rfl (lv_at hl 1 rfl) ?_
  refine wq_aload X dX26_carries_82 (lv_at hl 5 rfl) ?_
  refine wq_aload X dX26_carries_84 (lv_at hl 6 rfl) ?_
  refine wq_aload X dX26_carries_86 (lv_at hl 0 rfl) ?_
  refine wq_gI X S hv ccX30 in_X30 (k := 6) (by decide) q2424 dX26_carries_88 (fun x88 hv => ?_)
  refine wq_cV_I X S hv q2438 q2439 q2440 q112 ⟨by decide +kernel, by decide +kernel⟩ (nA := 3) (As := [va_rf v5, va_rf v6, .int x88]) (by decide +kernel) rfl rfl (by simp [wv_rfc, wv_kI, wv_kJ, wv_kF, wv_kD]) hl.1 dX26_carries_91 (fun x91 w91 H locs cells slots S hv => ?_) (wq_kx X rfl)
  refine lv_istore X.hx X.hb (i := 10) (lv' := [(10, .int x91), (9, va_rf s0), (0, va_rf v0), (1, va_rf v1), (2, .int v2), (3, .int v3), (5, va_rf v5), (6, va_rf v6), (8, .int v8)]) dX26_carries_94 hl (by decide) (by simp [wv_rfc, wv_kI, wv_kJ, wv_kF, wv_kD]) (fun ls hl => ?_)
  refine lv_iload X.hx X.hb dX26_carries_96 (lv_at hl 0 rfl) ?_
  refine lv_iconst (v := (-1 : Int32)) X.hx X.hb dX26_carries_98 (by decide) ?_
  refine lv_icmp_ne (tgt := 105) X.hx X.hb dX26_carries_99 (by decide) (fun c99 => ?_) (fun c99 => ?_)
  · have hv := hv.1 c99
    refine wq_aload_n X dX26_carries_105 rfl (lv_at hl 2 rfl) ?_
    refine lv_bipush (v := (104 : Int32)) X.hx X.hb dX26_carries_106 (by decide) ?_
    refine wq_aload X dX26_carries_108 (lv_at hl 1 rfl) ?_
    refine wq_gI X S hv ccX30 in_X30 (k := 6) (by decide) q2424 dX26_carries_110 (fun x110 hv => ?_)
    refine wq_aload_n X dX26_carries_113 rfl (lv_at hl 3 rfl) ?_
    refine lv_iload_n X.hx X.hb dX26_carries_114 rfl (lv_at hl 4 rfl) ?_
    refine lv_iload_n X.hx X.hb dX26_carries_115 rfl (lv_at hl 5 rfl) ?_
    refine lv_iload X.hx X.hb dX26_carries_116 (lv_at hl 0 rfl) ?_
    refine lv_iconst (v := (0 : Int32)) X.hx X.hb dX26_carries_118 (by decide) ?_
    refine wq_cV_I X S hv q2286 q2287 q2288 q112 ⟨by decide +kernel, by decide +kernel⟩ (nA := 7) (As := [.int (104 : Int32), .int x110, va_rf v1, .int v2, .int v3, .int x91, .int (0 : Int32)]) (by decide +kernel) rfl rfl (by simp [wv_rfc, wv_kI, wv_kJ, wv_kF, wv_kD]) hl.1 dX26_carries_119 (fun x119 w119 H locs cells slots S hv => ?_) (wq_kx X rfl)
    refine lv_istore X.hx X.hb (i := 7) (lv' := [(7, .int x119), (10, .int x91), (9, va_rf s0), (0, va_rf v0), (1, va_rf v1), (2, .int v2), (3, .int v3), (5, va_rf v5), (6, va_rf v6), (8, .int v8)]) dX26_carries_122 hl (by decide) (by simp [wv_rfc, wv_kI, wv_kJ, wv_kF, wv_kD]) (fun ls hl => ?_)
    exact wk_X26_carries_124 X hK27 hv H locs cells slots ls S (lv_sub hl [3, 4, 5, 6, 7, 8, 0, 9] rfl)
  · have hv := hv.2 c99
    refine wq_aload X dX26_carries_102 (lv_at hl 1 rfl) ?_
    exact wq_athrow X S hv dX26_carries_104 (wq_kx X rfl)
set_option maxHeartbeats 4000000 in
theorem wk_X26_carries_61 {G : wv_G} {p : Program} {e : Env} {R : Room} {s : State} {m : MethodId} {args : Array Value} {below : List Frame} {meth : Method} {c : Code} {fr : Nat} {P : wv_R → wv_H → Prop} (X : wv_ok G p R s m args meth c fr "WeaversgateModel$Run" cX26_carries 11 (Option.some Jvm.ClassFile.FieldType.int) "carries" [(37, 76, 79, 205)]) {K27 : ((Option Nat) × (Option Nat) × Int32 × Int32 × (Option Nat) × (Option Nat) × Int32 × Int32) → wv_W → Prop} (hK27 : ∀ a w, K27 a w → wv_J G p e R s m args below meth c 11 P w 27 [(0, va_rf a.1), (1, va_rf a.2.1), (2, .int a.2.2.1), (3, .int a.2.2.2.1), (5, va_rf a.2.2.2.2.1), (6, va_rf a.2.2.2.2.2.1), (7, .int a.2.2.2.2.2.2.1), (8, .int a.2.2.2.2.2.2.2)] []) {v0 : Option Nat} {v1 : Option Nat} {v2 : Int32} {v3 : Int32} {v5 : Option Nat} {v6 : Option Nat} {v7 : Int32} {v8 : Int32} {w : wv_W} (hv : vc_X26_carries_61 G fr P K27 v0 v1 v2 v3 v5 v6 v7 v8 w) : wv_J G p e R s m args below meth c 11 P w 61 [(0, va_rf v0), (1, va_rf v1), (2, .int v2), (3, .int v3), (5, va_rf v5), (6, va_rf v6), (7, .int v7), (8, .int v8)] [] := by
  intro H locs cells slots ls S hl
  unfold vc_X26_carries_61 at hv
  refine wq_aload_n X dX26_carries_61 rfl (lv_at hl 0 rfl) ?_
  refine wq_aload_n X dX26_carries_62 rfl (lv_at hl 1 rfl) ?_
  refine lv_iload_n X.hx X.hb dX26_carries_63 rfl (lv_at hl 2 rfl) ?_
  refine lv_iload_n X.hx X.hb dX26_carries_64 rfl (lv_at hl 3 rfl) ?_
  refine wq_aload X dX26_carries_65 (lv_at hl 4 rfl) ?_
  refine lv_iload X.hx X.hb dX26_carries_67 (lv_at hl 7 rfl) ?_
  refine lv_iload X.hx X.hb dX26_carries_69 (lv_at hl 6 rfl) ?_
  refine wq_cV_I X S hv q2434 q2435 q2436 q112 ⟨by decide +kernel, by decide +kernel⟩ (nA := 6) (As := [va_rf v1, .int v2, .int v3, va_rf v5, .int v8, .int v7]) (by decide +kernel) rfl rfl (by simp [wv_rfc, wv_kI, wv_kJ, wv_kF, wv_kD]) hl.1 dX26_carries_71 (fun x71 w71 H locs cells slots S hv => ?_) ?_
  · refine lv_istore X.hx X.hb (i := 7) (lv' := [(7, .int x71), (0, va_rf v0), (1, va_rf v1), (2, .int v2), (3, .int v3), (5, va_rf v5), (6, va_rf v6), (8, .int v8)]) dX26_carries_74 hl (by decide) (by simp [wv_rfc, wv_kI, wv_kJ, wv_kF, wv_kD]) (fun ls hl => ?_)
    refine lv_goto (tgt := 124) X.hx X.hb dX26_carries_76 (by decide) ?_
    exact wk_X26_carries_124 X hK27 hv H locs cells slots ls S (lv_sub hl [1, 2, 3, 4, 5, 6, 0, 7] rfl)
  · intro E q w H locs cells slots S hv hth
    by_cases hE : E = "WeaversgateModel$Raised"
    · subst hE
      have hv := hv.1 rfl
      refine wr_catch X [] (37, 76, 79, 205) [] rfl (fun z hz => by cases hz) rfl (by decide) q2269 q2412 hth ?_
      exact wk_X26_carries_79 X hK27 hv H locs cells slots ls S (lv_sub hl [0, 1, 2, 3, 4, 5, 7] rfl)
    · have hv := hv.2 hE
      have hN0 := va_Nc.moved X.hW.alike hv.1
      have hv := hv.2
      exact wr_outP X S hv hth (List.forall_mem_cons.mpr ⟨(Or.inr ⟨by decide, "WeaversgateModel$Raised", q2269, hN0⟩), (fun z hz => absurd hz List.not_mem_nil)⟩)
set_option maxHeartbeats 4000000 in
theorem wk_X26_carries_27 {G : wv_G} {p : Program} {e : Env} {R : Room} {s : State} {m : MethodId} {args : Array Value} {below : List Frame} {meth : Method} {c : Code} {fr : Nat} {P : wv_R → wv_H → Prop} (X : wv_ok G p R s m args meth c fr "WeaversgateModel$Run" cX26_carries 11 (Option.some Jvm.ClassFile.FieldType.int) "carries" [(37, 76, 79, 205)]) {K27 : ((Option Nat) × (Option Nat) × Int32 × Int32 × (Option Nat) × (Option Nat) × Int32 × Int32) → wv_W → Prop} (hK27 : ∀ a w, K27 a w → wv_J G p e R s m args below meth c 11 P w 27 [(0, va_rf a.1), (1, va_rf a.2.1), (2, .int a.2.2.1), (3, .int a.2.2.2.1), (5, va_rf a.2.2.2.2.1), (6, va_rf a.2.2.2.2.2.1), (7, .int a.2.2.2.2.2.2.1), (8, .int a.2.2.2.2.2.2.2)] []) {v0 : Option Nat} {v1 : Option Nat} {v2 : Int32} {v3 : Int32} {v5 : Option Nat} {v6 : Option Nat} {v7 : Int32} {v8 : Int32} {w : wv_W} (hv : vc_X26_carries_27 G fr P K27 v0 v1 v2 v3 v5 v6 v7 v8 w) : wv_J G p e R s m args below meth c 11 P w 27 [(0, va_rf v0), (1, va_rf v1), (2, .int v2), (3, .int v3), (5, va_rf v5), (6, va_rf v6), (7, .int v7), (8, .int v8)] [] := by
  intro H locs cells slots ls S hl
  unfold vc_X26_carries_27 at hv
  refine lv_iload X.hx X.hb dX26_carries_27 (lv_at hl 7 rfl) ?_
  refine wq_aload X dX26_carries_29 (lv_at hl 4 rfl) ?_
  refine wq_gI X S hv ccX8 in_X8 (k := 3) (by decide) q1909 dX26_carries_31 (fun x31 hv => ?_)
  refine lv_icmp_ge (tgt := 130) X.hx X.hb dX26_carries_34 (by decide) (fun c34 => ?_) (fun c34 => ?_)
  · have hv := hv.1 c34
    refine lv_iload X.hx X.hb dX26_carries_130 (lv_at hl 6 rfl) ?_
    exact wr_iret X S rfl hv dX26_carries_132
  · have hv := hv.2 c34
    refine wq_aload X dX26_carries_37 (lv_at hl 4 rfl) ?_
    refine wq_gA X S hv ccX8 in_X8 (k := 0) (by decide) q1900 dX26_carries_39 (fun x39 hv => ?_)
    refine lv_iload X.hx X.hb dX26_carries_42 (lv_at hl 7 rfl) ?_
    refine wq_li1 X S hv dX26_carries_44 (fun x44 hv => ?_)
    refine lv_bipush (v := (104 : Int32)) X.hx X.hb dX26_carries_45 (by decide) ?_
    refine lv_icmp_ne (tgt := 61) X.hx X.hb dX26_carries_47 (by decide) (fun c47 => ?_) (fun c47 => ?_)
    · have hv := hv.1 c47
      exact wk_X26_carries_61 X hK27 hv H locs cells slots ls S (lv_sub hl [0, 1, 2, 3, 4, 5, 6, 7] rfl)
    · have hv := hv.2 c47
      refine wq_aload X dX26_carries_50 (lv_at hl 5 rfl) ?_
      refine lv_iload X.hx X.hb dX26_carries_52 (lv_at hl 7 rfl) ?_
      refine wq_cS_A X S hv q2397 q1998 q100 ⟨by decide +kernel, by decide +kernel⟩ (nA := 1) (As := [.int v8]) (by decide +kernel) rfl rfl (by simp [wv_rfc, wv_kI, wv_kJ, wv_kF, wv_kD]) hl.1 dX26_carries_54 (fun x54 w54 H locs cells slots S hv => ?_) ?_
      · refine wq_cV_I X S hv q2358 q752 q753 q63 ⟨by decide +kernel, by decide +kernel⟩ (nA := 1) (As := [va_rf x54]) (by decide +kernel) rfl rfl (by simp [wv_rfc, wv_kI, wv_kJ, wv_kF, wv_kD]) hl.1 dX26_carries_57 (fun x57 w57 H locs cells slots S hv => ?_) ?_
        · refine lv_pop X.hx X.hb dX26_carries_60 rfl ?_
          exact wk_X26_carries_61 X hK27 hv H locs cells slots ls S (lv_sub hl [0, 1, 2, 3, 4, 5, 6, 7] rfl)
        · intro E q w H locs cells slots S hv hth
          by_cases hE : E = "WeaversgateModel$Raised"
          · subst hE
            have hv := hv.1 rfl
            refine wr_catch X [] (37, 76, 79, 205) [] rfl (fun z hz => by cases hz) rfl (by decide) q2269 q2412 hth ?_
            exact wk_X26_carries_79 X hK27 hv H locs cells slots ls S (lv_sub hl [0, 1, 2, 3, 4, 5, 7] rfl)
          · have hv := hv.2 hE
            have hN0 := va_Nc.moved X.hW.alike hv.1
            have hv := hv.2
            exact wr_outP X S hv hth (List.forall_mem_cons.mpr ⟨(Or.inr ⟨by decide, "WeaversgateModel$Raised", q2269, hN0⟩), (fun z hz => absurd hz List.not_mem_nil)⟩)
      · intro E q w H locs cells slots S hv hth
        by_cases hE : E = "WeaversgateModel$Raised"
        · subst hE
          have hv := hv.1 rfl
          refine wr_catch X [] (37, 76, 79, 205) [] rfl (fun z hz => by cases hz) rfl (by decide) q2269 q2412 hth ?_
          exact wk_X26_carries_79 X hK27 hv H locs cells slots ls S (lv_sub hl [0, 1, 2, 3, 4, 5, 7] rfl)
        · have hv := hv.2 hE
          have hN0 := va_Nc.moved X.hW.alike hv.1
          have hv := hv.2
          exact wr_outP X S hv hth (List.forall_mem_cons.mpr ⟨(Or.inr ⟨by decide, "WeaversgateModel$Raised", q2269, hN0⟩), (fun z hz => absurd hz List.not_mem_nil)⟩)
set_option maxHeartbeats 4000000 in
theorem wk_X26_carries_0 {G : wv_G} {p : Program} {e : Env} {R : Room} {s : State} {m : MethodId} {args : Array Value} {below : List Frame} {meth : Method} {c : Code} {fr : Nat} {P : wv_R → wv_H → Prop} (X : wv_ok G p R s m args meth c fr "WeaversgateModel$Run" cX26_carries 11 (Option.some Jvm.ClassFile.FieldType.int) "carries" [(37, 76, 79, 205)]) {v0 : Option Nat} {v1 : Option Nat} {v2 : Int32} {v3 : Int32} {v4 : Int32} {w : wv_W} (hv : vc_X26_carries_0 G fr P v0 v1 v2 v3 v4 w) : wv_J G p e R s m args below meth c 11 P w 0 [(0, va_rf v0), (1, va_rf v1), (2, .int v2), (3, .int v3), (4, .int v4)] [] := by
  intro H locs cells slots ls S hl
  unfold vc_X26_carries_0 at hv
  refine wq_aload_n X dX26_carries_0 rfl (lv_at hl 0 rfl) ?_
  refine wq_gA X S hv ccX26 in_X26 (k := 4) (by decide) q2253 dX26_carries_1 (fun x1 hv => ?_)
  refine lv_iload_n X.hx X.hb dX26_carries_4 rfl (lv_at hl 2 rfl) ?_
  refine lv_iload_n X.hx X.hb dX26_carries_5 rfl (lv_at hl 3 rfl) ?_
  refine wq_cVN_A X S hv q2433 q1891 qs37 q1892 q66 ⟨by decide +kernel, by decide +kernel⟩ (nA := 2) (As := [.int v2, .int v3]) (by decide +kernel) rfl rfl (by simp [wv_rfc, wv_kI, wv_kJ, wv_kF, wv_kD]) hl.1 dX26_carries_6 (fun x6 w6 H locs cells slots S hv => ?_) (wq_kx X rfl)
  refine wq_astore X (i := 5) (lv' := [(5, va_rf x6), (0, va_rf v0), (1, va_rf v1), (2, .int v2), (3, .int v3), (4, .int v4)]) dX26_carries_9 hl (by decide) (by simp [wv_rfc, wv_kI, wv_kJ, wv_kF, wv_kD]) (fun ls hl => ?_)
  refine wq_new X S hv tyJ2 tyJ2_ok ccJ2 in_J2 q2246 q128 q63 (fun j hj => by have hj : j < 3 := hj; rcases (show j = 0 ∨ j = 1 ∨ j = 2 by omega) with rfl | rfl | rfl <;> rfl) dX26_carries_11 (fun a11 w11 H cells slots S hv => ?_)
  refine lv_dup X.hx X.hb dX26_carries_14 (wv_rfc _) ?_
  refine wq_cI_V X S hv rfl q2247 q130 q131 q63 ⟨by decide +kernel, by decide +kernel⟩ (nA := 0) (As := []) (by decide +kernel) rfl rfl (by simp [wv_rfc, wv_kI, wv_kJ, wv_kF, wv_kD]) hl.1 dX26_carries_15 (fun w15 H locs cells slots S hv => ?_) (wq_kx X rfl)
  refine wq_astore X (i := 6) (lv' := [(6, va_rf (some a11)), (5, va_rf x6), (0, va_rf v0), (1, va_rf v1), (2, .int v2), (3, .int v3), (4, .int v4)]) dX26_carries_18 hl (by decide) (by simp [wv_rfc, wv_kI, wv_kJ, wv_kF, wv_kD]) (fun ls hl => ?_)
  refine lv_iload X.hx X.hb dX26_carries_20 (lv_at hl 6 rfl) ?_
  refine lv_istore X.hx X.hb (i := 7) (lv' := [(7, .int v4), (6, va_rf (some a11)), (5, va_rf x6), (0, va_rf v0), (1, va_rf v1), (2, .int v2), (3, .int v3), (4, .int v4)]) dX26_carries_22 hl (by decide) (by simp [wv_rfc, wv_kI, wv_kJ, wv_kF, wv_kD]) (fun ls hl => ?_)
  refine lv_iconst (v := (0 : Int32)) X.hx X.hb dX26_carries_24 (by decide) ?_
  refine lv_istore X.hx X.hb (i := 8) (lv' := [(8, .int (0 : Int32)), (7, .int v4), (6, va_rf (some a11)), (5, va_rf x6), (0, va_rf v0), (1, va_rf v1), (2, .int v2), (3, .int v3), (4, .int v4)]) dX26_carries_25 hl (by decide) (by simp [wv_rfc, wv_kI, wv_kJ, wv_kF, wv_kD]) (fun ls hl => ?_)
  exact wv_loop (A := (Option Nat) × (Option Nat) × Int32 × Int32 × (Option Nat) × (Option Nat) × Int32 × Int32) (fun a w => wv_J G p e R s m args below meth c 11 P w 27 [(0, va_rf a.1), (1, va_rf a.2.1), (2, .int a.2.2.1), (3, .int a.2.2.2.1), (5, va_rf a.2.2.2.2.1), (6, va_rf a.2.2.2.2.2.1), (7, .int a.2.2.2.2.2.2.1), (8, .int a.2.2.2.2.2.2.2)] []) (fun K27 hK27 a w hv => wk_X26_carries_27 X hK27 hv) hv H locs cells slots ls S (lv_sub hl [4, 5, 6, 7, 3, 2, 1, 0] rfl)
theorem wk_X26_carries {G : wv_G} (hG : wv_G0 G) {v0 : Option Nat} {v1 : Option Nat} {v2 : Int32} {v3 : Int32} {v4 : Int32} {h : wv_H} {fr kc ks : Nat} {P : wv_R → wv_H → Prop} (hv : vc_X26_carries_0 G fr P v0 v1 v2 v3 v4 (h, kc, ks)) : wv_C G yX26_carries [va_rf v0, va_rf v1, .int v2, .int v3, .int v4] h fr kc ks P := by
  refine wv_enterW (lv := [(0, va_rf v0), (1, va_rf v1), (2, .int v2), (3, .int v3), (4, .int v4)]) hG (by decide +kernel) q2432 (by decide) (by simp [lg_sl, wv_rfc, wv_kI, wv_kJ, wv_kF, wv_kD]) (by simp [lv_args, wv_rfc, wv_kI, wv_kJ, wv_kF, wv_kD]) ?_
  intro p e R s m args below meth c X H locs cells slots ls S hl
  exact wk_X26_carries_0 X hv H locs cells slots ls S (lv_sub hl [0, 1, 2, 3, 4] rfl)

def vc_X26_does_0 (G : wv_G) (fr : Nat) (P : wv_R → wv_H → Prop) (v0 : Option Nat) (v1 : Option Nat) (v2 : Option Nat) (v3 : Int32) (w : wv_W) : Prop :=
  wv_cV G fr yX29_name v1 [] w (wv_rI (fun x1 w1 => wv_cV G fr yX29_kind v1 [] w1 (wv_rI (fun x7 w7 => (¬ x7 = (99 : Int32) → wv_cV G fr yX29_kind v1 [] w7 (wv_rI (fun x62 w62 => (¬ x62 = (101 : Int32) → wv_cV G fr yX29_kind v1 [] w62 (wv_rI (fun x84 w84 => (¬ x84 = (103 : Int32) → wv_cV G fr yX29_kind v1 [] w84 (wv_rI (fun x103 w103 => (¬ x103 = (115 : Int32) → P (.inl (some (.int v3))) w103.1) ∧ (x103 = (115 : Int32) → wv_gA w103 v2 ciX27 1 (fun x112 => wv_si G 0 w103 x112 x1 v3 (fun w118 => P (.inl (some (.int v3))) w118.1)))) (wv_pr P))) ∧ (x84 = (103 : Int32) → wv_gA w84 v2 ciX27 1 (fun x94 => wv_li G 0 w84 x94 x1 (fun x99 => P (.inl (some (.int (v3 + x99)))) w84.1)))) (wv_pr P))) ∧ (x62 = (101 : Int32) → wv_cV G fr yX29_placeClass v1 [] w62 (wv_rI (fun x73 w73 => wv_cV G fr yX26_carries v0 [va_rf v2, .int x73, .int x1, .int v3] w73 (wv_rI (fun x79 w79 => P (.inl (some (.int x79))) w79.1) (wv_pr P))) (wv_pr P)))) (wv_pr P))) ∧ (x7 = (99 : Int32) → wv_gA w7 v0 ciX26 4 (fun x16 => wv_gI w7 v2 ciX27 0 (fun x20 => wv_cV G fr yX4_found x16 [.int x20, .int x1] w7 (wv_rI (fun x25 w25 => (¬ x25 = (-1 : Int32) → wv_cV G fr yX26_point v0 [.int (101 : Int32), .int x1, va_rf v2, .int x25, .int x1, .int (-1 : Int32), .int v3] w25 (wv_rI (fun x57 w57 => P (.inl (some (.int x57))) w57.1) (wv_pr P))) ∧ (x25 = (-1 : Int32) → wv_no G w25 (wo_o ciX30 [va_rf none, va_rf none, va_rf none, va_rf none, va_rf none, .int 0, .int 0]) 7 (fun a36 w36 => wv_cI G fr yX30_init (some a36) [.int (4 : Int32)] w36 (wv_rV (fun w41 => wv_at w41 (some a36) (wv_pr P)) (wv_pr P))))) (wv_pr P)))))) (wv_pr P))) (wv_pr P))
set_option maxHeartbeats 4000000 in
theorem wk_X26_does_0 {G : wv_G} {p : Program} {e : Env} {R : Room} {s : State} {m : MethodId} {args : Array Value} {below : List Frame} {meth : Method} {c : Code} {fr : Nat} {P : wv_R → wv_H → Prop} (X : wv_ok G p R s m args meth c fr "WeaversgateModel$Run" cX26_does 6 (Option.some Jvm.ClassFile.FieldType.int) "does" []) {v0 : Option Nat} {v1 : Option Nat} {v2 : Option Nat} {v3 : Int32} {w : wv_W} (hv : vc_X26_does_0 G fr P v0 v1 v2 v3 w) : wv_J G p e R s m args below meth c 6 P w 0 [(0, va_rf v0), (1, va_rf v1), (2, va_rf v2), (3, .int v3)] [] := by
  intro H locs cells slots ls S hl
  unfold vc_X26_does_0 at hv
  refine wq_aload_n X dX26_does_0 rfl (lv_at hl 1 rfl) ?_
  refine wq_cV_I X S hv q2406 q2407 q2408 q115 ⟨by decide +kernel, by decide +kernel⟩ (nA := 0) (As := []) (by decide +kernel) rfl rfl (by simp [wv_rfc, wv_kI, wv_kJ, wv_kF, wv_kD]) hl.1 dX26_does_1 (fun x1 w1 H locs cells slots S hv => ?_) (wq_kx X rfl)
  refine lv_istore X.hx X.hb (i := 4) (lv' := [(4, .int x1), (0, va_rf v0), (1, va_rf v1), (2, va_rf v2), (3, .int v3)]) dX26_does_4 hl (by decide) (by simp [wv_rfc, wv_kI, wv_kJ, wv_kF, wv_kD]) (fun ls hl => ?_)
  refine wq_aload_n X dX26_does_6 rfl (lv_at hl 2 rfl) ?_
  refine wq_cV_I X S hv q2384 q2385 q2386 q115 ⟨by decide +kernel, by decide +kernel⟩ (nA := 0) (As := []) (by decide +kernel) rfl rfl (by simp [wv_rfc, wv_kI, wv_kJ, wv_kF, wv_kD]) hl.1 dX26_does_7 (fun x7 w7 H locs cells slots S hv => ?_) (wq_kx X rfl)
  refine lv_bipush (v := (99 : Int32)) X.hx X.hb dX26_does_10 (by decide) ?_
  refine lv_icmp_ne (tgt := 61) X.hx X.hb dX26_does_12 (by decide) (fun c12 => ?_) (fun c12 => ?_)
  · have hv := hv.1 c12
    refine wq_aload_n X dX26_does_61 rfl (lv_at hl 2 rfl) ?_
    refine wq_cV_I X S hv q2384 q2385 q2386 q115 ⟨by decide +kernel, by decide +kernel⟩ (nA := 0) (As := []) (by decide +kernel) rfl rfl (by simp [wv_rfc, wv_kI, wv_kJ, wv_kF, wv_kD]) hl.1 dX26_does_62 (fun x62 w62 H locs cells slots S hv => ?_) (wq_kx X rfl)
    refine lv_bipush (v := (101 : Int32)) X.hx X.hb dX26_does_65 (by decide) ?_
    refine lv_icmp_ne (tgt := 83) X.hx X.hb dX26_does_67 (by decide) (fun c67 => ?_) (fun c67 => ?_)
    · have hv := hv.1 c67
      refine wq_aload_n X dX26_does_83 rfl (lv_at hl 2 rfl) ?_
      refine wq_cV_I X S hv q2384 q2385 q2386 q115 ⟨by decide +kernel, by decide +kernel⟩ (nA := 0) (As := []) (by decide +kernel) rfl rfl (by simp [wv_rfc, wv_kI, wv_kJ, wv_kF, wv_kD]) hl.1 dX26_does_84 (fun x84 w84 H locs cells slots S hv => ?_) (wq_kx X rfl)
      refine lv_bipush (v := (103 : Int32)) X.hx X.hb dX26_does_87 (by decide) ?_
      refine lv_icmp_ne (tgt := 102) X.hx X.hb dX26_does_89 (by decide) (fun c89 => ?_) (fun c89 => ?_)
      · have hv := hv.1 c89
        refine wq_aload_n X dX26_does_102 rfl (lv_at hl 2 rfl) ?_
        refine wq_cV_I X S hv q2384 q2385 q2386 q115 ⟨by decide +kernel, by decide +kernel⟩ (nA := 0) (As := []) (by decide +kernel) rfl rfl (by simp [wv_rfc, wv_kI, wv_kJ, wv_kF, wv_kD]) hl.1 dX26_does_103 (fun x103 w103 H locs cells slots S hv => ?_) (wq_kx X rfl)
        refine lv_bipush (v := (115 : Int32)) X.hx X.hb dX26_does_106 (by decide) ?_
        refine lv_icmp_ne (tgt := 119) X.hx X.hb dX26_does_108 (by decide) (fun c108 => ?_) (fun c108 => ?_)
        · have hv := hv.1 c108
          refine lv_iload_n X.hx X.hb dX26_does_119 rfl (lv_at hl 4 rfl) ?_
          exact wr_iret X S rfl hv dX26_does_120
        · have hv := hv.2 c108
          refine wq_aload_n X dX26_does_111 rfl (lv_at hl 3 rfl) ?_
          refine wq_gA X S hv ccX27 in_X27 (k := 1) (by decide) q2280 dX26_does_112 (fun x112 hv => ?_)
          refine lv_iload X.hx X.hb dX26_does_115 (lv_at hl 0 rfl) ?_
          refine lv_iload_n X.hx X.hb dX26_does_117 rfl (lv_at hl 4 rfl) ?_
          refine wq_si0 X S hv dX26_does_118 (fun w118 H locs S hv => ?_)
          refine lv_iload_n X.hx X.hb dX26_does_119 rfl (lv_at hl 4 rfl) ?_
          exact wr_iret X S rfl hv dX26_does_120
      · have hv := hv.2 c89
        refine lv_iload_n X.hx X.hb dX26_does_92 rfl (lv_at hl 4 rfl) ?_
        refine wq_aload_n X dX26_does_93 rfl (lv_at hl 3 rfl) ?_
        refine wq_gA X S hv ccX27 in_X27 (k := 1) (by decide) q2280 dX26_does_94 (fun x94 hv => ?_)
        refine lv_iload X.hx X.hb dX26_does_97 (lv_at hl 0 rfl) ?_
        refine wq_li0 X S hv dX26_does_99 (fun x99 hv => ?_)
        refine lv_iadd X.hx X.hb dX26_does_100 ?_
        exact wr_iret X S rfl hv dX26_does_101
    · have hv := hv.2 c67
      refine wq_aload_n X dX26_does_70 rfl (lv_at hl 1 rfl) ?_
      refine wq_aload_n X dX26_does_71 rfl (lv_at hl 3 rfl) ?_
      refine wq_aload_n X dX26_does_72 rfl (lv_at hl 2 rfl) ?_
      refine wq_cV_I X S hv q2369 q2370 q2371 q115 ⟨by decide +kernel, by decide +kernel⟩ (nA := 0) (As := []) (by decide +kernel) rfl rfl (by simp [wv_rfc, wv_kI, wv_kJ, wv_kF, wv_kD]) hl.1 dX26_does_73 (fun x73 w73 H locs cells slots S hv => ?_) (wq_kx X rfl)
      refine lv_iload X.hx X.hb dX26_does_76 (lv_at hl 0 rfl) ?_
      refine lv_iload_n X.hx X.hb dX26_does_78 rfl (lv_at hl 4 rfl) ?_
      refine wq_cV_I X S hv q2429 q2430 q2431 q112 ⟨by decide +kernel, by decide +kernel⟩ (nA := 4) (As := [va_rf v2, .int x73, .int x1, .int v3]) (by decide +kernel) rfl rfl (by simp [wv_rfc, wv_kI, wv_kJ, wv_kF, wv_kD]) hl.1 dX26_does_79 (fun x79 w79 H locs cells slots S hv => ?_) (wq_kx X rfl)
      exact wr_iret X S rfl hv dX26_does_82
  · have hv := hv.2 c12
    refine wq_aload_n X dX26_does_15 rfl (lv_at hl 1 rfl) ?_
    refine wq_gA X S hv ccX26 in_X26 (k := 4) (by decide) q2253 dX26_does_16 (fun x16 hv => ?_)
    refine wq_aload_n X dX26_does_19 rfl (lv_at hl 3 rfl) ?_
    refine wq_gI X S hv ccX27 in_X27 (k := 0) (by decide) q2278 dX26_does_20 (fun x20 hv => ?_)
    refine lv_iload X.hx X.hb dX26_does_23 (lv_at hl 0 rfl) ?_
    refine wq_cVN_I X S hv q2410 q1933 qs39 q1934 q66 ⟨by decide +kernel, by decide +kernel⟩ (nA := 2) (As := [.int x20, .int x1]) (by decide +kernel) rfl rfl (by simp [wv_rfc, wv_kI, wv_kJ, wv_kF, wv_kD]) hl.1 dX26_does_25 (fun x25 w25 H locs cells slots S hv => ?_) (wq_kx X rfl)
    refine lv_istore X.hx X.hb (i := 5) (lv' := [(5, .int x25), (4, .int x1), (0, va_rf v0), (1, va_rf v1), (2, va_rf v2), (3, .int v3)]) dX26_does_28 hl (by decide) (by simp [wv_rfc, wv_kI, wv_kJ, wv_kF, wv_kD]) (fun ls hl => ?_)
    refine lv_iload X.hx X.hb dX26_does_30 (lv_at hl 0 rfl) ?_
    refine lv_iconst (v := (-1 : Int32)) X.hx X.hb dX26_does_32 (by decide) ?_
    refine lv_icmp_ne (tgt := 45) X.hx X.hb dX26_does_33 (by decide) (fun c33 => ?_) (fun c33 => ?_)
    · have hv := hv.1 c33
      refine wq_aload_n X dX26_does_45 rfl (lv_at hl 2 rfl) ?_
      refine lv_bipush (v := (101 : Int32)) X.hx X.hb dX26_does_46 (by decide) ?_
      refine lv_iload X.hx X.hb dX26_does_48 (lv_at hl 1 rfl) ?_
      refine wq_aload_n X dX26_does_50 rfl (lv_at hl 4 rfl) ?_
      refine lv_iload X.hx X.hb dX26_does_51 (lv_at hl 0 rfl) ?_
      refine lv_iload X.hx X.hb dX26_does_53 (lv_at hl 1 rfl) ?_
      refine lv_iconst (v := (-1 : Int32)) X.hx X.hb dX26_does_55 (by decide) ?_
      refine lv_iload_n X.hx X.hb dX26_does_56 rfl (lv_at hl 5 rfl) ?_
      refine wq_cV_I X S hv q2286 q2287 q2288 q112 ⟨by decide +kernel, by decide +kernel⟩ (nA := 7) (As := [.int (101 : Int32), .int x1, va_rf v2, .int x25, .int x1, .int (-1 : Int32), .int v3]) (by decide +kernel) rfl rfl (by simp [wv_rfc, wv_kI, wv_kJ, wv_kF, wv_kD]) hl.1 dX26_does_57 (fun x57 w57 H locs cells slots S hv => ?_) (wq_kx X rfl)
      exact wr_iret X S rfl hv dX26_does_60
    · have hv := hv.2 c33
      refine wq_new X S hv tyX30 tyX30_ok ccX30 in_X30 q2269 q2411 q116 (fun j hj => by have hj : j < 7 := hj; rcases (show j = 0 ∨ j = 1 ∨ j = 2 ∨ j = 3 ∨ j = 4 ∨ j = 5 ∨ j = 6 by omega) with rfl | rfl | rfl | rfl | rfl | rfl | rfl <;> rfl) dX26_does_36 (fun a36 w36 H cells slots S hv => ?_)
      refine lv_dup X.hx X.hb dX26_does_39 (wv_rfc _) ?_
      refine lv_iconst (v := (4 : Int32)) X.hx X.hb dX26_does_40 (by decide) ?_
      refine wq_cI_V X S hv rfl q2419 q2420 q2421 q116 ⟨by decide +kernel, by decide +kernel⟩ (nA := 1) (As := [.int (4 : Int32)]) (by decide +kernel) rfl rfl (by simp [wv_rfc, wv_kI, wv_kJ, wv_kF, wv_kD]) hl.1 dX26_does_41 (fun w41 H locs cells slots S hv => ?_) (wq_kx X rfl)
      exact wq_athrow X S hv dX26_does_44 (wq_kx X rfl)
theorem wk_X26_does {G : wv_G} (hG : wv_G0 G) {v0 : Option Nat} {v1 : Option Nat} {v2 : Option Nat} {v3 : Int32} {h : wv_H} {fr kc ks : Nat} {P : wv_R → wv_H → Prop} (hv : vc_X26_does_0 G fr P v0 v1 v2 v3 (h, kc, ks)) : wv_C G yX26_does [va_rf v0, va_rf v1, va_rf v2, .int v3] h fr kc ks P := by
  refine wv_enter (lv := [(0, va_rf v0), (1, va_rf v1), (2, va_rf v2), (3, .int v3)]) hG (by decide +kernel) q2405 (by decide) (by simp [lg_sl, wv_rfc, wv_kI, wv_kJ, wv_kF, wv_kD]) (by simp [lv_args, wv_rfc, wv_kI, wv_kJ, wv_kF, wv_kD]) ?_
  intro p e R s m args below meth c X H locs cells slots ls S hl
  exact wk_X26_does_0 X hv H locs cells slots ls S (lv_sub hl [0, 1, 2, 3] rfl)

def vc_X26_goes_140 (G : wv_G) (fr : Nat) (P : wv_R → wv_H → Prop) (v0 : Option Nat) (v6 : Int32) (v8 : Int32) (w : wv_W) : Prop :=
  wv_cV G fr yX26_acts v0 [.int v6, .int v8] w (wv_rV (fun w145 => P (.inl (some (.int v8))) w145.1) (wv_pr P))
def vc_X26_goes_123 (G : wv_G) (fr : Nat) (P : wv_R → wv_H → Prop) (v9 : Option Nat) (w : wv_W) : Prop :=
  wv_at w v9 (wv_pr P)
def vc_X26_goes_112 (G : wv_G) (fr : Nat) (P : wv_R → wv_H → Prop) (v0 : Option Nat) (v6 : Int32) (v9 : Option Nat) (w : wv_W) : Prop :=
  wv_gI w v9 ciX30 6 (fun x117 => wv_cV G fr yX26_acts v0 [.int v6, .int x117] w (wv_rV (fun w120 => vc_X26_goes_123 G fr P v9 w120) (wv_pr P)))
def vc_X26_goes_96 (G : wv_G) (fr : Nat) (P : wv_R → wv_H → Prop) (v0 : Option Nat) (v6 : Int32) (v7 : Int32) (s0 : Option Nat) (w : wv_W) : Prop :=
  (v7 = (120 : Int32) → vc_X26_goes_112 G fr P v0 v6 s0 w) ∧ (¬ v7 = (120 : Int32) → (¬ v7 = (102 : Int32) → vc_X26_goes_123 G fr P s0 w) ∧ (v7 = (102 : Int32) → vc_X26_goes_112 G fr P v0 v6 s0 w))
def vc_X26_goes_78 (G : wv_G) (fr : Nat) (P : wv_R → wv_H → Prop) (v0 : Option Nat) (v1 : Option Nat) (v2 : Option Nat) (v3 : Option Nat) (v4 : Int32) (v5 : Int32) (v6 : Int32) (v7 : Int32) (w : wv_W) : Prop :=
  wv_cV G fr yX26_goes v0 [va_rf v1, va_rf v2, va_rf v3, .int (v4 + (1 : Int32)), .int v5] w (wv_rI (fun x88 w88 => (v7 = (97 : Int32) → vc_X26_goes_140 G fr P v0 v6 x88 w88) ∧ (¬ v7 = (97 : Int32) → (¬ v7 = (102 : Int32) → P (.inl (some (.int x88))) w88.1) ∧ (v7 = (102 : Int32) → vc_X26_goes_140 G fr P v0 v6 x88 w88))) (fun E q w => (E = "WeaversgateModel$Raised" → vc_X26_goes_96 G fr P v0 v6 v7 (some q) w) ∧ (¬ E = "WeaversgateModel$Raised" → (va_Nc E "WeaversgateModel$Raised" G.2.1 ∧ P (.inr (E, q)) w.1))))
def vc_X26_goes_0 (G : wv_G) (fr : Nat) (P : wv_R → wv_H → Prop) (v0 : Option Nat) (v1 : Option Nat) (v2 : Option Nat) (v3 : Option Nat) (v4 : Int32) (v5 : Int32) (w : wv_W) : Prop :=
  wv_cV G fr yJ2_size v3 [] w (wv_rI (fun x3 w3 => (¬ v4 = x3 → wv_cV G fr yJ2_get v3 [.int v4] w3 (wv_rA (fun x21 w21 => wv_cc G w21 x21 "java/lang/Integer" (wv_cV G fr yJ20_intValue x21 [] w21 (wv_rI (fun x27 w27 => wv_gA w27 v0 ciX26 4 (fun x33 => wv_gA w27 x33 ciX4 9 (fun x36 => wv_li G 1 w27 x36 x27 (fun x41 => (¬ x41 = (114 : Int32) → (¬ x41 = (98 : Int32) → vc_X26_goes_78 G fr P v0 v1 v2 v3 v4 v5 x27 x41 w27) ∧ (x41 = (98 : Int32) → wv_cV G fr yX26_acts v0 [.int x27, .int v5] w27 (wv_rV (fun w75 => vc_X26_goes_78 G fr P v0 v1 v2 v3 v4 v5 x27 x41 w75) (wv_pr P)))) ∧ (x41 = (114 : Int32) → wv_cV G fr yX26_replaces v0 [va_rf v1, va_rf v2, va_rf v3, .int v4, .int v5] w27 (wv_rI (fun x59 w59 => P (.inl (some (.int x59))) w59.1) (wv_pr P))))))) (wv_pr P)))) (wv_pr P))) ∧ (v4 = x3 → wv_cV G fr yX26_does v0 [va_rf v1, va_rf v2, .int v5] w3 (wv_rI (fun x14 w14 => P (.inl (some (.int x14))) w14.1) (wv_pr P)))) (wv_pr P))
set_option maxHeartbeats 4000000 in
theorem wk_X26_goes_140 {G : wv_G} {p : Program} {e : Env} {R : Room} {s : State} {m : MethodId} {args : Array Value} {below : List Frame} {meth : Method} {c : Code} {fr : Nat} {P : wv_R → wv_H → Prop} (X : wv_ok G p R s m args meth c fr "WeaversgateModel$Run" cX26_goes 10 (Option.some Jvm.ClassFile.FieldType.int) "goes" [(78, 93, 96, 205)]) {v0 : Option Nat} {v6 : Int32} {v8 : Int32} {w : wv_W} (hv : vc_X26_goes_140 G fr P v0 v6 v8 w) : wv_J G p e R s m args below meth c 10 P w 140 [(0, va_rf v0), (6, .int v6), (8, .int v8)] [] := by
  intro H locs cells slots ls S hl
  unfold vc_X26_goes_140 at hv
  refine wq_aload_n X dX26_goes_140 rfl (lv_at hl 0 rfl) ?_
  refine lv_iload X.hx X.hb dX26_goes_141 (lv_at hl 1 rfl) ?_
  refine lv_iload X.hx X.hb dX26_goes_143 (lv_at hl 2 rfl) ?_
  refine wq_cV_V X S hv q2447 q2448 q2449 q112 ⟨by decide +kernel, by decide +kernel⟩ (nA := 2) (As := [.int v6, .int v8]) (by decide +kernel) rfl rfl (by simp [wv_rfc, wv_kI, wv_kJ, wv_kF, wv_kD]) hl.1 dX26_goes_145 (fun w145 H locs cells slots S hv => ?_) (wq_kx X rfl)
  refine lv_iload X.hx X.hb dX26_goes_148 (lv_at hl 2 rfl) ?_
  exact wr_iret X S rfl hv dX26_goes_150
set_option maxHeartbeats 4000000 in
theorem wk_X26_goes_123 {G : wv_G} {p : Program} {e : Env} {R : Room} {s : State} {m : MethodId} {args : Array Value} {below : List Frame} {meth : Method} {c : Code} {fr : Nat} {P : wv_R → wv_H → Prop} (X : wv_ok G p R s m args meth c fr "WeaversgateModel$Run" cX26_goes 10 (Option.some Jvm.ClassFile.FieldType.int) "goes" [(78, 93, 96, 205)]) {v9 : Option Nat} {w : wv_W} (hv : vc_X26_goes_123 G fr P v9 w) : wv_J G p e R s m args below meth c 10 P w 123 [(9, va_rf v9)] [] := by
  intro H locs cells slots ls S hl
  unfold vc_X26_goes_123 at hv
  refine wq_aload X dX26_goes_123 (lv_at hl 0 rfl) ?_
  exact wq_athrow X S hv dX26_goes_125 (wq_kx X rfl)
set_option maxHeartbeats 4000000 in
theorem wk_X26_goes_112 {G : wv_G} {p : Program} {e : Env} {R : Room} {s : State} {m : MethodId} {args : Array Value} {below : List Frame} {meth : Method} {c : Code} {fr : Nat} {P : wv_R → wv_H → Prop} (X : wv_ok G p R s m args meth c fr "WeaversgateModel$Run" cX26_goes 10 (Option.some Jvm.ClassFile.FieldType.int) "goes" [(78, 93, 96, 205)]) {v0 : Option Nat} {v6 : Int32} {v9 : Option Nat} {w : wv_W} (hv : vc_X26_goes_112 G fr P v0 v6 v9 w) : wv_J G p e R s m args below meth c 10 P w 112 [(0, va_rf v0), (6, .int v6), (9, va_rf v9)] [] := by
  intro H locs cells slots ls S hl
  unfold vc_X26_goes_112 at hv
  refine wq_aload_n X dX26_goes_112 rfl (lv_at hl 0 rfl) ?_
  refine lv_iload X.hx X.hb dX26_goes_113 (lv_at hl 1 rfl) ?_
  refine wq_aload X dX26_goes_115 (lv_at hl 2 rfl) ?_
  refine wq_gI X S hv ccX30 in_X30 (k := 6) (by decide) q2424 dX26_goes_117 (fun x117 hv => ?_)
  refine wq_cV_V X S hv q2447 q2448 q2449 q112 ⟨by decide +kernel, by decide +kernel⟩ (nA := 2) (As := [.int v6, .int x117]) (by decide +kernel) rfl rfl (by simp [wv_rfc, wv_kI, wv_kJ, wv_kF, wv_kD]) hl.1 dX26_goes_120 (fun w120 H locs cells slots S hv => ?_) (wq_kx X rfl)
  exact wk_X26_goes_123 X  hv H locs cells slots ls S (lv_sub hl [2] rfl)
set_option maxHeartbeats 4000000 in
theorem wk_X26_goes_96 {G : wv_G} {p : Program} {e : Env} {R : Room} {s : State} {m : MethodId} {args : Array Value} {below : List Frame} {meth : Method} {c : Code} {fr : Nat} {P : wv_R → wv_H → Prop} (X : wv_ok G p R s m args meth c fr "WeaversgateModel$Run" cX26_goes 10 (Option.some Jvm.ClassFile.FieldType.int) "goes" [(78, 93, 96, 205)]) {v0 : Option Nat} {v6 : Int32} {v7 : Int32} {s0 : Option Nat} {w : wv_W} (hv : vc_X26_goes_96 G fr P v0 v6 v7 s0 w) : wv_J G p e R s m args below meth c 10 P w 96 [(0, va_rf v0), (6, .int v6), (7, .int v7)] [va_rf s0] := by
  intro H locs cells slots ls S hl
  unfold vc_X26_goes_96 at hv
  refine wq_astore X (i := 9) (lv' := [(9, va_rf s0), (0, va_rf v0), (6, .int v6), (7, .int v7)]) dX26_goes_96 hl (by decide) rfl (fun ls hl => ?_)
  refine lv_iload X.hx X.hb dX26_goes_98 (lv_at hl 3 rfl) ?_
  refine lv_bipush (v := (120 : Int32)) X.hx X.hb dX26_goes_100 (by decide) ?_
  refine lv_icmp_eq (tgt := 112) X.hx X.hb dX26_goes_102 (by decide) (fun c102 => ?_) (fun c102 => ?_)
  · have hv := hv.1 c102
    exact wk_X26_goes_112 X  hv H locs cells slots ls S (lv_sub hl [1, 2, 0] rfl)
  · have hv := hv.2 c102
    refine lv_iload X.hx X.hb dX26_goes_105 (lv_at hl 3 rfl) ?_
    refine lv_bipush (v := (102 : Int32)) X.hx X.hb dX26_goes_107 (by decide) ?_
    refine lv_icmp_ne (tgt := 123) X.hx X.hb dX26_goes_109 (by decide) (fun c109 => ?_) (fun c109 => ?_)
    · have hv := hv.1 c109
      exact wk_X26_goes_123 X  hv H locs cells slots ls S (lv_sub hl [0] rfl)
    · have hv := hv.2 c109
      exact wk_X26_goes_112 X  hv H locs cells slots ls S (lv_sub hl [1, 2, 0] rfl)
set_option maxHeartbeats 4000000 in
theorem wk_X26_goes_78 {G : wv_G} {p : Program} {e : Env} {R : Room} {s : State} {m : MethodId} {args : Array Value} {below : List Frame} {meth : Method} {c : Code} {fr : Nat} {P : wv_R → wv_H → Prop} (X : wv_ok G p R s m args meth c fr "WeaversgateModel$Run" cX26_goes 10 (Option.some Jvm.ClassFile.FieldType.int) "goes" [(78, 93, 96, 205)]) {v0 : Option Nat} {v1 : Option Nat} {v2 : Option Nat} {v3 : Option Nat} {v4 : Int32} {v5 : Int32} {v6 : Int32} {v7 : Int32} {w : wv_W} (hv : vc_X26_goes_78 G fr P v0 v1 v2 v3 v4 v5 v6 v7 w) : wv_J G p e R s m args below meth c 10 P w 78 [(0, va_rf v0), (1, va_rf v1), (2, va_rf v2), (3, va_rf v3), (4, .int v4), (5, .int v5), (6, .int v6), (7, .int v7)] [] := by
  intro H locs cells slots ls S hl
  unfold vc_X26_goes_78 at hv
  refine wq_aload_n X dX26_goes_78 rfl (lv_at hl 0 rfl) ?_
  refine wq_aload_n X dX26_goes_79 rfl (lv_at hl 1 rfl) ?_
  refine wq_aload_n X dX26_goes_80 rfl (lv_at hl 2 rfl) ?_
  refine wq_aload_n X dX26_goes_81 rfl (lv_at hl 3 rfl) ?_
  refine lv_iload X.hx X.hb dX26_goes_82 (lv_at hl 4 rfl) ?_
  refine lv_iconst (v := (1 : Int32)) X.hx X.hb dX26_goes_84 (by decide) ?_
  refine lv_iadd X.hx X.hb dX26_goes_85 ?_
  refine lv_iload X.hx X.hb dX26_goes_86 (lv_at hl 5 rfl) ?_
  refine wq_cV_I X S hv q2398 q2399 q2400 q112 ⟨by decide +kernel, by decide +kernel⟩ (nA := 5) (As := [va_rf v1, va_rf v2, va_rf v3, .int (v4 + (1 : Int32)), .int v5]) (by decide +kernel) rfl rfl (by simp [wv_rfc, wv_kI, wv_kJ, wv_kF, wv_kD]) hl.1 dX26_goes_88 (fun x88 w88 H locs cells slots S hv => ?_) ?_
  · refine lv_istore X.hx X.hb (i := 8) (lv' := [(8, .int x88), (0, va_rf v0), (1, va_rf v1), (2, va_rf v2), (3, va_rf v3), (4, .int v4), (5, .int v5), (6, .int v6), (7, .int v7)]) dX26_goes_91 hl (by decide) (by simp [wv_rfc, wv_kI, wv_kJ, wv_kF, wv_kD]) (fun ls hl => ?_)
    refine lv_goto (tgt := 126) X.hx X.hb dX26_goes_93 (by decide) ?_
    refine lv_iload X.hx X.hb dX26_goes_126 (lv_at hl 8 rfl) ?_
    refine lv_bipush (v := (97 : Int32)) X.hx X.hb dX26_goes_128 (by decide) ?_
    refine lv_icmp_eq (tgt := 140) X.hx X.hb dX26_goes_130 (by decide) (fun c130 => ?_) (fun c130 => ?_)
    · have hv := hv.1 c130
      exact wk_X26_goes_140 X  hv H locs cells slots ls S (lv_sub hl [1, 7, 0] rfl)
    · have hv := hv.2 c130
      refine lv_iload X.hx X.hb dX26_goes_133 (lv_at hl 8 rfl) ?_
      refine lv_bipush (v := (102 : Int32)) X.hx X.hb dX26_goes_135 (by decide) ?_
      refine lv_icmp_ne (tgt := 148) X.hx X.hb dX26_goes_137 (by decide) (fun c137 => ?_) (fun c137 => ?_)
      · have hv := hv.1 c137
        refine lv_iload X.hx X.hb dX26_goes_148 (lv_at hl 0 rfl) ?_
        exact wr_iret X S rfl hv dX26_goes_150
      · have hv := hv.2 c137
        exact wk_X26_goes_140 X  hv H locs cells slots ls S (lv_sub hl [1, 7, 0] rfl)
  · intro E q w H locs cells slots S hv hth
    by_cases hE : E = "WeaversgateModel$Raised"
    · subst hE
      have hv := hv.1 rfl
      refine wr_catch X [] (78, 93, 96, 205) [] rfl (fun z hz => by cases hz) rfl (by decide) q2269 q2412 hth ?_
      exact wk_X26_goes_96 X  hv H locs cells slots ls S (lv_sub hl [0, 6, 7] rfl)
    · have hv := hv.2 hE
      have hN0 := va_Nc.moved X.hW.alike hv.1
      have hv := hv.2
      exact wr_outP X S hv hth (List.forall_mem_cons.mpr ⟨(Or.inr ⟨by decide, "WeaversgateModel$Raised", q2269, hN0⟩), (fun z hz => absurd hz List.not_mem_nil)⟩)
set_option maxHeartbeats 4000000 in
theorem wk_X26_goes_0 {G : wv_G} {p : Program} {e : Env} {R : Room} {s : State} {m : MethodId} {args : Array Value} {below : List Frame} {meth : Method} {c : Code} {fr : Nat} {P : wv_R → wv_H → Prop} (X : wv_ok G p R s m args meth c fr "WeaversgateModel$Run" cX26_goes 10 (Option.some Jvm.ClassFile.FieldType.int) "goes" [(78, 93, 96, 205)]) {v0 : Option Nat} {v1 : Option Nat} {v2 : Option Nat} {v3 : Option Nat} {v4 : Int32} {v5 : Int32} {w : wv_W} (hv : vc_X26_goes_0 G fr P v0 v1 v2 v3 v4 v5 w) : wv_J G p e R s m args below meth c 10 P w 0 [(0, va_rf v0), (1, va_rf v1), (2, va_rf v2), (3, va_rf v3), (4, .int v4), (5, .int v5)] [] := by
  intro H locs cells slots ls S hl
  unfold vc_X26_goes_0 at hv
  refine lv_iload X.hx X.hb dX26_goes_0 (lv_at hl 4 rfl) ?_
  refine wq_aload_n X dX26_goes_2 rfl (lv_at hl 3 rfl) ?_
  refine wq_cV_I X S hv q2290 q270 q271 q63 ⟨by decide +kernel, by decide +kernel⟩ (nA := 0) (As := []) (by decide +kernel) rfl rfl (by simp [wv_rfc, wv_kI, wv_kJ, wv_kF, wv_kD]) hl.1 dX26_goes_3 (fun x3 w3 H locs cells slots S hv => ?_) (wq_kx X rfl)
  refine lv_icmp_ne (tgt := 18) X.hx X.hb dX26_goes_6 (by decide) (fun c6 => ?_) (fun c6 => ?_)
  · have hv := hv.1 c6
    refine wq_aload_n X dX26_goes_18 rfl (lv_at hl 3 rfl) ?_
    refine lv_iload X.hx X.hb dX26_goes_19 (lv_at hl 4 rfl) ?_
    refine wq_cV_A X S hv q2442 q274 q275 q63 ⟨by decide +kernel, by decide +kernel⟩ (nA := 1) (As := [.int v4]) (by decide +kernel) rfl rfl (by simp [wv_rfc, wv_kI, wv_kJ, wv_kF, wv_kD]) hl.1 dX26_goes_21 (fun x21 w21 H locs cells slots S hv => ?_) (wq_kx X rfl)
    refine wq_cc X S hv q2363 dX26_goes_24 (fun hv => ?_)
    refine wq_cV_I X S hv q2364 q2078 q2079 q100 ⟨by decide +kernel, by decide +kernel⟩ (nA := 0) (As := []) (by decide +kernel) rfl rfl (by simp [wv_rfc, wv_kI, wv_kJ, wv_kF, wv_kD]) hl.1 dX26_goes_27 (fun x27 w27 H locs cells slots S hv => ?_) (wq_kx X rfl)
    refine lv_istore X.hx X.hb (i := 6) (lv' := [(6, .int x27), (0, va_rf v0), (1, va_rf v1), (2, va_rf v2), (3, va_rf v3), (4, .int v4), (5, .int v5)]) dX26_goes_30 hl (by decide) (by simp [wv_rfc, wv_kI, wv_kJ, wv_kF, wv_kD]) (fun ls hl => ?_)
    refine wq_aload_n X dX26_goes_32 rfl (lv_at hl 1 rfl) ?_
    refine wq_gA X S hv ccX26 in_X26 (k := 4) (by decide) q2253 dX26_goes_33 (fun x33 hv => ?_)
    refine wq_gAN X S hv ccX4 in_X4 (k := 9) (by decide) q1817 dX26_goes_36 (fun x36 hv => ?_)
    refine lv_iload X.hx X.hb dX26_goes_39 (lv_at hl 0 rfl) ?_
    refine wq_li1 X S hv dX26_goes_41 (fun x41 hv => ?_)
    refine lv_istore X.hx X.hb (i := 7) (lv' := [(7, .int x41), (6, .int x27), (0, va_rf v0), (1, va_rf v1), (2, va_rf v2), (3, va_rf v3), (4, .int v4), (5, .int v5)]) dX26_goes_42 hl (by decide) (by simp [wv_rfc, wv_kI, wv_kJ, wv_kF, wv_kD]) (fun ls hl => ?_)
    refine lv_iload X.hx X.hb dX26_goes_44 (lv_at hl 0 rfl) ?_
    refine lv_bipush (v := (114 : Int32)) X.hx X.hb dX26_goes_46 (by decide) ?_
    refine lv_icmp_ne (tgt := 63) X.hx X.hb dX26_goes_48 (by decide) (fun c48 => ?_) (fun c48 => ?_)
    · have hv := hv.1 c48
      refine lv_iload X.hx X.hb dX26_goes_63 (lv_at hl 0 rfl) ?_
      refine lv_bipush (v := (98 : Int32)) X.hx X.hb dX26_goes_65 (by decide) ?_
      refine lv_icmp_ne (tgt := 78) X.hx X.hb dX26_goes_67 (by decide) (fun c67 => ?_) (fun c67 => ?_)
      · have hv := hv.1 c67
        exact wk_X26_goes_78 X  hv H locs cells slots ls S (lv_sub hl [2, 3, 4, 5, 6, 7, 1, 0] rfl)
      · have hv := hv.2 c67
        refine wq_aload_n X dX26_goes_70 rfl (lv_at hl 2 rfl) ?_
        refine lv_iload X.hx X.hb dX26_goes_71 (lv_at hl 1 rfl) ?_
        refine lv_iload X.hx X.hb dX26_goes_73 (lv_at hl 7 rfl) ?_
        refine wq_cV_V X S hv q2447 q2448 q2449 q112 ⟨by decide +kernel, by decide +kernel⟩ (nA := 2) (As := [.int x27, .int v5]) (by decide +kernel) rfl rfl (by simp [wv_rfc, wv_kI, wv_kJ, wv_kF, wv_kD]) hl.1 dX26_goes_75 (fun w75 H locs cells slots S hv => ?_) (wq_kx X rfl)
        exact wk_X26_goes_78 X  hv H locs cells slots ls S (lv_sub hl [2, 3, 4, 5, 6, 7, 1, 0] rfl)
    · have hv := hv.2 c48
      refine wq_aload_n X dX26_goes_51 rfl (lv_at hl 2 rfl) ?_
      refine wq_aload_n X dX26_goes_52 rfl (lv_at hl 3 rfl) ?_
      refine wq_aload_n X dX26_goes_53 rfl (lv_at hl 4 rfl) ?_
      refine wq_aload_n X dX26_goes_54 rfl (lv_at hl 5 rfl) ?_
      refine lv_iload X.hx X.hb dX26_goes_55 (lv_at hl 6 rfl) ?_
      refine lv_iload X.hx X.hb dX26_goes_57 (lv_at hl 7 rfl) ?_
      refine wq_cV_I X S hv q2443 q2444 q2445 q112 ⟨by decide +kernel, by decide +kernel⟩ (nA := 5) (As := [va_rf v1, va_rf v2, va_rf v3, .int v4, .int v5]) (by decide +kernel) rfl rfl (by simp [wv_rfc, wv_kI, wv_kJ, wv_kF, wv_kD]) hl.1 dX26_goes_59 (fun x59 w59 H locs cells slots S hv => ?_) (wq_kx X rfl)
      exact wr_iret X S rfl hv dX26_goes_62
  · have hv := hv.2 c6
    refine wq_aload_n X dX26_goes_9 rfl (lv_at hl 0 rfl) ?_
    refine wq_aload_n X dX26_goes_10 rfl (lv_at hl 1 rfl) ?_
    refine wq_aload_n X dX26_goes_11 rfl (lv_at hl 2 rfl) ?_
    refine lv_iload X.hx X.hb dX26_goes_12 (lv_at hl 5 rfl) ?_
    refine wq_cV_I X S hv q2402 q2403 q2404 q112 ⟨by decide +kernel, by decide +kernel⟩ (nA := 3) (As := [va_rf v1, va_rf v2, .int v5]) (by decide +kernel) rfl rfl (by simp [wv_rfc, wv_kI, wv_kJ, wv_kF, wv_kD]) hl.1 dX26_goes_14 (fun x14 w14 H locs cells slots S hv => ?_) (wq_kx X rfl)
    exact wr_iret X S rfl hv dX26_goes_17
theorem wk_X26_goes {G : wv_G} (hG : wv_G0 G) {v0 : Option Nat} {v1 : Option Nat} {v2 : Option Nat} {v3 : Option Nat} {v4 : Int32} {v5 : Int32} {h : wv_H} {fr kc ks : Nat} {P : wv_R → wv_H → Prop} (hv : vc_X26_goes_0 G fr P v0 v1 v2 v3 v4 v5 (h, kc, ks)) : wv_C G yX26_goes [va_rf v0, va_rf v1, va_rf v2, va_rf v3, .int v4, .int v5] h fr kc ks P := by
  refine wv_enterW (lv := [(0, va_rf v0), (1, va_rf v1), (2, va_rf v2), (3, va_rf v3), (4, .int v4), (5, .int v5)]) hG (by decide +kernel) q2401 (by decide) (by simp [lg_sl, wv_rfc, wv_kI, wv_kJ, wv_kF, wv_kD]) (by simp [lv_args, wv_rfc, wv_kI, wv_kJ, wv_kF, wv_kD]) ?_
  intro p e R s m args below meth c X H locs cells slots ls S hl
  exact wk_X26_goes_0 X hv H locs cells slots ls S (lv_sub hl [0, 1, 2, 3, 4, 5] rfl)

def vc_X26_handler_52 (G : wv_G) (fr : Nat) (P : wv_R → wv_H → Prop) (K9 : ((Option Nat) × Int32 × Int32 × (Option Nat)) → wv_W → Prop) (v1 : Option Nat) (v3 : Int32) (v5 : Option Nat) (s0 : Int32) (w : wv_W) : Prop :=
  K9 (v1, v3, s0, v5) w
def vc_X26_handler_9 (G : wv_G) (fr : Nat) (P : wv_R → wv_H → Prop) (K9 : ((Option Nat) × Int32 × Int32 × (Option Nat)) → wv_W → Prop) (v1 : Option Nat) (v3 : Int32) (v4 : Int32) (v5 : Option Nat) (w : wv_W) : Prop :=
  wv_cF G fr (⟨"java/util/Iterator", "hasNext", "()Z"⟩ : MethodName) v5 [] w (wv_rI (fun x11 w11 => (x11 = 0 → P (.inl (some (.int v4))) w11.1) ∧ (¬ x11 = 0 → wv_cF G fr (⟨"java/util/Iterator", "next", "()Ljava/lang/Object;"⟩ : MethodName) v5 [] w11 (wv_rA (fun x21 w21 => wv_cc G w21 x21 "java/lang/Integer" (wv_cV G fr yJ20_intValue x21 [] w21 (wv_rI (fun x29 w29 => wv_gA w29 v1 ciX8 1 (fun x36 => wv_li G 0 w29 x36 x29 (fun x41 => (x41 < v3 → vc_X26_handler_52 G fr P K9 v1 v3 v5 v4 w29) ∧ (¬ x41 < v3 → vc_X26_handler_52 G fr P K9 v1 v3 v5 x29 w29)))) (wv_pr P)))) (wv_pr P)))) (wv_pr P))
def vc_X26_handler_0 (G : wv_G) (fr : Nat) (P : wv_R → wv_H → Prop) (v1 : Option Nat) (v2 : Option Nat) (v3 : Int32) (w : wv_W) : Prop :=
  wv_cV G fr yJ2_iterator v2 [] w (wv_rA (fun x4 w4 => wv_L (fun K9 a w => vc_X26_handler_9 G fr P K9 a.1 a.2.1 a.2.2.1 a.2.2.2 w) (v1, v3, (-1 : Int32), x4) w4) (wv_pr P))
set_option maxHeartbeats 4000000 in
theorem wk_X26_handler_52 {G : wv_G} {p : Program} {e : Env} {R : Room} {s : State} {m : MethodId} {args : Array Value} {below : List Frame} {meth : Method} {c : Code} {fr : Nat} {P : wv_R → wv_H → Prop} (X : wv_ok G p R s m args meth c fr "WeaversgateModel$Run" cX26_handler 7 (Option.some Jvm.ClassFile.FieldType.int) "handler" []) {K9 : ((Option Nat) × Int32 × Int32 × (Option Nat)) → wv_W → Prop} (hK9 : ∀ a w, K9 a w → wv_J G p e R s m args below meth c 7 P w 9 [(1, va_rf a.1), (3, .int a.2.1), (4, .int a.2.2.1), (5, va_rf a.2.2.2)] []) {v1 : Option Nat} {v3 : Int32} {v5 : Option Nat} {s0 : Int32} {w : wv_W} (hv : vc_X26_handler_52 G fr P K9 v1 v3 v5 s0 w) : wv_J G p e R s m args below meth c 7 P w 52 [(1, va_rf v1), (3, .int v3), (5, va_rf v5)] [.int s0] := by
  intro H locs cells slots ls S hl
  unfold vc_X26_handler_52 at hv
  refine lv_istore X.hx X.hb (i := 4) (lv' := [(4, .int s0), (1, va_rf v1), (3, .int v3), (5, va_rf v5)]) dX26_handler_52 hl (by decide) (by simp [wv_rfc, wv_kI, wv_kJ, wv_kF, wv_kD]) (fun ls hl => ?_)
  refine lv_goto (tgt := 9) X.hx X.hb dX26_handler_54 (by decide) ?_
  exact hK9 _ _ hv H locs cells slots ls S (lv_sub hl [1, 2, 0, 3] rfl)
set_option maxHeartbeats 4000000 in
theorem wk_X26_handler_9 {G : wv_G} {p : Program} {e : Env} {R : Room} {s : State} {m : MethodId} {args : Array Value} {below : List Frame} {meth : Method} {c : Code} {fr : Nat} {P : wv_R → wv_H → Prop} (X : wv_ok G p R s m args meth c fr "WeaversgateModel$Run" cX26_handler 7 (Option.some Jvm.ClassFile.FieldType.int) "handler" []) {K9 : ((Option Nat) × Int32 × Int32 × (Option Nat)) → wv_W → Prop} (hK9 : ∀ a w, K9 a w → wv_J G p e R s m args below meth c 7 P w 9 [(1, va_rf a.1), (3, .int a.2.1), (4, .int a.2.2.1), (5, va_rf a.2.2.2)] []) {v1 : Option Nat} {v3 : Int32} {v4 : Int32} {v5 : Option Nat} {w : wv_W} (hv : vc_X26_handler_9 G fr P K9 v1 v3 v4 v5 w) : wv_J G p e R s m args below meth c 7 P w 9 [(1, va_rf v1), (3, .int v3), (4, .int v4), (5, va_rf v5)] [] := by
  intro H locs cells slots ls S hl
  unfold vc_X26_handler_9 at hv
  refine wq_aload X dX26_handler_9 (lv_at hl 3 rfl) ?_
  refine wq_cF_I X S hv q2320 ⟨by decide +kernel, by decide +kernel⟩ (nA := 0) (As := []) (by decide +kernel) rfl rfl (by simp [wv_rfc, wv_kI, wv_kJ, wv_kF, wv_kD]) hl.1 dX26_handler_11 (fun x11 w11 H locs cells slots S hv => ?_) (wq_kx X rfl)
  refine lv_if_eq (tgt := 57) X.hx X.hb dX26_handler_16 (by decide) (fun c16 => ?_) (fun c16 => ?_)
  · have hv := hv.1 c16
    refine lv_iload X.hx X.hb dX26_handler_57 (lv_at hl 2 rfl) ?_
    exact wr_iret X S rfl hv dX26_handler_59
  · have hv := hv.2 c16
    refine wq_aload X dX26_handler_19 (lv_at hl 3 rfl) ?_
    refine wq_cF_A X S hv q2322 ⟨by decide +kernel, by decide +kernel⟩ (nA := 0) (As := []) (by decide +kernel) rfl rfl (by simp [wv_rfc, wv_kI, wv_kJ, wv_kF, wv_kD]) hl.1 dX26_handler_21 (fun x21 w21 H locs cells slots S hv => ?_) (wq_kx X rfl)
    refine wq_cc X S hv q2363 dX26_handler_26 (fun hv => ?_)
    refine wq_cV_I X S hv q2364 q2078 q2079 q100 ⟨by decide +kernel, by decide +kernel⟩ (nA := 0) (As := []) (by decide +kernel) rfl rfl (by simp [wv_rfc, wv_kI, wv_kJ, wv_kF, wv_kD]) hl.1 dX26_handler_29 (fun x29 w29 H locs cells slots S hv => ?_) (wq_kx X rfl)
    refine lv_istore X.hx X.hb (i := 6) (lv' := [(6, .int x29), (1, va_rf v1), (3, .int v3), (4, .int v4), (5, va_rf v5)]) dX26_handler_32 hl (by decide) (by simp [wv_rfc, wv_kI, wv_kJ, wv_kF, wv_kD]) (fun ls hl => ?_)
    refine lv_iload_n X.hx X.hb dX26_handler_34 rfl (lv_at hl 2 rfl) ?_
    refine wq_aload_n X dX26_handler_35 rfl (lv_at hl 1 rfl) ?_
    refine wq_gA X S hv ccX8 in_X8 (k := 1) (by decide) q1903 dX26_handler_36 (fun x36 hv => ?_)
    refine lv_iload X.hx X.hb dX26_handler_39 (lv_at hl 0 rfl) ?_
    refine wq_li0 X S hv dX26_handler_41 (fun x41 hv => ?_)
    refine lv_icmp_gt (tgt := 50) X.hx X.hb dX26_handler_42 (by decide) (fun c42 => ?_) (fun c42 => ?_)
    · have hv := hv.1 c42
      refine lv_iload X.hx X.hb dX26_handler_50 (lv_at hl 3 rfl) ?_
      exact wk_X26_handler_52 X hK9 hv H locs cells slots ls S (lv_sub hl [1, 2, 4] rfl)
    · have hv := hv.2 c42
      refine lv_iload X.hx X.hb dX26_handler_45 (lv_at hl 0 rfl) ?_
      refine lv_goto (tgt := 52) X.hx X.hb dX26_handler_47 (by decide) ?_
      exact wk_X26_handler_52 X hK9 hv H locs cells slots ls S (lv_sub hl [1, 2, 4] rfl)
set_option maxHeartbeats 4000000 in
theorem wk_X26_handler_0 {G : wv_G} {p : Program} {e : Env} {R : Room} {s : State} {m : MethodId} {args : Array Value} {below : List Frame} {meth : Method} {c : Code} {fr : Nat} {P : wv_R → wv_H → Prop} (X : wv_ok G p R s m args meth c fr "WeaversgateModel$Run" cX26_handler 7 (Option.some Jvm.ClassFile.FieldType.int) "handler" []) {v1 : Option Nat} {v2 : Option Nat} {v3 : Int32} {w : wv_W} (hv : vc_X26_handler_0 G fr P v1 v2 v3 w) : wv_J G p e R s m args below meth c 7 P w 0 [(1, va_rf v1), (2, va_rf v2), (3, .int v3)] [] := by
  intro H locs cells slots ls S hl
  unfold vc_X26_handler_0 at hv
  refine lv_iconst (v := (-1 : Int32)) X.hx X.hb dX26_handler_0 (by decide) ?_
  refine lv_istore X.hx X.hb (i := 4) (lv' := [(4, .int (-1 : Int32)), (1, va_rf v1), (2, va_rf v2), (3, .int v3)]) dX26_handler_1 hl (by decide) (by simp [wv_rfc, wv_kI, wv_kJ, wv_kF, wv_kD]) (fun ls hl => ?_)
  refine wq_aload_n X dX26_handler_3 rfl (lv_at hl 2 rfl) ?_
  refine wq_cV_A X S hv q2318 q2175 q2176 q63 ⟨by decide +kernel, by decide +kernel⟩ (nA := 0) (As := []) (by decide +kernel) rfl rfl (by simp [wv_rfc, wv_kI, wv_kJ, wv_kF, wv_kD]) hl.1 dX26_handler_4 (fun x4 w4 H locs cells slots S hv => ?_) (wq_kx X rfl)
  refine wq_astore X (i := 5) (lv' := [(5, va_rf x4), (4, .int (-1 : Int32)), (1, va_rf v1), (2, va_rf v2), (3, .int v3)]) dX26_handler_7 hl (by decide) (by simp [wv_rfc, wv_kI, wv_kJ, wv_kF, wv_kD]) (fun ls hl => ?_)
  exact wv_loop (A := (Option Nat) × Int32 × Int32 × (Option Nat)) (fun a w => wv_J G p e R s m args below meth c 7 P w 9 [(1, va_rf a.1), (3, .int a.2.1), (4, .int a.2.2.1), (5, va_rf a.2.2.2)] []) (fun K9 hK9 a w hv => wk_X26_handler_9 X hK9 hv) hv H locs cells slots ls S (lv_sub hl [2, 4, 1, 0] rfl)
theorem wk_X26_handler {G : wv_G} (hG : wv_G0 G) {v0 : Option Nat} {v1 : Option Nat} {v2 : Option Nat} {v3 : Int32} {h : wv_H} {fr kc ks : Nat} {P : wv_R → wv_H → Prop} (hv : vc_X26_handler_0 G fr P v1 v2 v3 (h, kc, ks)) : wv_C G yX26_handler [va_rf v0, va_rf v1, va_rf v2, .int v3] h fr kc ks P := by
  refine wv_enter (lv := [(0, va_rf v0), (1, va_rf v1), (2, va_rf v2), (3, .int v3)]) hG (by decide +kernel) q2441 (by decide) (by simp [lg_sl, wv_rfc, wv_kI, wv_kJ, wv_kF, wv_kD]) (by simp [lv_args, wv_rfc, wv_kI, wv_kJ, wv_kF, wv_kD]) ?_
  intro p e R s m args below meth c X H locs cells slots ls S hl
  exact wk_X26_handler_0 X hv H locs cells slots ls S (lv_sub hl [1, 2, 3] rfl)

def vc_X26_holdsNow_0 (G : wv_G) (fr : Nat) (P : wv_R → wv_H → Prop) (v0 : Option Nat) (v1 : Int32) (v2 : Int32) (v3 : Int32) (v4 : Int32) (v5 : Int32) (v6 : Int32) (v7 : Int32) (w : wv_W) : Prop :=
  wv_gA w v0 ciX26 4 (fun x1 => wv_gA w x1 ciX4 2 (fun x4 => wv_li G 0 w x4 v1 (fun x8 => wv_gA w v0 ciX26 4 (fun x12 => wv_gA w x12 ciX4 8 (fun x15 => wv_li G 1 w x15 v1 (fun x19 => (x19 = (33 : Int32) → wv_cV G fr yX26_isBit v0 [.int v2, .int x8] w (wv_rI (fun x186 w186 => (¬ x186 = 0 → narrow .boolean (.int (0 : Int32)) = .int (0 : Int32) ∧ P (.inl (some (.int (0 : Int32)))) w186.1) ∧ (x186 = 0 → narrow .boolean (.int (1 : Int32)) = .int (1 : Int32) ∧ P (.inl (some (.int (1 : Int32)))) w186.1)) (wv_pr P))) ∧ (¬ x19 = (33 : Int32) → (x19 = (38 : Int32) → wv_cV G fr yX26_isBit v0 [.int v2, .int x8] w (wv_rI (fun x204 w204 => (x204 = 0 → narrow .boolean (.int (0 : Int32)) = .int (0 : Int32) ∧ P (.inl (some (.int (0 : Int32)))) w204.1) ∧ (¬ x204 = 0 → wv_gA w204 v0 ciX26 4 (fun x213 => wv_gA w204 x213 ciX4 3 (fun x216 => wv_li G 0 w204 x216 v1 (fun x220 => wv_cV G fr yX26_isBit v0 [.int v2, .int x220] w204 (wv_rI (fun x221 w221 => (x221 = 0 → narrow .boolean (.int (0 : Int32)) = .int (0 : Int32) ∧ P (.inl (some (.int (0 : Int32)))) w221.1) ∧ (¬ x221 = 0 → narrow .boolean (.int (1 : Int32)) = .int (1 : Int32) ∧ P (.inl (some (.int (1 : Int32)))) w221.1)) (wv_pr P))))))) (wv_pr P))) ∧ (¬ x19 = (38 : Int32) → (x19 = (102 : Int32) → wv_cV G fr yX26_isBit v0 [.int v2, .int x8] w (wv_rI (fun x159 w159 => (¬ x159 = 0 → narrow .boolean (.int (1 : Int32)) = .int (1 : Int32) ∧ P (.inl (some (.int (1 : Int32)))) w159.1) ∧ (x159 = 0 → wv_cV G fr yX26_isHeldByOpen v0 [.int x8] w159 (wv_rI (fun x168 w168 => (x168 = 0 → narrow .boolean (.int (0 : Int32)) = .int (0 : Int32) ∧ P (.inl (some (.int (0 : Int32)))) w168.1) ∧ (¬ x168 = 0 → narrow .boolean (.int (1 : Int32)) = .int (1 : Int32) ∧ P (.inl (some (.int (1 : Int32)))) w168.1)) (wv_pr P)))) (wv_pr P))) ∧ (¬ x19 = (102 : Int32) → (x19 = (110 : Int32) → (¬ v4 = x8 → narrow .boolean (.int (0 : Int32)) = .int (0 : Int32) ∧ P (.inl (some (.int (0 : Int32)))) w.1) ∧ (v4 = x8 → narrow .boolean (.int (1 : Int32)) = .int (1 : Int32) ∧ P (.inl (some (.int (1 : Int32)))) w.1)) ∧ (¬ x19 = (110 : Int32) → (x19 = (116 : Int32) → wv_gA w v0 ciX26 4 (fun x112 => wv_cV G fr yX4_isBelow x112 [.int v5, .int x8] w (wv_rI (fun x119 w119 => narrow .boolean (.int x119) = .int x119 ∧ P (.inl (some (.int x119))) w119.1) (wv_pr P)))) ∧ (¬ x19 = (116 : Int32) → (x19 = (118 : Int32) → (v7 ≤ x8 → narrow .boolean (.int (0 : Int32)) = .int (0 : Int32) ∧ P (.inl (some (.int (0 : Int32)))) w.1) ∧ (¬ v7 ≤ x8 → narrow .boolean (.int (1 : Int32)) = .int (1 : Int32) ∧ P (.inl (some (.int (1 : Int32)))) w.1)) ∧ (¬ x19 = (118 : Int32) → (x19 = (119 : Int32) → (¬ v6 = x8 → narrow .boolean (.int (0 : Int32)) = .int (0 : Int32) ∧ P (.inl (some (.int (0 : Int32)))) w.1) ∧ (v6 = x8 → narrow .boolean (.int (1 : Int32)) = .int (1 : Int32) ∧ P (.inl (some (.int (1 : Int32)))) w.1)) ∧ (¬ x19 = (119 : Int32) → (x19 = (124 : Int32) → wv_cV G fr yX26_isBit v0 [.int v2, .int x8] w (wv_rI (fun x239 w239 => (¬ x239 = 0 → narrow .boolean (.int (1 : Int32)) = .int (1 : Int32) ∧ P (.inl (some (.int (1 : Int32)))) w239.1) ∧ (x239 = 0 → wv_gA w239 v0 ciX26 4 (fun x248 => wv_gA w239 x248 ciX4 3 (fun x251 => wv_li G 0 w239 x251 v1 (fun x255 => wv_cV G fr yX26_isBit v0 [.int v2, .int x255] w239 (wv_rI (fun x256 w256 => (x256 = 0 → narrow .boolean (.int (0 : Int32)) = .int (0 : Int32) ∧ P (.inl (some (.int (0 : Int32)))) w256.1) ∧ (¬ x256 = 0 → narrow .boolean (.int (1 : Int32)) = .int (1 : Int32) ∧ P (.inl (some (.int (1 : Int32)))) w256.1)) (wv_pr P))))))) (wv_pr P))) ∧ (¬ x19 = (124 : Int32) → wv_gA w v0 ciX26 4 (fun x271 => wv_gA w x271 ciX4 8 (fun x274 => wv_li G 1 w x274 v1 (fun x278 => (¬ x278 = v3 → narrow .boolean (.int (0 : Int32)) = .int (0 : Int32) ∧ P (.inl (some (.int (0 : Int32)))) w.1) ∧ (x278 = v3 → narrow .boolean (.int (1 : Int32)) = .int (1 : Int32) ∧ P (.inl (some (.int (1 : Int32)))) w.1))))))))))))))))))
set_option maxHeartbeats 4000000 in
theorem wk_X26_holdsNow_0 {G : wv_G} {p : Program} {e : Env} {R : Room} {s : State} {m : MethodId} {args : Array Value} {below : List Frame} {meth : Method} {c : Code} {fr : Nat} {P : wv_R → wv_H → Prop} (X : wv_ok G p R s m args meth c fr "WeaversgateModel$Run" cX26_holdsNow 9 (Option.some Jvm.ClassFile.FieldType.boolean) "holdsNow" []) {v0 : Option Nat} {v1 : Int32} {v2 : Int32} {v3 : Int32} {v4 : Int32} {v5 : Int32} {v6 : Int32} {v7 : Int32} {w : wv_W} (hv : vc_X26_holdsNow_0 G fr P v0 v1 v2 v3 v4 v5 v6 v7 w) : wv_J G p e R s m args below meth c 9 P w 0 [(0, va_rf v0), (1, .int v1), (2, .int v2), (3, .int v3), (4, .int v4), (5, .int v5), (6, .int v6), (7, .int v7)] [] := by
  intro H locs cells slots ls S hl
  unfold vc_X26_holdsNow_0 at hv
  refine wq_aload_n X dX26_holdsNow_0 rfl (lv_at hl 0 rfl) ?_
  refine wq_gA X S hv ccX26 in_X26 (k := 4) (by decide) q2253 dX26_holdsNow_1 (fun x1 hv => ?_)
  refine wq_gAN X S hv ccX4 in_X4 (k := 2) (by decide) q1803 dX26_holdsNow_4 (fun x4 hv => ?_)
  refine lv_iload_n X.hx X.hb dX26_holdsNow_7 rfl (lv_at hl 1 rfl) ?_
  refine wq_li0 X S hv dX26_holdsNow_8 (fun x8 hv => ?_)
  refine lv_istore X.hx X.hb (i := 8) (lv' := [(8, .int x8), (0, va_rf v0), (1, .int v1), (2, .int v2), (3, .int v3), (4, .int v4), (5, .int v5), (6, .int v6), (7, .int v7)]) dX26_holdsNow_9 hl (by decide) (by simp [wv_rfc, wv_kI, wv_kJ, wv_kF, wv_kD]) (fun ls hl => ?_)
  refine wq_aload_n X dX26_holdsNow_11 rfl (lv_at hl 1 rfl) ?_
  refine wq_gA X S hv ccX26 in_X26 (k := 4) (by decide) q2253 dX26_holdsNow_12 (fun x12 hv => ?_)
  refine wq_gAN X S hv ccX4 in_X4 (k := 8) (by decide) q1815 dX26_holdsNow_15 (fun x15 hv => ?_)
  refine lv_iload_n X.hx X.hb dX26_holdsNow_18 rfl (lv_at hl 2 rfl) ?_
  refine wq_li1 X S hv dX26_holdsNow_19 (fun x19 hv => ?_)
  by_cases h20_0 : x19 = (33 : Int32)
  · have hv := hv.1 h20_0
    refine lv_lookup (tgt := 182) (off := 162) X.hx X.hb dX26_holdsNow_20 (by decide) (by rw [h20_0] <;> rfl) (by decide) ?_
    refine wq_aload_n X dX26_holdsNow_182 rfl (lv_at hl 1 rfl) ?_
    refine lv_iload_n X.hx X.hb dX26_holdsNow_183 rfl (lv_at hl 3 rfl) ?_
    refine lv_iload X.hx X.hb dX26_holdsNow_184 (lv_at hl 0 rfl) ?_
    refine wq_cV_I X S hv q2310 q2311 q2312 q112 ⟨by decide +kernel, by decide +kernel⟩ (nA := 2) (As := [.int v2, .int x8]) (by decide +kernel) rfl rfl (by simp [wv_rfc, wv_kI, wv_kJ, wv_kF, wv_kD]) hl.1 dX26_holdsNow_186 (fun x186 w186 H locs cells slots S hv => ?_) (wq_kx X rfl)
    refine lv_if_ne (tgt := 196) X.hx X.hb dX26_holdsNow_189 (by decide) (fun c189 => ?_) (fun c189 => ?_)
    · have hv := hv.1 c189
      refine lv_iconst (v := (0 : Int32)) X.hx X.hb dX26_holdsNow_196 (by decide) ?_
      refine lv_goto (tgt := 288) X.hx X.hb dX26_holdsNow_197 (by decide) ?_
      exact wr_iret X S hv.1 hv.2 dX26_holdsNow_288
    · have hv := hv.2 c189
      refine lv_iconst (v := (1 : Int32)) X.hx X.hb dX26_holdsNow_192 (by decide) ?_
      refine lv_goto (tgt := 288) X.hx X.hb dX26_holdsNow_193 (by decide) ?_
      exact wr_iret X S hv.1 hv.2 dX26_holdsNow_288
  · have hv := hv.2 h20_0
    by_cases h20_1 : x19 = (38 : Int32)
    · have hv := hv.1 h20_1
      refine lv_lookup (tgt := 200) (off := 180) X.hx X.hb dX26_holdsNow_20 (by decide) (by rw [h20_1] <;> rfl) (by decide) ?_
      refine wq_aload_n X dX26_holdsNow_200 rfl (lv_at hl 1 rfl) ?_
      refine lv_iload_n X.hx X.hb dX26_holdsNow_201 rfl (lv_at hl 3 rfl) ?_
      refine lv_iload X.hx X.hb dX26_holdsNow_202 (lv_at hl 0 rfl) ?_
      refine wq_cV_I X S hv q2310 q2311 q2312 q112 ⟨by decide +kernel, by decide +kernel⟩ (nA := 2) (As := [.int v2, .int x8]) (by decide +kernel) rfl rfl (by simp [wv_rfc, wv_kI, wv_kJ, wv_kF, wv_kD]) hl.1 dX26_holdsNow_204 (fun x204 w204 H locs cells slots S hv => ?_) (wq_kx X rfl)
      refine lv_if_eq (tgt := 231) X.hx X.hb dX26_holdsNow_207 (by decide) (fun c207 => ?_) (fun c207 => ?_)
      · have hv := hv.1 c207
        refine lv_iconst (v := (0 : Int32)) X.hx X.hb dX26_holdsNow_231 (by decide) ?_
        refine lv_goto (tgt := 288) X.hx X.hb dX26_holdsNow_232 (by decide) ?_
        exact wr_iret X S hv.1 hv.2 dX26_holdsNow_288
      · have hv := hv.2 c207
        refine wq_aload_n X dX26_holdsNow_210 rfl (lv_at hl 1 rfl) ?_
        refine lv_iload_n X.hx X.hb dX26_holdsNow_211 rfl (lv_at hl 3 rfl) ?_
        refine wq_aload_n X dX26_holdsNow_212 rfl (lv_at hl 1 rfl) ?_
        refine wq_gA X S hv ccX26 in_X26 (k := 4) (by decide) q2253 dX26_holdsNow_213 (fun x213 hv => ?_)
        refine wq_gAN X S hv ccX4 in_X4 (k := 3) (by decide) q1805 dX26_holdsNow_216 (fun x216 hv => ?_)
        refine lv_iload_n X.hx X.hb dX26_holdsNow_219 rfl (lv_at hl 2 rfl) ?_
        refine wq_li0 X S hv dX26_holdsNow_220 (fun x220 hv => ?_)
        refine wq_cV_I X S hv q2310 q2311 q2312 q112 ⟨by decide +kernel, by decide +kernel⟩ (nA := 2) (As := [.int v2, .int x220]) (by decide +kernel) rfl rfl (by simp [wv_rfc, wv_kI, wv_kJ, wv_kF, wv_kD]) hl.1 dX26_holdsNow_221 (fun x221 w221 H locs cells slots S hv => ?_) (wq_kx X rfl)
        refine lv_if_eq (tgt := 231) X.hx X.hb dX26_holdsNow_224 (by decide) (fun c224 => ?_) (fun c224 => ?_)
        · have hv := hv.1 c224
          refine lv_iconst (v := (0 : Int32)) X.hx X.hb dX26_holdsNow_231 (by decide) ?_
          refine lv_goto (tgt := 288) X.hx X.hb dX26_holdsNow_232 (by decide) ?_
          exact wr_iret X S hv.1 hv.2 dX26_holdsNow_288
        · have hv := hv.2 c224
          refine lv_iconst (v := (1 : Int32)) X.hx X.hb dX26_holdsNow_227 (by decide) ?_
          refine lv_goto (tgt := 288) X.hx X.hb dX26_holdsNow_228 (by decide) ?_
          exact wr_iret X S hv.1 hv.2 dX26_holdsNow_288
    · have hv := hv.2 h20_1
      by_cases h20_2 : x19 = (102 : Int32)
      · have hv := hv.1 h20_2
        refine lv_lookup (tgt := 155) (off := 135) X.hx X.hb dX26_holdsNow_20 (by decide) (by rw [h20_2] <;> rfl) (by decide) ?_
        refine wq_aload_n X dX26_holdsNow_155 rfl (lv_at hl 1 rfl) ?_
        refine lv_iload_n X.hx X.hb dX26_holdsNow_156 rfl (lv_at hl 3 rfl) ?_
        refine lv_iload X.hx X.hb dX26_holdsNow_157 (lv_at hl 0 rfl) ?_
        refine wq_cV_I X S hv q2310 q2311 q2312 q112 ⟨by decide +kernel, by decide +kernel⟩ (nA := 2) (As := [.int v2, .int x8]) (by decide +kernel) rfl rfl (by simp [wv_rfc, wv_kI, wv_kJ, wv_kF, wv_kD]) hl.1 dX26_holdsNow_159 (fun x159 w159 H locs cells slots S hv => ?_) (wq_kx X rfl)
        refine lv_if_ne (tgt := 174) X.hx X.hb dX26_holdsNow_162 (by decide) (fun c162 => ?_) (fun c162 => ?_)
        · have hv := hv.1 c162
          refine lv_iconst (v := (1 : Int32)) X.hx X.hb dX26_holdsNow_174 (by decide) ?_
          refine lv_goto (tgt := 288) X.hx X.hb dX26_holdsNow_175 (by decide) ?_
          exact wr_iret X S hv.1 hv.2 dX26_holdsNow_288
        · have hv := hv.2 c162
          refine wq_aload_n X dX26_holdsNow_165 rfl (lv_at hl 1 rfl) ?_
          refine lv_iload X.hx X.hb dX26_holdsNow_166 (lv_at hl 0 rfl) ?_
          refine wq_cV_I X S hv q2314 q2315 q2316 q112 ⟨by decide +kernel, by decide +kernel⟩ (nA := 1) (As := [.int x8]) (by decide +kernel) rfl rfl (by simp [wv_rfc, wv_kI, wv_kJ, wv_kF, wv_kD]) hl.1 dX26_holdsNow_168 (fun x168 w168 H locs cells slots S hv => ?_) (wq_kx X rfl)
          refine lv_if_eq (tgt := 178) X.hx X.hb dX26_holdsNow_171 (by decide) (fun c171 => ?_) (fun c171 => ?_)
          · have hv := hv.1 c171
            refine lv_iconst (v := (0 : Int32)) X.hx X.hb dX26_holdsNow_178 (by decide) ?_
            refine lv_goto (tgt := 288) X.hx X.hb dX26_holdsNow_179 (by decide) ?_
            exact wr_iret X S hv.1 hv.2 dX26_holdsNow_288
          · have hv := hv.2 c171
            refine lv_iconst (v := (1 : Int32)) X.hx X.hb dX26_holdsNow_174 (by decide) ?_
            refine lv_goto (tgt := 288) X.hx X.hb dX26_holdsNow_175 (by decide) ?_
            exact wr_iret X S hv.1 hv.2 dX26_holdsNow_288
      · have hv := hv.2 h20_2
        by_cases h20_3 : x19 = (110 : Int32)
        · have hv := hv.1 h20_3
          refine lv_lookup (tgt := 96) (off := 76) X.hx X.hb dX26_holdsNow_20 (by decide) (by rw [h20_3] <;> rfl) (by decide) ?_
          refine lv_iload X.hx X.hb dX26_holdsNow_96 (lv_at hl 5 rfl) ?_
          refine lv_iload X.hx X.hb dX26_holdsNow_98 (lv_at hl 0 rfl) ?_
          refine lv_icmp_ne (tgt := 107) X.hx X.hb dX26_holdsNow_100 (by decide) (fun c100 => ?_) (fun c100 => ?_)
          · have hv := hv.1 c100
            refine lv_iconst (v := (0 : Int32)) X.hx X.hb dX26_holdsNow_107 (by decide) ?_
            refine lv_goto (tgt := 288) X.hx X.hb dX26_holdsNow_108 (by decide) ?_
            exact wr_iret X S hv.1 hv.2 dX26_holdsNow_288
          · have hv := hv.2 c100
            refine lv_iconst (v := (1 : Int32)) X.hx X.hb dX26_holdsNow_103 (by decide) ?_
            refine lv_goto (tgt := 288) X.hx X.hb dX26_holdsNow_104 (by decide) ?_
            exact wr_iret X S hv.1 hv.2 dX26_holdsNow_288
        · have hv := hv.2 h20_3
          by_cases h20_4 : x19 = (116 : Int32)
          · have hv := hv.1 h20_4
            refine lv_lookup (tgt := 111) (off := 91) X.hx X.hb dX26_holdsNow_20 (by decide) (by rw [h20_4] <;> rfl) (by decide) ?_
            refine wq_aload_n X dX26_holdsNow_111 rfl (lv_at hl 1 rfl) ?_
            refine wq_gA X S hv ccX26 in_X26 (k := 4) (by decide) q2253 dX26_holdsNow_112 (fun x112 hv => ?_)
            refine lv_iload X.hx X.hb dX26_holdsNow_115 (lv_at hl 6 rfl) ?_
            refine lv_iload X.hx X.hb dX26_holdsNow_117 (lv_at hl 0 rfl) ?_
            refine wq_cVN_I X S hv q2309 q2158 qs50 q2159 q66 ⟨by decide +kernel, by decide +kernel⟩ (nA := 2) (As := [.int v5, .int x8]) (by decide +kernel) rfl rfl (by simp [wv_rfc, wv_kI, wv_kJ, wv_kF, wv_kD]) hl.1 dX26_holdsNow_119 (fun x119 w119 H locs cells slots S hv => ?_) (wq_kx X rfl)
            refine lv_goto (tgt := 288) X.hx X.hb dX26_holdsNow_122 (by decide) ?_
            exact wr_iret X S hv.1 hv.2 dX26_holdsNow_288
          · have hv := hv.2 h20_4
            by_cases h20_5 : x19 = (118 : Int32)
            · have hv := hv.1 h20_5
              refine lv_lookup (tgt := 140) (off := 120) X.hx X.hb dX26_holdsNow_20 (by decide) (by rw [h20_5] <;> rfl) (by decide) ?_
              refine lv_iload X.hx X.hb dX26_holdsNow_140 (lv_at hl 8 rfl) ?_
              refine lv_iload X.hx X.hb dX26_holdsNow_142 (lv_at hl 0 rfl) ?_
              refine lv_icmp_le (tgt := 151) X.hx X.hb dX26_holdsNow_144 (by decide) (fun c144 => ?_) (fun c144 => ?_)
              · have hv := hv.1 c144
                refine lv_iconst (v := (0 : Int32)) X.hx X.hb dX26_holdsNow_151 (by decide) ?_
                refine lv_goto (tgt := 288) X.hx X.hb dX26_holdsNow_152 (by decide) ?_
                exact wr_iret X S hv.1 hv.2 dX26_holdsNow_288
              · have hv := hv.2 c144
                refine lv_iconst (v := (1 : Int32)) X.hx X.hb dX26_holdsNow_147 (by decide) ?_
                refine lv_goto (tgt := 288) X.hx X.hb dX26_holdsNow_148 (by decide) ?_
                exact wr_iret X S hv.1 hv.2 dX26_holdsNow_288
            · have hv := hv.2 h20_5
              by_cases h20_6 : x19 = (119 : Int32)
              · have hv := hv.1 h20_6
                refine lv_lookup (tgt := 125) (off := 105) X.hx X.hb dX26_holdsNow_20 (by decide) (by rw [h20_6] <;> rfl) (by decide) ?_
                refine lv_iload X.hx X.hb dX26_holdsNow_125 (lv_at hl 7 rfl) ?_
                refine lv_iload X.hx X.hb dX26_holdsNow_127 (lv_at hl 0 rfl) ?_
                refine lv_icmp_ne (tgt := 136) X.hx X.hb dX26_holdsNow_129 (by decide) (fun c129 => ?_) (fun c129 => ?_)
                · have hv := hv.1 c129
                  refine lv_iconst (v := (0 : Int32)) X.hx X.hb dX26_holdsNow_136 (by decide) ?_
                  refine lv_goto (tgt := 288) X.hx X.hb dX26_holdsNow_137 (by decide) ?_
                  exact wr_iret X S hv.1 hv.2 dX26_holdsNow_288
                · have hv := hv.2 c129
                  refine lv_iconst (v := (1 : Int32)) X.hx X.hb dX26_holdsNow_132 (by decide) ?_
                  refine lv_goto (tgt := 288) X.hx X.hb dX26_holdsNow_133 (by decide) ?_
                  exact wr_iret X S hv.1 hv.2 dX26_holdsNow_288
              · have hv := hv.2 h20_6
                by_cases h20_7 : x19 = (124 : Int32)
                · have hv := hv.1 h20_7
                  refine lv_lookup (tgt := 235) (off := 215) X.hx X.hb dX26_holdsNow_20 (by decide) (by rw [h20_7] <;> rfl) (by decide) ?_
                  refine wq_aload_n X dX26_holdsNow_235 rfl (lv_at hl 1 rfl) ?_
                  refine lv_iload_n X.hx X.hb dX26_holdsNow_236 rfl (lv_at hl 3 rfl) ?_
                  refine lv_iload X.hx X.hb dX26_holdsNow_237 (lv_at hl 0 rfl) ?_
                  refine wq_cV_I X S hv q2310 q2311 q2312 q112 ⟨by decide +kernel, by decide +kernel⟩ (nA := 2) (As := [.int v2, .int x8]) (by decide +kernel) rfl rfl (by simp [wv_rfc, wv_kI, wv_kJ, wv_kF, wv_kD]) hl.1 dX26_holdsNow_239 (fun x239 w239 H locs cells slots S hv => ?_) (wq_kx X rfl)
                  refine lv_if_ne (tgt := 262) X.hx X.hb dX26_holdsNow_242 (by decide) (fun c242 => ?_) (fun c242 => ?_)
                  · have hv := hv.1 c242
                    refine lv_iconst (v := (1 : Int32)) X.hx X.hb dX26_holdsNow_262 (by decide) ?_
                    refine lv_goto (tgt := 288) X.hx X.hb dX26_holdsNow_263 (by decide) ?_
                    exact wr_iret X S hv.1 hv.2 dX26_holdsNow_288
                  · have hv := hv.2 c242
                    refine wq_aload_n X dX26_holdsNow_245 rfl (lv_at hl 1 rfl) ?_
                    refine lv_iload_n X.hx X.hb dX26_holdsNow_246 rfl (lv_at hl 3 rfl) ?_
                    refine wq_aload_n X dX26_holdsNow_247 rfl (lv_at hl 1 rfl) ?_
                    refine wq_gA X S hv ccX26 in_X26 (k := 4) (by decide) q2253 dX26_holdsNow_248 (fun x248 hv => ?_)
                    refine wq_gAN X S hv ccX4 in_X4 (k := 3) (by decide) q1805 dX26_holdsNow_251 (fun x251 hv => ?_)
                    refine lv_iload_n X.hx X.hb dX26_holdsNow_254 rfl (lv_at hl 2 rfl) ?_
                    refine wq_li0 X S hv dX26_holdsNow_255 (fun x255 hv => ?_)
                    refine wq_cV_I X S hv q2310 q2311 q2312 q112 ⟨by decide +kernel, by decide +kernel⟩ (nA := 2) (As := [.int v2, .int x255]) (by decide +kernel) rfl rfl (by simp [wv_rfc, wv_kI, wv_kJ, wv_kF, wv_kD]) hl.1 dX26_holdsNow_256 (fun x256 w256 H locs cells slots S hv => ?_) (wq_kx X rfl)
                    refine lv_if_eq (tgt := 266) X.hx X.hb dX26_holdsNow_259 (by decide) (fun c259 => ?_) (fun c259 => ?_)
                    · have hv := hv.1 c259
                      refine lv_iconst (v := (0 : Int32)) X.hx X.hb dX26_holdsNow_266 (by decide) ?_
                      refine lv_goto (tgt := 288) X.hx X.hb dX26_holdsNow_267 (by decide) ?_
                      exact wr_iret X S hv.1 hv.2 dX26_holdsNow_288
                    · have hv := hv.2 c259
                      refine lv_iconst (v := (1 : Int32)) X.hx X.hb dX26_holdsNow_262 (by decide) ?_
                      refine lv_goto (tgt := 288) X.hx X.hb dX26_holdsNow_263 (by decide) ?_
                      exact wr_iret X S hv.1 hv.2 dX26_holdsNow_288
                · have hv := hv.2 h20_7
                  refine lv_lookup (tgt := 270) (off := 250) X.hx X.hb dX26_holdsNow_20 (by decide) (by rw [lv_osw h20_0 (by decide), lv_osw h20_1 (by decide), lv_osw h20_2 (by decide), lv_osw h20_3 (by decide), lv_osw h20_4 (by decide), lv_osw h20_5 (by decide), lv_osw h20_6 (by decide), lv_osw h20_7 (by decide)] <;> rfl) (by decide) ?_
                  refine wq_aload_n X dX26_holdsNow_270 rfl (lv_at hl 1 rfl) ?_
                  refine wq_gA X S hv ccX26 in_X26 (k := 4) (by decide) q2253 dX26_holdsNow_271 (fun x271 hv => ?_)
                  refine wq_gAN X S hv ccX4 in_X4 (k := 8) (by decide) q1815 dX26_holdsNow_274 (fun x274 hv => ?_)
                  refine lv_iload_n X.hx X.hb dX26_holdsNow_277 rfl (lv_at hl 2 rfl) ?_
                  refine wq_li1 X S hv dX26_holdsNow_278 (fun x278 hv => ?_)
                  refine lv_iload_n X.hx X.hb dX26_holdsNow_279 rfl (lv_at hl 4 rfl) ?_
                  refine lv_icmp_ne (tgt := 287) X.hx X.hb dX26_holdsNow_280 (by decide) (fun c280 => ?_) (fun c280 => ?_)
                  · have hv := hv.1 c280
                    refine lv_iconst (v := (0 : Int32)) X.hx X.hb dX26_holdsNow_287 (by decide) ?_
                    exact wr_iret X S hv.1 hv.2 dX26_holdsNow_288
                  · have hv := hv.2 c280
                    refine lv_iconst (v := (1 : Int32)) X.hx X.hb dX26_holdsNow_283 (by decide) ?_
                    refine lv_goto (tgt := 288) X.hx X.hb dX26_holdsNow_284 (by decide) ?_
                    exact wr_iret X S hv.1 hv.2 dX26_holdsNow_288
theorem wk_X26_holdsNow {G : wv_G} (hG : wv_G0 G) {v0 : Option Nat} {v1 : Int32} {v2 : Int32} {v3 : Int32} {v4 : Int32} {v5 : Int32} {v6 : Int32} {v7 : Int32} {h : wv_H} {fr kc ks : Nat} {P : wv_R → wv_H → Prop} (hv : vc_X26_holdsNow_0 G fr P v0 v1 v2 v3 v4 v5 v6 v7 (h, kc, ks)) : wv_C G yX26_holdsNow [va_rf v0, .int v1, .int v2, .int v3, .int v4, .int v5, .int v6, .int v7] h fr kc ks P := by
  refine wv_enter (lv := [(0, va_rf v0), (1, .int v1), (2, .int v2), (3, .int v3), (4, .int v4), (5, .int v5), (6, .int v6), (7, .int v7)]) hG (by decide +kernel) q2308 (by decide) (by simp [lg_sl, wv_rfc, wv_kI, wv_kJ, wv_kF, wv_kD]) (by simp [lv_args, wv_rfc, wv_kI, wv_kJ, wv_kF, wv_kD]) ?_
  intro p e R s m args below meth c X H locs cells slots ls S hl
  exact wk_X26_holdsNow_0 X hv H locs cells slots ls S (lv_sub hl [0, 1, 2, 3, 4, 5, 6, 7] rfl)

def vc_X26_init_0 (G : wv_G) (fr : Nat) (P : wv_R → wv_H → Prop) (v0 : Option Nat) (v1 : Option Nat) (v2 : Int32) (w : wv_W) : Prop :=
  wv_pt w v0 ciX26 4 (va_rf v1) (fun w2 => (∃ a, v0 = some a) ∧ 1 ≤ fr ∧ (wv_no G w2 (wo_o ciX5 [va_rf none, .int 0, .int 0, .int 0, .int 0]) 5 (fun a10 w10 => wv_cI G fr yX5_init (some a10) [] w10 (wv_rV (fun w14 => wv_pt w14 v0 ciX26 0 (va_rf (some a10)) (fun w17 => wv_no G w17 (wo_o ciJ2 [.int 0, va_rf none, .int 0]) 3 (fun a21 w21 => wv_cI G fr yJ2_init (some a21) [] w21 (wv_rV (fun w25 => wv_pt w25 v0 ciX26 1 (va_rf (some a21)) (fun w28 => wv_gA w28 v0 ciX26 4 (fun x33 => wv_cV G fr yX4_order x33 [] w28 (wv_rA (fun x36 w36 => wv_pt w36 v0 ciX26 2 (va_rf x36) (fun w39 => wv_fit .boolean v2 ∧ wv_pt w39 v0 ciX26 3 (.int v2) (fun w44 => P (.inl none) w44.1))) (wv_pr P))))) (wv_pr P))))) (wv_pr P)))))
set_option maxHeartbeats 4000000 in
theorem wk_X26_init_0 {G : wv_G} {p : Program} {e : Env} {R : Room} {s : State} {m : MethodId} {args : Array Value} {below : List Frame} {meth : Method} {c : Code} {fr : Nat} {P : wv_R → wv_H → Prop} (X : wv_ok G p R s m args meth c fr "WeaversgateModel$Run" cX26_init 3 (Option.none : Option Jvm.ClassFile.FieldType) "<init>" []) {v0 : Option Nat} {v1 : Option Nat} {v2 : Int32} {w : wv_W} (hv : vc_X26_init_0 G fr P v0 v1 v2 w) : wv_J G p e R s m args below meth c 3 P w 0 [(0, va_rf v0), (1, va_rf v1), (2, .int v2)] [] := by
  intro H locs cells slots ls S hl
  unfold vc_X26_init_0 at hv
  refine wq_aload_n X dX26_init_0 rfl (lv_at hl 0 rfl) ?_
  refine wq_aload_n X dX26_init_1 rfl (lv_at hl 1 rfl) ?_
  refine wq_ptF X S hv tyX26 tyX26_ok nmX26 ccX26 in_X26 (k := 4) (by decide) q2253 rfl rfl rfl (wv_fnA (Or.inl ⟨_, rfl⟩)).1 (wv_fnA (Or.inl ⟨_, rfl⟩)).2 dX26_init_2 (fun w2 H locs S hv => ?_)
  refine wq_aload_n X dX26_init_5 rfl (lv_at hl 0 rfl) ?_
  obtain ⟨⟨_, hr⟩, h1, hv⟩ := hv
  refine wq_objInit X hr q2243 q125 q126 h1 (by simp [wv_rfc, wv_kI, wv_kJ, wv_kF, wv_kD]) hl.1 dX26_init_6 ?_
  refine wq_aload_n X dX26_init_9 rfl (lv_at hl 0 rfl) ?_
  refine wq_new X S hv tyX5 tyX5_ok ccX5 in_X5 q2244 q1767 q67 (fun j hj => by have hj : j < 5 := hj; rcases (show j = 0 ∨ j = 1 ∨ j = 2 ∨ j = 3 ∨ j = 4 by omega) with rfl | rfl | rfl | rfl | rfl <;> rfl) dX26_init_10 (fun a10 w10 H cells slots S hv => ?_)
  refine lv_dup X.hx X.hb dX26_init_13 (wv_rfc _) ?_
  refine wq_cIN_V X S hv rfl q2245 q1769 q1770 q67 ⟨by decide +kernel, by decide +kernel⟩ (nA := 0) (As := []) (by decide +kernel) rfl rfl (by simp [wv_rfc, wv_kI, wv_kJ, wv_kF, wv_kD]) hl.1 dX26_init_14 (fun w14 H locs cells slots S hv => ?_) (wq_kx X rfl)
  refine wq_ptF X S hv tyX26 tyX26_ok nmX26 ccX26 in_X26 (k := 0) (by decide) q2249 rfl rfl rfl (wv_fnA (Or.inl ⟨_, rfl⟩)).1 (wv_fnA (Or.inl ⟨_, rfl⟩)).2 dX26_init_17 (fun w17 H locs S hv => ?_)
  refine wq_aload_n X dX26_init_20 rfl (lv_at hl 0 rfl) ?_
  refine wq_new X S hv tyJ2 tyJ2_ok ccJ2 in_J2 q2246 q128 q63 (fun j hj => by have hj : j < 3 := hj; rcases (show j = 0 ∨ j = 1 ∨ j = 2 by omega) with rfl | rfl | rfl <;> rfl) dX26_init_21 (fun a21 w21 H cells slots S hv => ?_)
  refine lv_dup X.hx X.hb dX26_init_24 (wv_rfc _) ?_
  refine wq_cI_V X S hv rfl q2247 q130 q131 q63 ⟨by decide +kernel, by decide +kernel⟩ (nA := 0) (As := []) (by decide +kernel) rfl rfl (by simp [wv_rfc, wv_kI, wv_kJ, wv_kF, wv_kD]) hl.1 dX26_init_25 (fun w25 H locs cells slots S hv => ?_) (wq_kx X rfl)
  refine wq_ptF X S hv tyX26 tyX26_ok nmX26 ccX26 in_X26 (k := 1) (by decide) q2250 rfl rfl rfl (wv_fnA (Or.inl ⟨_, rfl⟩)).1 (wv_fnA (Or.inl ⟨_, rfl⟩)).2 dX26_init_28 (fun w28 H locs S hv => ?_)
  refine wq_aload_n X dX26_init_31 rfl (lv_at hl 0 rfl) ?_
  refine wq_aload_n X dX26_init_32 rfl (lv_at hl 0 rfl) ?_
  refine wq_gA X S hv ccX26 in_X26 (k := 4) (by decide) q2253 dX26_init_33 (fun x33 hv => ?_)
  refine wq_cVN_A X S hv q2248 q1989 qs44 q1990 q66 ⟨by decide +kernel, by decide +kernel⟩ (nA := 0) (As := []) (by decide +kernel) rfl rfl (by simp [wv_rfc, wv_kI, wv_kJ, wv_kF, wv_kD]) hl.1 dX26_init_36 (fun x36 w36 H locs cells slots S hv => ?_) (wq_kx X rfl)
  refine wq_ptF X S hv tyX26 tyX26_ok nmX26 ccX26 in_X26 (k := 2) (by decide) q2251 rfl rfl rfl (wv_fnA (Or.inl ⟨_, rfl⟩)).1 (wv_fnA (Or.inl ⟨_, rfl⟩)).2 dX26_init_39 (fun w39 H locs S hv => ?_)
  refine wq_aload_n X dX26_init_42 rfl (lv_at hl 0 rfl) ?_
  refine lv_iload_n X.hx X.hb dX26_init_43 rfl (lv_at hl 2 rfl) ?_
  have hv44 := hv.1
  have hv := hv.2
  refine wq_ptF X S hv tyX26 tyX26_ok nmX26 ccX26 in_X26 (k := 3) (by decide) q2252 rfl rfl rfl hv44.1 hv44.2 dX26_init_44 (fun w44 H locs S hv => ?_)
  exact wr_vret X S hv dX26_init_47
theorem wk_X26_init {G : wv_G} (hG : wv_G0 G) {v0 : Option Nat} {v1 : Option Nat} {v2 : Int32} {h : wv_H} {fr kc ks : Nat} {P : wv_R → wv_H → Prop} (hv : vc_X26_init_0 G fr P v0 v1 v2 (h, kc, ks)) : wv_C G yX26_init [va_rf v0, va_rf v1, .int v2] h fr kc ks P := by
  refine wv_enter (lv := [(0, va_rf v0), (1, va_rf v1), (2, .int v2)]) hG (by decide +kernel) q2242 (by decide) (by simp [lg_sl, wv_rfc, wv_kI, wv_kJ, wv_kF, wv_kD]) (by simp [lv_args, wv_rfc, wv_kI, wv_kJ, wv_kF, wv_kD]) ?_
  intro p e R s m args below meth c X H locs cells slots ls S hl
  exact wk_X26_init_0 X hv H locs cells slots ls S (lv_sub hl [0, 1, 2] rfl)

def vc_X26_isBit_0 (G : wv_G) (fr : Nat) (P : wv_R → wv_H → Prop) (v1 : Int32) (v2 : Int32) (w : wv_W) : Prop :=
  (¬ ((v1 >>> (v2 &&& 31)) &&& (1 : Int32)) = (1 : Int32) → narrow .boolean (.int (0 : Int32)) = .int (0 : Int32) ∧ P (.inl (some (.int (0 : Int32)))) w.1) ∧ (((v1 >>> (v2 &&& 31)) &&& (1 : Int32)) = (1 : Int32) → narrow .boolean (.int (1 : Int32)) = .int (1 : Int32) ∧ P (.inl (some (.int (1 : Int32)))) w.1)
set_option maxHeartbeats 4000000 in
theorem wk_X26_isBit_0 {G : wv_G} {p : Program} {e : Env} {R : Room} {s : State} {m : MethodId} {args : Array Value} {below : List Frame} {meth : Method} {c : Code} {fr : Nat} {P : wv_R → wv_H → Prop} (X : wv_ok G p R s m args meth c fr "WeaversgateModel$Run" cX26_isBit 3 (Option.some Jvm.ClassFile.FieldType.boolean) "isBit" []) {v1 : Int32} {v2 : Int32} {w : wv_W} (hv : vc_X26_isBit_0 G fr P v1 v2 w) : wv_J G p e R s m args below meth c 3 P w 0 [(1, .int v1), (2, .int v2)] [] := by
  intro H locs cells slots ls S hl
  unfold vc_X26_isBit_0 at hv
  refine lv_iload_n X.hx X.hb dX26_isBit_0 rfl (lv_at hl 0 rfl) ?_
  refine lv_iload_n X.hx X.hb dX26_isBit_1 rfl (lv_at hl 1 rfl) ?_
  refine lv_ishr X.hx X.hb dX26_isBit_2 ?_
  refine lv_iconst (v := (1 : Int32)) X.hx X.hb dX26_isBit_3 (by decide) ?_
  refine lv_iand X.hx X.hb dX26_isBit_4 ?_
  refine lv_iconst (v := (1 : Int32)) X.hx X.hb dX26_isBit_5 (by decide) ?_
  refine lv_icmp_ne (tgt := 13) X.hx X.hb dX26_isBit_6 (by decide) (fun c6 => ?_) (fun c6 => ?_)
  · have hv := hv.1 c6
    refine lv_iconst (v := (0 : Int32)) X.hx X.hb dX26_isBit_13 (by decide) ?_
    exact wr_iret X S hv.1 hv.2 dX26_isBit_14
  · have hv := hv.2 c6
    refine lv_iconst (v := (1 : Int32)) X.hx X.hb dX26_isBit_9 (by decide) ?_
    refine lv_goto (tgt := 14) X.hx X.hb dX26_isBit_10 (by decide) ?_
    exact wr_iret X S hv.1 hv.2 dX26_isBit_14
theorem wk_X26_isBit {G : wv_G} (hG : wv_G0 G) {v0 : Option Nat} {v1 : Int32} {v2 : Int32} {h : wv_H} {fr kc ks : Nat} {P : wv_R → wv_H → Prop} (hv : vc_X26_isBit_0 G fr P v1 v2 (h, kc, ks)) : wv_C G yX26_isBit [va_rf v0, .int v1, .int v2] h fr kc ks P := by
  refine wv_enter (lv := [(0, va_rf v0), (1, .int v1), (2, .int v2)]) hG (by decide +kernel) q2313 (by decide) (by simp [lg_sl, wv_rfc, wv_kI, wv_kJ, wv_kF, wv_kD]) (by simp [lv_args, wv_rfc, wv_kI, wv_kJ, wv_kF, wv_kD]) ?_
  intro p e R s m args below meth c X H locs cells slots ls S hl
  exact wk_X26_isBit_0 X hv H locs cells slots ls S (lv_sub hl [1, 2] rfl)

def vc_X26_isHeldByOpen_8 (G : wv_G) (fr : Nat) (P : wv_R → wv_H → Prop) (K8 : ((Option Nat) × Int32 × (Option Nat)) → wv_W → Prop) (v0 : Option Nat) (v1 : Int32) (v2 : Option Nat) (w : wv_W) : Prop :=
  wv_cF G fr (⟨"java/util/Iterator", "hasNext", "()Z"⟩ : MethodName) v2 [] w (wv_rI (fun x9 w9 => (x9 = 0 → narrow .boolean (.int (0 : Int32)) = .int (0 : Int32) ∧ P (.inl (some (.int (0 : Int32)))) w9.1) ∧ (¬ x9 = 0 → wv_cF G fr (⟨"java/util/Iterator", "next", "()Ljava/lang/Object;"⟩ : MethodName) v2 [] w9 (wv_rA (fun x18 w18 => wv_cc G w18 x18 "WeaversgateModel$Point" (wv_cV G fr yX29_held x18 [] w18 (wv_rI (fun x29 w29 => wv_cV G fr yX26_isBit v0 [.int x29, .int v1] w29 (wv_rI (fun x33 w33 => (x33 = 0 → K8 (v0, v1, v2) w33) ∧ (¬ x33 = 0 → narrow .boolean (.int (1 : Int32)) = .int (1 : Int32) ∧ P (.inl (some (.int (1 : Int32)))) w33.1)) (wv_pr P))) (wv_pr P)))) (wv_pr P)))) (wv_pr P))
def vc_X26_isHeldByOpen_0 (G : wv_G) (fr : Nat) (P : wv_R → wv_H → Prop) (v0 : Option Nat) (v1 : Int32) (w : wv_W) : Prop :=
  wv_gA w v0 ciX26 1 (fun x1 => wv_cV G fr yJ2_iterator x1 [] w (wv_rA (fun x4 w4 => wv_L (fun K8 a w => vc_X26_isHeldByOpen_8 G fr P K8 a.1 a.2.1 a.2.2 w) (v0, v1, x4) w4) (wv_pr P)))
set_option maxHeartbeats 4000000 in
theorem wk_X26_isHeldByOpen_8 {G : wv_G} {p : Program} {e : Env} {R : Room} {s : State} {m : MethodId} {args : Array Value} {below : List Frame} {meth : Method} {c : Code} {fr : Nat} {P : wv_R → wv_H → Prop} (X : wv_ok G p R s m args meth c fr "WeaversgateModel$Run" cX26_isHeldByOpen 4 (Option.some Jvm.ClassFile.FieldType.boolean) "isHeldByOpen" []) {K8 : ((Option Nat) × Int32 × (Option Nat)) → wv_W → Prop} (hK8 : ∀ a w, K8 a w → wv_J G p e R s m args below meth c 4 P w 8 [(0, va_rf a.1), (1, .int a.2.1), (2, va_rf a.2.2)] []) {v0 : Option Nat} {v1 : Int32} {v2 : Option Nat} {w : wv_W} (hv : vc_X26_isHeldByOpen_8 G fr P K8 v0 v1 v2 w) : wv_J G p e R s m args below meth c 4 P w 8 [(0, va_rf v0), (1, .int v1), (2, va_rf v2)] [] := by
  intro H locs cells slots ls S hl
  unfold vc_X26_isHeldByOpen_8 at hv
  refine wq_aload_n X dX26_isHeldByOpen_8 rfl (lv_at hl 2 rfl) ?_
  refine wq_cF_I X S hv q2320 ⟨by decide +kernel, by decide +kernel⟩ (nA := 0) (As := []) (by decide +kernel) rfl rfl (by simp [wv_rfc, wv_kI, wv_kJ, wv_kF, wv_kD]) hl.1 dX26_isHeldByOpen_9 (fun x9 w9 H locs cells slots S hv => ?_) (wq_kx X rfl)
  refine lv_if_eq (tgt := 44) X.hx X.hb dX26_isHeldByOpen_14 (by decide) (fun c14 => ?_) (fun c14 => ?_)
  · have hv := hv.1 c14
    refine lv_iconst (v := (0 : Int32)) X.hx X.hb dX26_isHeldByOpen_44 (by decide) ?_
    exact wr_iret X S hv.1 hv.2 dX26_isHeldByOpen_45
  · have hv := hv.2 c14
    refine wq_aload_n X dX26_isHeldByOpen_17 rfl (lv_at hl 2 rfl) ?_
    refine wq_cF_A X S hv q2322 ⟨by decide +kernel, by decide +kernel⟩ (nA := 0) (As := []) (by decide +kernel) rfl rfl (by simp [wv_rfc, wv_kI, wv_kJ, wv_kF, wv_kD]) hl.1 dX26_isHeldByOpen_18 (fun x18 w18 H locs cells slots S hv => ?_) (wq_kx X rfl)
    refine wq_cc X S hv q2323 dX26_isHeldByOpen_23 (fun hv => ?_)
    refine wq_astore_n X (i := 3) (lv' := [(3, va_rf x18), (0, va_rf v0), (1, .int v1), (2, va_rf v2)]) dX26_isHeldByOpen_26 rfl hl (by decide) (by simp [wv_rfc, wv_kI, wv_kJ, wv_kF, wv_kD]) (fun ls hl => ?_)
    refine wq_aload_n X dX26_isHeldByOpen_27 rfl (lv_at hl 1 rfl) ?_
    refine wq_aload_n X dX26_isHeldByOpen_28 rfl (lv_at hl 0 rfl) ?_
    refine wq_cV_I X S hv q2324 q2325 q2326 q115 ⟨by decide +kernel, by decide +kernel⟩ (nA := 0) (As := []) (by decide +kernel) rfl rfl (by simp [wv_rfc, wv_kI, wv_kJ, wv_kF, wv_kD]) hl.1 dX26_isHeldByOpen_29 (fun x29 w29 H locs cells slots S hv => ?_) (wq_kx X rfl)
    refine lv_iload_n X.hx X.hb dX26_isHeldByOpen_32 rfl (lv_at hl 2 rfl) ?_
    refine wq_cV_I X S hv q2310 q2311 q2312 q112 ⟨by decide +kernel, by decide +kernel⟩ (nA := 2) (As := [.int x29, .int v1]) (by decide +kernel) rfl rfl (by simp [wv_rfc, wv_kI, wv_kJ, wv_kF, wv_kD]) hl.1 dX26_isHeldByOpen_33 (fun x33 w33 H locs cells slots S hv => ?_) (wq_kx X rfl)
    refine lv_if_eq (tgt := 41) X.hx X.hb dX26_isHeldByOpen_36 (by decide) (fun c36 => ?_) (fun c36 => ?_)
    · have hv := hv.1 c36
      refine lv_goto (tgt := 8) X.hx X.hb dX26_isHeldByOpen_41 (by decide) ?_
      exact hK8 _ _ hv H locs cells slots ls S (lv_sub hl [1, 2, 3] rfl)
    · have hv := hv.2 c36
      refine lv_iconst (v := (1 : Int32)) X.hx X.hb dX26_isHeldByOpen_39 (by decide) ?_
      exact wr_iret X S hv.1 hv.2 dX26_isHeldByOpen_40
set_option maxHeartbeats 4000000 in
theorem wk_X26_isHeldByOpen_0 {G : wv_G} {p : Program} {e : Env} {R : Room} {s : State} {m : MethodId} {args : Array Value} {below : List Frame} {meth : Method} {c : Code} {fr : Nat} {P : wv_R → wv_H → Prop} (X : wv_ok G p R s m args meth c fr "WeaversgateModel$Run" cX26_isHeldByOpen 4 (Option.some Jvm.ClassFile.FieldType.boolean) "isHeldByOpen" []) {v0 : Option Nat} {v1 : Int32} {w : wv_W} (hv : vc_X26_isHeldByOpen_0 G fr P v0 v1 w) : wv_J G p e R s m args below meth c 4 P w 0 [(0, va_rf v0), (1, .int v1)] [] := by
  intro H locs cells slots ls S hl
  unfold vc_X26_isHeldByOpen_0 at hv
  refine wq_aload_n X dX26_isHeldByOpen_0 rfl (lv_at hl 0 rfl) ?_
  refine wq_gA X S hv ccX26 in_X26 (k := 1) (by decide) q2250 dX26_isHeldByOpen_1 (fun x1 hv => ?_)
  refine wq_cV_A X S hv q2318 q2175 q2176 q63 ⟨by decide +kernel, by decide +kernel⟩ (nA := 0) (As := []) (by decide +kernel) rfl rfl (by simp [wv_rfc, wv_kI, wv_kJ, wv_kF, wv_kD]) hl.1 dX26_isHeldByOpen_4 (fun x4 w4 H locs cells slots S hv => ?_) (wq_kx X rfl)
  refine wq_astore_n X (i := 2) (lv' := [(2, va_rf x4), (0, va_rf v0), (1, .int v1)]) dX26_isHeldByOpen_7 rfl hl (by decide) (by simp [wv_rfc, wv_kI, wv_kJ, wv_kF, wv_kD]) (fun ls hl => ?_)
  exact wv_loop (A := (Option Nat) × Int32 × (Option Nat)) (fun a w => wv_J G p e R s m args below meth c 4 P w 8 [(0, va_rf a.1), (1, .int a.2.1), (2, va_rf a.2.2)] []) (fun K8 hK8 a w hv => wk_X26_isHeldByOpen_8 X hK8 hv) hv H locs cells slots ls S (lv_sub hl [1, 2, 0] rfl)
theorem wk_X26_isHeldByOpen {G : wv_G} (hG : wv_G0 G) {v0 : Option Nat} {v1 : Int32} {h : wv_H} {fr kc ks : Nat} {P : wv_R → wv_H → Prop} (hv : vc_X26_isHeldByOpen_0 G fr P v0 v1 (h, kc, ks)) : wv_C G yX26_isHeldByOpen [va_rf v0, .int v1] h fr kc ks P := by
  refine wv_enter (lv := [(0, va_rf v0), (1, .int v1)]) hG (by decide +kernel) q2317 (by decide) (by simp [lg_sl, wv_rfc, wv_kI, wv_kJ, wv_kF, wv_kD]) (by simp [lv_args, wv_rfc, wv_kI, wv_kJ, wv_kF, wv_kD]) ?_
  intro p e R s m args below meth c X H locs cells slots ls S hl
  exact wk_X26_isHeldByOpen_0 X hv H locs cells slots ls S (lv_sub hl [0, 1] rfl)

def vc_X26_isTaken_26 (G : wv_G) (fr : Nat) (P : wv_R → wv_H → Prop) (v0 : Option Nat) (v1 : Option Nat) (v2 : Int32) (s0 : Int32) (w : wv_W) : Prop :=
  (s0 = (109 : Int32) → wv_gA w v0 ciX26 0 (fun x46 => wv_gI w x46 ciX5 4 (fun x50 => wv_pt w x46 ciX5 4 (.int (x50 + (1 : Int32))) (fun w55 => wv_cV G fr yX29_held v1 [] w55 (wv_rI (fun x60 w60 => wv_gA w60 v0 ciX26 4 (fun x64 => wv_gA w60 x64 ciX4 5 (fun x67 => wv_li G 0 w60 x67 v2 (fun x71 => wv_cV G fr yX26_isBit v0 [.int x60, .int x71] w60 (wv_rI (fun x72 w72 => narrow .boolean (.int x72) = .int x72 ∧ P (.inl (some (.int x72))) w72.1) (wv_pr P)))))) (wv_pr P)))))) ∧ (¬ s0 = (109 : Int32) → (¬ s0 = (121 : Int32) → narrow .boolean (.int (0 : Int32)) = .int (0 : Int32) ∧ P (.inl (some (.int (0 : Int32)))) w.1) ∧ (s0 = (121 : Int32) → narrow .boolean (.int (1 : Int32)) = .int (1 : Int32) ∧ P (.inl (some (.int (1 : Int32)))) w.1))
def vc_X26_isTaken_0 (G : wv_G) (fr : Nat) (P : wv_R → wv_H → Prop) (v0 : Option Nat) (v1 : Option Nat) (v2 : Int32) (w : wv_W) : Prop :=
  wv_gI w v0 ciX26 3 (fun x1 => (x1 = 0 → vc_X26_isTaken_26 G fr P v0 v1 v2 (109 : Int32) w) ∧ (¬ x1 = 0 → wv_cV G fr yX29_placeClass v1 [] w (wv_rI (fun x8 w8 => (x8 = (-1 : Int32) → vc_X26_isTaken_26 G fr P v0 v1 v2 (109 : Int32) w8) ∧ (¬ x8 = (-1 : Int32) → wv_cV G fr yX26_spotMatch v0 [va_rf v1, .int v2] w8 (wv_rI (fun x18 w18 => vc_X26_isTaken_26 G fr P v0 v1 v2 x18 w18) (wv_pr P)))) (wv_pr P))))
set_option maxHeartbeats 4000000 in
theorem wk_X26_isTaken_26 {G : wv_G} {p : Program} {e : Env} {R : Room} {s : State} {m : MethodId} {args : Array Value} {below : List Frame} {meth : Method} {c : Code} {fr : Nat} {P : wv_R → wv_H → Prop} (X : wv_ok G p R s m args meth c fr "WeaversgateModel$Run" cX26_isTaken 4 (Option.some Jvm.ClassFile.FieldType.boolean) "isTaken" []) {v0 : Option Nat} {v1 : Option Nat} {v2 : Int32} {s0 : Int32} {w : wv_W} (hv : vc_X26_isTaken_26 G fr P v0 v1 v2 s0 w) : wv_J G p e R s m args below meth c 4 P w 26 [(0, va_rf v0), (1, va_rf v1), (2, .int v2)] [.int s0] := by
  intro H locs cells slots ls S hl
  unfold vc_X26_isTaken_26 at hv
  refine lv_istore_n X.hx X.hb (i := 3) (lv' := [(3, .int s0), (0, va_rf v0), (1, va_rf v1), (2, .int v2)]) dX26_isTaken_26 rfl hl (by decide) (by simp [wv_rfc, wv_kI, wv_kJ, wv_kF, wv_kD]) (fun ls hl => ?_)
  refine lv_iload_n X.hx X.hb dX26_isTaken_27 rfl (lv_at hl 0 rfl) ?_
  refine lv_bipush (v := (109 : Int32)) X.hx X.hb dX26_isTaken_28 (by decide) ?_
  refine lv_icmp_eq (tgt := 45) X.hx X.hb dX26_isTaken_30 (by decide) (fun c30 => ?_) (fun c30 => ?_)
  · have hv := hv.1 c30
    refine wq_aload_n X dX26_isTaken_45 rfl (lv_at hl 1 rfl) ?_
    refine wq_gA X S hv ccX26 in_X26 (k := 0) (by decide) q2249 dX26_isTaken_46 (fun x46 hv => ?_)
    refine lv_dup X.hx X.hb dX26_isTaken_49 (wv_rfc _) ?_
    refine wq_gI X S hv ccX5 in_X5 (k := 4) (by decide) q1787 dX26_isTaken_50 (fun x50 hv => ?_)
    refine lv_iconst (v := (1 : Int32)) X.hx X.hb dX26_isTaken_53 (by decide) ?_
    refine lv_iadd X.hx X.hb dX26_isTaken_54 ?_
    refine wq_pt X S hv tyX5 tyX5_ok nmX5 ccX5 in_X5 (k := 4) (by decide) q1787 rfl rfl rfl rfl dX26_isTaken_55 (fun w55 H locs S hv => ?_)
    refine wq_aload_n X dX26_isTaken_58 rfl (lv_at hl 1 rfl) ?_
    refine wq_aload_n X dX26_isTaken_59 rfl (lv_at hl 2 rfl) ?_
    refine wq_cV_I X S hv q2324 q2325 q2326 q115 ⟨by decide +kernel, by decide +kernel⟩ (nA := 0) (As := []) (by decide +kernel) rfl rfl (by simp [wv_rfc, wv_kI, wv_kJ, wv_kF, wv_kD]) hl.1 dX26_isTaken_60 (fun x60 w60 H locs cells slots S hv => ?_) (wq_kx X rfl)
    refine wq_aload_n X dX26_isTaken_63 rfl (lv_at hl 1 rfl) ?_
    refine wq_gA X S hv ccX26 in_X26 (k := 4) (by decide) q2253 dX26_isTaken_64 (fun x64 hv => ?_)
    refine wq_gAN X S hv ccX4 in_X4 (k := 5) (by decide) q1809 dX26_isTaken_67 (fun x67 hv => ?_)
    refine lv_iload_n X.hx X.hb dX26_isTaken_70 rfl (lv_at hl 3 rfl) ?_
    refine wq_li0 X S hv dX26_isTaken_71 (fun x71 hv => ?_)
    refine wq_cV_I X S hv q2310 q2311 q2312 q112 ⟨by decide +kernel, by decide +kernel⟩ (nA := 2) (As := [.int x60, .int x71]) (by decide +kernel) rfl rfl (by simp [wv_rfc, wv_kI, wv_kJ, wv_kF, wv_kD]) hl.1 dX26_isTaken_72 (fun x72 w72 H locs cells slots S hv => ?_) (wq_kx X rfl)
    exact wr_iret X S hv.1 hv.2 dX26_isTaken_75
  · have hv := hv.2 c30
    refine lv_iload_n X.hx X.hb dX26_isTaken_33 rfl (lv_at hl 0 rfl) ?_
    refine lv_bipush (v := (121 : Int32)) X.hx X.hb dX26_isTaken_34 (by decide) ?_
    refine lv_icmp_ne (tgt := 43) X.hx X.hb dX26_isTaken_36 (by decide) (fun c36 => ?_) (fun c36 => ?_)
    · have hv := hv.1 c36
      refine lv_iconst (v := (0 : Int32)) X.hx X.hb dX26_isTaken_43 (by decide) ?_
      exact wr_iret X S hv.1 hv.2 dX26_isTaken_44
    · have hv := hv.2 c36
      refine lv_iconst (v := (1 : Int32)) X.hx X.hb dX26_isTaken_39 (by decide) ?_
      refine lv_goto (tgt := 44) X.hx X.hb dX26_isTaken_40 (by decide) ?_
      exact wr_iret X S hv.1 hv.2 dX26_isTaken_44
set_option maxHeartbeats 4000000 in
theorem wk_X26_isTaken_0 {G : wv_G} {p : Program} {e : Env} {R : Room} {s : State} {m : MethodId} {args : Array Value} {below : List Frame} {meth : Method} {c : Code} {fr : Nat} {P : wv_R → wv_H → Prop} (X : wv_ok G p R s m args meth c fr "WeaversgateModel$Run" cX26_isTaken 4 (Option.some Jvm.ClassFile.FieldType.boolean) "isTaken" []) {v0 : Option Nat} {v1 : Option Nat} {v2 : Int32} {w : wv_W} (hv : vc_X26_isTaken_0 G fr P v0 v1 v2 w) : wv_J G p e R s m args below meth c 4 P w 0 [(0, va_rf v0), (1, va_rf v1), (2, .int v2)] [] := by
  intro H locs cells slots ls S hl
  unfold vc_X26_isTaken_0 at hv
  refine wq_aload_n X dX26_isTaken_0 rfl (lv_at hl 0 rfl) ?_
  refine wq_gI X S hv ccX26 in_X26 (k := 3) (by decide) q2252 dX26_isTaken_1 (fun x1 hv => ?_)
  refine lv_if_eq (tgt := 24) X.hx X.hb dX26_isTaken_4 (by decide) (fun c4 => ?_) (fun c4 => ?_)
  · have hv := hv.1 c4
    refine lv_bipush (v := (109 : Int32)) X.hx X.hb dX26_isTaken_24 (by decide) ?_
    exact wk_X26_isTaken_26 X  hv H locs cells slots ls S (lv_sub hl [0, 1, 2] rfl)
  · have hv := hv.2 c4
    refine wq_aload_n X dX26_isTaken_7 rfl (lv_at hl 1 rfl) ?_
    refine wq_cV_I X S hv q2369 q2370 q2371 q115 ⟨by decide +kernel, by decide +kernel⟩ (nA := 0) (As := []) (by decide +kernel) rfl rfl (by simp [wv_rfc, wv_kI, wv_kJ, wv_kF, wv_kD]) hl.1 dX26_isTaken_8 (fun x8 w8 H locs cells slots S hv => ?_) (wq_kx X rfl)
    refine lv_iconst (v := (-1 : Int32)) X.hx X.hb dX26_isTaken_11 (by decide) ?_
    refine lv_icmp_eq (tgt := 24) X.hx X.hb dX26_isTaken_12 (by decide) (fun c12 => ?_) (fun c12 => ?_)
    · have hv := hv.1 c12
      refine lv_bipush (v := (109 : Int32)) X.hx X.hb dX26_isTaken_24 (by decide) ?_
      exact wk_X26_isTaken_26 X  hv H locs cells slots ls S (lv_sub hl [0, 1, 2] rfl)
    · have hv := hv.2 c12
      refine wq_aload_n X dX26_isTaken_15 rfl (lv_at hl 0 rfl) ?_
      refine wq_aload_n X dX26_isTaken_16 rfl (lv_at hl 1 rfl) ?_
      refine lv_iload_n X.hx X.hb dX26_isTaken_17 rfl (lv_at hl 2 rfl) ?_
      refine wq_cV_I X S hv q2373 q2374 q2375 q112 ⟨by decide +kernel, by decide +kernel⟩ (nA := 2) (As := [va_rf v1, .int v2]) (by decide +kernel) rfl rfl (by simp [wv_rfc, wv_kI, wv_kJ, wv_kF, wv_kD]) hl.1 dX26_isTaken_18 (fun x18 w18 H locs cells slots S hv => ?_) (wq_kx X rfl)
      refine lv_goto (tgt := 26) X.hx X.hb dX26_isTaken_21 (by decide) ?_
      exact wk_X26_isTaken_26 X  hv H locs cells slots ls S (lv_sub hl [0, 1, 2] rfl)
theorem wk_X26_isTaken {G : wv_G} (hG : wv_G0 G) {v0 : Option Nat} {v1 : Option Nat} {v2 : Int32} {h : wv_H} {fr kc ks : Nat} {P : wv_R → wv_H → Prop} (hv : vc_X26_isTaken_0 G fr P v0 v1 v2 (h, kc, ks)) : wv_C G yX26_isTaken [va_rf v0, va_rf v1, .int v2] h fr kc ks P := by
  refine wv_enter (lv := [(0, va_rf v0), (1, va_rf v1), (2, .int v2)]) hG (by decide +kernel) q2368 (by decide) (by simp [lg_sl, wv_rfc, wv_kI, wv_kJ, wv_kF, wv_kD]) (by simp [lv_args, wv_rfc, wv_kI, wv_kJ, wv_kF, wv_kD]) ?_
  intro p e R s m args below meth c X H locs cells slots ls S hl
  exact wk_X26_isTaken_0 X hv H locs cells slots ls S (lv_sub hl [0, 1, 2] rfl)

def vc_X26_point_176 (G : wv_G) (fr : Nat) (P : wv_R → wv_H → Prop) (v0 : Option Nat) (s0 : Option Nat) (w : wv_W) : Prop :=
  wv_gA w v0 ciX26 1 (fun x179 => wv_gA w v0 ciX26 1 (fun x183 => wv_cV G fr yJ2_size x183 [] w (wv_rI (fun x186 w186 => wv_cV G fr yJ2_remove x179 [.int (x186 - (1 : Int32))] w186 (wv_rA (fun x191 w191 => wv_at w191 s0 (wv_pr P)) (wv_pr P))) (wv_pr P))))
def vc_X26_point_94 (G : wv_G) (fr : Nat) (P : wv_R → wv_H → Prop) (K51 : ((Option Nat) × Int32 × Int32 × (Option Nat) × Int32 × Int32 × Int32 × Int32 × Int32 × Int32) → wv_W → Prop) (v0 : Option Nat) (v1 : Int32) (v2 : Int32) (v3 : Option Nat) (v4 : Int32) (v5 : Int32) (v6 : Int32) (v7 : Int32) (v9 : Int32) (s0 : Int32) (s1 : Int32) (w : wv_W) : Prop :=
  K51 (v0, v1, v2, v3, v4, v5, v6, v7, (s1 ||| s0), (v9 + (1 : Int32))) w
def vc_X26_point_51 (G : wv_G) (fr : Nat) (P : wv_R → wv_H → Prop) (K51 : ((Option Nat) × Int32 × Int32 × (Option Nat) × Int32 × Int32 × Int32 × Int32 × Int32 × Int32) → wv_W → Prop) (v0 : Option Nat) (v1 : Int32) (v2 : Int32) (v3 : Option Nat) (v4 : Int32) (v5 : Int32) (v6 : Int32) (v7 : Int32) (v8 : Int32) (v9 : Int32) (w : wv_W) : Prop :=
  wv_gA w v0 ciX26 4 (fun x54 => wv_gI w x54 ciX4 14 (fun x57 => (x57 ≤ v9 → wv_no G w (wo_o ciX29 [.int 0, .int 0, .int 0, .int 0, .int 0, .int 0, .int 0, .int 0]) 8 (fun a103 w103 => wv_gI w103 v3 ciX27 0 (fun x110 => wv_cI G fr yX29_init (some a103) [.int v1, .int v2, .int x110, .int v4, .int v5, .int v6, .int v7, .int v8] w103 (wv_rV (fun w123 => wv_gA w123 v0 ciX26 1 (fun x129 => wv_cV G fr yJ2_add x129 [va_rf (some a103)] w123 (wv_rI (fun x134 w134 => wv_cV G fr yX26_around v0 [va_rf (some a103)] w134 (wv_rA (fun x145 w145 => wv_cV G fr yX26_goes v0 [va_rf (some a103), va_rf v3, va_rf x145, .int (0 : Int32), .int v7] w145 (wv_rI (fun x151 w151 => wv_gA w151 v0 ciX26 1 (fun x157 => wv_gA w151 v0 ciX26 1 (fun x161 => wv_cV G fr yJ2_size x161 [] w151 (wv_rI (fun x164 w164 => wv_cV G fr yJ2_remove x157 [.int (x164 - (1 : Int32))] w164 (wv_rA (fun x169 w169 => P (.inl (some (.int x151))) w169.1) (wv_pr P))) (wv_pr P))))) (fun E q w => vc_X26_point_176 G fr P v0 (some q) w))) (fun E q w => vc_X26_point_176 G fr P v0 (some q) w))) (wv_pr P)))) (wv_pr P))))) ∧ (¬ x57 ≤ v9 → wv_gI w v3 ciX27 0 (fun x73 => wv_cV G fr yX26_holdsNow v0 [.int v9, .int v8, .int v1, .int v2, .int x73, .int v4, .int v7] w (wv_rI (fun x80 w80 => (x80 = 0 → vc_X26_point_94 G fr P K51 v0 v1 v2 v3 v4 v5 v6 v7 v9 (0 : Int32) v8 w80) ∧ (¬ x80 = 0 → vc_X26_point_94 G fr P K51 v0 v1 v2 v3 v4 v5 v6 v7 v9 ((1 : Int32) <<< (v9 &&& 31)) v8 w80)) (wv_pr P))))))
def vc_X26_point_24 (G : wv_G) (fr : Nat) (P : wv_R → wv_H → Prop) (w : wv_W) : Prop :=
  wv_no G w (wo_o ciX28 [va_rf none, va_rf none, va_rf none, va_rf none, va_rf none, .int 0]) 6 (fun a24 w24 => wv_cI G fr yX28_init (some a24) [] w24 (wv_rV (fun w28 => wv_at w28 (some a24) (wv_pr P)) (wv_pr P)))
def vc_X26_point_0 (G : wv_G) (fr : Nat) (P : wv_R → wv_H → Prop) (v0 : Option Nat) (v1 : Int32) (v2 : Int32) (v3 : Option Nat) (v4 : Int32) (v5 : Int32) (v6 : Int32) (v7 : Int32) (w : wv_W) : Prop :=
  wv_gA w v0 ciX26 0 (fun x1 => wv_gI w x1 ciX5 3 (fun x4 => (x4 = (120 : Int32) → vc_X26_point_24 G fr P w) ∧ (¬ x4 = (120 : Int32) → wv_gA w v0 ciX26 1 (fun x13 => wv_cV G fr yJ2_size x13 [] w (wv_rI (fun x16 w16 => (¬ x16 = (20 : Int32) → wv_gA w16 v0 ciX26 0 (fun x33 => wv_gI w16 x33 ciX5 3 (fun x37 => wv_pt w16 x33 ciX5 3 (.int (x37 + (1 : Int32))) (fun w42 => wv_L (fun K51 a w => vc_X26_point_51 G fr P K51 a.1 a.2.1 a.2.2.1 a.2.2.2.1 a.2.2.2.2.1 a.2.2.2.2.2.1 a.2.2.2.2.2.2.1 a.2.2.2.2.2.2.2.1 a.2.2.2.2.2.2.2.2.1 a.2.2.2.2.2.2.2.2.2 w) (v0, v1, v2, v3, v4, v5, v6, v7, (0 : Int32), (0 : Int32)) w42)))) ∧ (x16 = (20 : Int32) → vc_X26_point_24 G fr P w16)) (wv_pr P))))))
set_option maxHeartbeats 4000000 in
theorem wk_X26_point_176 {G : wv_G} {p : Program} {e : Env} {R : Room} {s : State} {m : MethodId} {args : Array Value} {below : List Frame} {meth : Method} {c : Code} {fr : Nat} {P : wv_R → wv_H → Prop} (X : wv_ok G p R s m args meth c fr "WeaversgateModel$Run" cX26_point 12 (Option.some Jvm.ClassFile.FieldType.int) "point" [(138, 156, 176, 0), (176, 178, 176, 0)]) {v0 : Option Nat} {s0 : Option Nat} {w : wv_W} (hv : vc_X26_point_176 G fr P v0 s0 w) : wv_J G p e R s m args below meth c 12 P w 176 [(0, va_rf v0)] [va_rf s0] := by
  intro H locs cells slots ls S hl
  unfold vc_X26_point_176 at hv
  refine wq_astore X (i := 11) (lv' := [(11, va_rf s0), (0, va_rf v0)]) dX26_point_176 hl (by decide) rfl (fun ls hl => ?_)
  refine wq_aload_n X dX26_point_178 rfl (lv_at hl 1 rfl) ?_
  refine wq_gA X S hv ccX26 in_X26 (k := 1) (by decide) q2250 dX26_point_179 (fun x179 hv => ?_)
  refine wq_aload_n X dX26_point_182 rfl (lv_at hl 1 rfl) ?_
  refine wq_gA X S hv ccX26 in_X26 (k := 1) (by decide) q2250 dX26_point_183 (fun x183 hv => ?_)
  refine wq_cV_I X S hv q2290 q270 q271 q63 ⟨by decide +kernel, by decide +kernel⟩ (nA := 0) (As := []) (by decide +kernel) rfl rfl (by simp [wv_rfc, wv_kI, wv_kJ, wv_kF, wv_kD]) hl.1 dX26_point_186 (fun x186 w186 H locs cells slots S hv => ?_) (wq_kx X rfl)
  refine lv_iconst (v := (1 : Int32)) X.hx X.hb dX26_point_189 (by decide) ?_
  refine lv_isub X.hx X.hb dX26_point_190 ?_
  refine wq_cV_A X S hv q2467 q2468 q2469 q63 ⟨by decide +kernel, by decide +kernel⟩ (nA := 1) (As := [.int (x186 - (1 : Int32))]) (by decide +kernel) rfl rfl (by simp [wv_rfc, wv_kI, wv_kJ, wv_kF, wv_kD]) hl.1 dX26_point_191 (fun x191 w191 H locs cells slots S hv => ?_) (wq_kx X rfl)
  refine lv_pop X.hx X.hb dX26_point_194 (wv_rfc _) ?_
  refine wq_aload X dX26_point_195 (lv_at hl 0 rfl) ?_
  exact wq_athrow X S hv dX26_point_197 (wq_kx X rfl)
set_option maxHeartbeats 4000000 in
theorem wk_X26_point_94 {G : wv_G} {p : Program} {e : Env} {R : Room} {s : State} {m : MethodId} {args : Array Value} {below : List Frame} {meth : Method} {c : Code} {fr : Nat} {P : wv_R → wv_H → Prop} (X : wv_ok G p R s m args meth c fr "WeaversgateModel$Run" cX26_point 12 (Option.some Jvm.ClassFile.FieldType.int) "point" [(138, 156, 176, 0), (176, 178, 176, 0)]) {K51 : ((Option Nat) × Int32 × Int32 × (Option Nat) × Int32 × Int32 × Int32 × Int32 × Int32 × Int32) → wv_W → Prop} (hK51 : ∀ a w, K51 a w → wv_J G p e R s m args below meth c 12 P w 51 [(0, va_rf a.1), (1, .int a.2.1), (2, .int a.2.2.1), (3, va_rf a.2.2.2.1), (4, .int a.2.2.2.2.1), (5, .int a.2.2.2.2.2.1), (6, .int a.2.2.2.2.2.2.1), (7, .int a.2.2.2.2.2.2.2.1), (8, .int a.2.2.2.2.2.2.2.2.1), (9, .int a.2.2.2.2.2.2.2.2.2)] []) {v0 : Option Nat} {v1 : Int32} {v2 : Int32} {v3 : Option Nat} {v4 : Int32} {v5 : Int32} {v6 : Int32} {v7 : Int32} {v9 : Int32} {s0 : Int32} {s1 : Int32} {w : wv_W} (hv : vc_X26_point_94 G fr P K51 v0 v1 v2 v3 v4 v5 v6 v7 v9 s0 s1 w) : wv_J G p e R s m args below meth c 12 P w 94 [(0, va_rf v0), (1, .int v1), (2, .int v2), (3, va_rf v3), (4, .int v4), (5, .int v5), (6, .int v6), (7, .int v7), (9, .int v9)] [.int s0, .int s1] := by
  intro H locs cells slots ls S hl
  unfold vc_X26_point_94 at hv
  refine lv_ior X.hx X.hb dX26_point_94 ?_
  refine lv_istore X.hx X.hb (i := 8) (lv' := [(8, .int (s1 ||| s0)), (0, va_rf v0), (1, .int v1), (2, .int v2), (3, va_rf v3), (4, .int v4), (5, .int v5), (6, .int v6), (7, .int v7), (9, .int v9)]) dX26_point_95 hl (by decide) (by simp [wv_rfc, wv_kI, wv_kJ, wv_kF, wv_kD]) (fun ls hl => ?_)
  refine lv_iinc (v := (v9 + (1 : Int32))) (lv' := [(9, .int (v9 + (1 : Int32))), (8, .int (s1 ||| s0)), (0, va_rf v0), (1, .int v1), (2, .int v2), (3, va_rf v3), (4, .int v4), (5, .int v5), (6, .int v6), (7, .int v7)]) X.hx X.hb dX26_point_97 hl (k := 9) rfl (by rfl) (by decide) (by simp [wv_rfc, wv_kI, wv_kJ, wv_kF, wv_kD]) (fun ls hl => ?_)
  refine lv_goto (tgt := 51) X.hx X.hb dX26_point_100 (by decide) ?_
  exact hK51 _ _ hv H locs cells slots ls S (lv_sub hl [2, 3, 4, 5, 6, 7, 8, 9, 1, 0] rfl)
set_option maxHeartbeats 4000000 in
theorem wk_X26_point_51 {G : wv_G} {p : Program} {e : Env} {R : Room} {s : State} {m : MethodId} {args : Array Value} {below : List Frame} {meth : Method} {c : Code} {fr : Nat} {P : wv_R → wv_H → Prop} (X : wv_ok G p R s m args meth c fr "WeaversgateModel$Run" cX26_point 12 (Option.some Jvm.ClassFile.FieldType.int) "point" [(138, 156, 176, 0), (176, 178, 176, 0)]) {K51 : ((Option Nat) × Int32 × Int32 × (Option Nat) × Int32 × Int32 × Int32 × Int32 × Int32 × Int32) → wv_W → Prop} (hK51 : ∀ a w, K51 a w → wv_J G p e R s m args below meth c 12 P w 51 [(0, va_rf a.1), (1, .int a.2.1), (2, .int a.2.2.1), (3, va_rf a.2.2.2.1), (4, .int a.2.2.2.2.1), (5, .int a.2.2.2.2.2.1), (6, .int a.2.2.2.2.2.2.1), (7, .int a.2.2.2.2.2.2.2.1), (8, .int a.2.2.2.2.2.2.2.2.1), (9, .int a.2.2.2.2.2.2.2.2.2)] []) {v0 : Option Nat} {v1 : Int32} {v2 : Int32} {v3 : Option Nat} {v4 : Int32} {v5 : Int32} {v6 : Int32} {v7 : Int32} {v8 : Int32} {v9 : Int32} {w : wv_W} (hv : vc_X26_point_51 G fr P K51 v0 v1 v2 v3 v4 v5 v6 v7 v8 v9 w) : wv_J G p e R s m args below meth c 12 P w 51 [(0, va_rf v0), (1, .int v1), (2, .int v2), (3, va_rf v3), (4, .int v4), (5, .int v5), (6, .int v6), (7, .int v7), (8, .int v8), (9, .int v9)] [] := by
  intro H locs cells slots ls S hl
  unfold vc_X26_point_51 at hv
  refine lv_iload X.hx X.hb dX26_point_51 (lv_at hl 9 rfl) ?_
  refine wq_aload_n X dX26_point_53 rfl (lv_at hl 0 rfl) ?_
  refine wq_gA X S hv ccX26 in_X26 (k := 4) (by decide) q2253 dX26_point_54 (fun x54 hv => ?_)
  refine wq_gIN X S hv ccX4 in_X4 (k := 14) (by decide) q1824 dX26_point_57 (fun x57 hv => ?_)
  refine lv_icmp_ge (tgt := 103) X.hx X.hb dX26_point_60 (by decide) (fun c60 => ?_) (fun c60 => ?_)
  · have hv := hv.1 c60
    refine wq_new X S hv tyX29 tyX29_ok ccX29 in_X29 q2323 q2328 q115 (fun j hj => by have hj : j < 8 := hj; rcases (show j = 0 ∨ j = 1 ∨ j = 2 ∨ j = 3 ∨ j = 4 ∨ j = 5 ∨ j = 6 ∨ j = 7 by omega) with rfl | rfl | rfl | rfl | rfl | rfl | rfl | rfl <;> rfl) dX26_point_103 (fun a103 w103 H cells slots S hv => ?_)
    refine lv_dup X.hx X.hb dX26_point_106 (wv_rfc _) ?_
    refine lv_iload_n X.hx X.hb dX26_point_107 rfl (lv_at hl 1 rfl) ?_
    refine lv_iload_n X.hx X.hb dX26_point_108 rfl (lv_at hl 2 rfl) ?_
    refine wq_aload_n X dX26_point_109 rfl (lv_at hl 3 rfl) ?_
    refine wq_gI X S hv ccX27 in_X27 (k := 0) (by decide) q2278 dX26_point_110 (fun x110 hv => ?_)
    refine lv_iload X.hx X.hb dX26_point_113 (lv_at hl 4 rfl) ?_
    refine lv_iload X.hx X.hb dX26_point_115 (lv_at hl 5 rfl) ?_
    refine lv_iload X.hx X.hb dX26_point_117 (lv_at hl 6 rfl) ?_
    refine lv_iload X.hx X.hb dX26_point_119 (lv_at hl 7 rfl) ?_
    refine lv_iload X.hx X.hb dX26_point_121 (lv_at hl 8 rfl) ?_
    refine wq_cIN_V X S hv rfl q2329 q2330 q2331 q115 ⟨by decide +kernel, by decide +kernel⟩ (nA := 8) (As := [.int v1, .int v2, .int x110, .int v4, .int v5, .int v6, .int v7, .int v8]) (by decide +kernel) rfl rfl (by simp [wv_rfc, wv_kI, wv_kJ, wv_kF, wv_kD]) hl.1 dX26_point_123 (fun w123 H locs cells slots S hv => ?_) (wq_kx X rfl)
    refine wq_astore X (i := 9) (lv' := [(9, va_rf (some a103)), (0, va_rf v0), (1, .int v1), (2, .int v2), (3, va_rf v3), (4, .int v4), (5, .int v5), (6, .int v6), (7, .int v7), (8, .int v8)]) dX26_point_126 hl (by decide) (by simp [wv_rfc, wv_kI, wv_kJ, wv_kF, wv_kD]) (fun ls hl => ?_)
    refine wq_aload_n X dX26_point_128 rfl (lv_at hl 1 rfl) ?_
    refine wq_gA X S hv ccX26 in_X26 (k := 1) (by decide) q2250 dX26_point_129 (fun x129 hv => ?_)
    refine wq_aload X dX26_point_132 (lv_at hl 0 rfl) ?_
    refine wq_cV_I X S hv q2358 q752 q753 q63 ⟨by decide +kernel, by decide +kernel⟩ (nA := 1) (As := [va_rf (some a103)]) (by decide +kernel) rfl rfl (by simp [wv_rfc, wv_kI, wv_kJ, wv_kF, wv_kD]) hl.1 dX26_point_134 (fun x134 w134 H locs cells slots S hv => ?_) (wq_kx X rfl)
    refine lv_pop X.hx X.hb dX26_point_137 rfl ?_
    refine wq_aload_n X dX26_point_138 rfl (lv_at hl 1 rfl) ?_
    refine wq_aload X dX26_point_139 (lv_at hl 0 rfl) ?_
    refine wq_aload_n X dX26_point_141 rfl (lv_at hl 4 rfl) ?_
    refine wq_aload_n X dX26_point_142 rfl (lv_at hl 1 rfl) ?_
    refine wq_aload X dX26_point_143 (lv_at hl 0 rfl) ?_
    refine wq_cV_A X S hv q2359 q2360 q2361 q112 ⟨by decide +kernel, by decide +kernel⟩ (nA := 1) (As := [va_rf (some a103)]) (by decide +kernel) rfl rfl (by simp [wv_rfc, wv_kI, wv_kJ, wv_kF, wv_kD]) hl.1 dX26_point_145 (fun x145 w145 H locs cells slots S hv => ?_) ?_
    · refine lv_iconst (v := (0 : Int32)) X.hx X.hb dX26_point_148 (by decide) ?_
      refine lv_iload X.hx X.hb dX26_point_149 (lv_at hl 8 rfl) ?_
      refine wq_cV_I X S hv q2398 q2399 q2400 q112 ⟨by decide +kernel, by decide +kernel⟩ (nA := 5) (As := [va_rf (some a103), va_rf v3, va_rf x145, .int (0 : Int32), .int v7]) (by decide +kernel) rfl rfl (by simp [wv_rfc, wv_kI, wv_kJ, wv_kF, wv_kD]) hl.1 dX26_point_151 (fun x151 w151 H locs cells slots S hv => ?_) ?_
      · refine lv_istore X.hx X.hb (i := 10) (lv' := [(10, .int x151), (9, va_rf (some a103)), (0, va_rf v0), (1, .int v1), (2, .int v2), (3, va_rf v3), (4, .int v4), (5, .int v5), (6, .int v6), (7, .int v7), (8, .int v8)]) dX26_point_154 hl (by decide) (by simp [wv_rfc, wv_kI, wv_kJ, wv_kF, wv_kD]) (fun ls hl => ?_)
        refine wq_aload_n X dX26_point_156 rfl (lv_at hl 2 rfl) ?_
        refine wq_gA X S hv ccX26 in_X26 (k := 1) (by decide) q2250 dX26_point_157 (fun x157 hv => ?_)
        refine wq_aload_n X dX26_point_160 rfl (lv_at hl 2 rfl) ?_
        refine wq_gA X S hv ccX26 in_X26 (k := 1) (by decide) q2250 dX26_point_161 (fun x161 hv => ?_)
        refine wq_cV_I X S hv q2290 q270 q271 q63 ⟨by decide +kernel, by decide +kernel⟩ (nA := 0) (As := []) (by decide +kernel) rfl rfl (by simp [wv_rfc, wv_kI, wv_kJ, wv_kF, wv_kD]) hl.1 dX26_point_164 (fun x164 w164 H locs cells slots S hv => ?_) (wq_kx X rfl)
        refine lv_iconst (v := (1 : Int32)) X.hx X.hb dX26_point_167 (by decide) ?_
        refine lv_isub X.hx X.hb dX26_point_168 ?_
        refine wq_cV_A X S hv q2467 q2468 q2469 q63 ⟨by decide +kernel, by decide +kernel⟩ (nA := 1) (As := [.int (x164 - (1 : Int32))]) (by decide +kernel) rfl rfl (by simp [wv_rfc, wv_kI, wv_kJ, wv_kF, wv_kD]) hl.1 dX26_point_169 (fun x169 w169 H locs cells slots S hv => ?_) (wq_kx X rfl)
        refine lv_pop X.hx X.hb dX26_point_172 (wv_rfc _) ?_
        refine lv_iload X.hx X.hb dX26_point_173 (lv_at hl 0 rfl) ?_
        exact wr_iret X S rfl hv dX26_point_175
      · intro E q w H locs cells slots S hv hth
        refine wr_catchAny X [] (138, 156, 176, 0) [(176, 178, 176, 0)] rfl (fun z hz => by cases hz) rfl rfl hth ?_
        exact wk_X26_point_176 X  hv H locs cells slots ls S (lv_sub hl [1] rfl)
    · intro E q w H locs cells slots S hv hth
      refine wr_catchAny X [] (138, 156, 176, 0) [(176, 178, 176, 0)] rfl (fun z hz => by cases hz) rfl rfl hth ?_
      exact wk_X26_point_176 X  hv H locs cells slots ls S (lv_sub hl [1] rfl)
  · have hv := hv.2 c60
    refine lv_iload X.hx X.hb dX26_point_63 (lv_at hl 8 rfl) ?_
    refine wq_aload_n X dX26_point_65 rfl (lv_at hl 0 rfl) ?_
    refine lv_iload X.hx X.hb dX26_point_66 (lv_at hl 9 rfl) ?_
    refine lv_iload X.hx X.hb dX26_point_68 (lv_at hl 8 rfl) ?_
    refine lv_iload_n X.hx X.hb dX26_point_70 rfl (lv_at hl 1 rfl) ?_
    refine lv_iload_n X.hx X.hb dX26_point_71 rfl (lv_at hl 2 rfl) ?_
    refine wq_aload_n X dX26_point_72 rfl (lv_at hl 3 rfl) ?_
    refine wq_gI X S hv ccX27 in_X27 (k := 0) (by decide) q2278 dX26_point_73 (fun x73 hv => ?_)
    refine lv_iload X.hx X.hb dX26_point_76 (lv_at hl 4 rfl) ?_
    refine lv_iload X.hx X.hb dX26_point_78 (lv_at hl 7 rfl) ?_
    refine wq_cV_I X S hv q2305 q2306 q2307 q112 ⟨by decide +kernel, by decide +kernel⟩ (nA := 7) (As := [.int v9, .int v8, .int v1, .int v2, .int x73, .int v4, .int v7]) (by decide +kernel) rfl rfl (by simp [wv_rfc, wv_kI, wv_kJ, wv_kF, wv_kD]) hl.1 dX26_point_80 (fun x80 w80 H locs cells slots S hv => ?_) (wq_kx X rfl)
    refine lv_if_eq (tgt := 93) X.hx X.hb dX26_point_83 (by decide) (fun c83 => ?_) (fun c83 => ?_)
    · have hv := hv.1 c83
      refine lv_iconst (v := (0 : Int32)) X.hx X.hb dX26_point_93 (by decide) ?_
      exact wk_X26_point_94 X hK51 hv H locs cells slots ls S (lv_sub hl [0, 1, 2, 3, 4, 5, 6, 7, 9] rfl)
    · have hv := hv.2 c83
      refine lv_iconst (v := (1 : Int32)) X.hx X.hb dX26_point_86 (by decide) ?_
      refine lv_iload X.hx X.hb dX26_point_87 (lv_at hl 9 rfl) ?_
      refine lv_ishl X.hx X.hb dX26_point_89 ?_
      refine lv_goto (tgt := 94) X.hx X.hb dX26_point_90 (by decide) ?_
      exact wk_X26_point_94 X hK51 hv H locs cells slots ls S (lv_sub hl [0, 1, 2, 3, 4, 5, 6, 7, 9] rfl)
set_option maxHeartbeats 4000000 in
theorem wk_X26_point_24 {G : wv_G} {p : Program} {e : Env} {R : Room} {s : State} {m : MethodId} {args : Array Value} {below : List Frame} {meth : Method} {c : Code} {fr : Nat} {P : wv_R → wv_H → Prop} (X : wv_ok G p R s m args meth c fr "WeaversgateModel$Run" cX26_point 12 (Option.some Jvm.ClassFile.FieldType.int) "point" [(138, 156, 176, 0), (176, 178, 176, 0)]) {w : wv_W} (hv : vc_X26_point_24 G fr P w) : wv_J G p e R s m args below meth c 12 P w 24 [] [] := by
  intro H locs cells slots ls S hl
  unfold vc_X26_point_24 at hv
  refine wq_new X S hv tyX28 tyX28_ok ccX28 in_X28 q2270 q2291 q114 (fun j hj => by have hj : j < 6 := hj; rcases (show j = 0 ∨ j = 1 ∨ j = 2 ∨ j = 3 ∨ j = 4 ∨ j = 5 by omega) with rfl | rfl | rfl | rfl | rfl | rfl <;> rfl) dX26_point_24 (fun a24 w24 H cells slots S hv => ?_)
  refine lv_dup X.hx X.hb dX26_point_27 (wv_rfc _) ?_
  refine wq_cIN_V X S hv rfl q2299 q2300 q2301 q114 ⟨by decide +kernel, by decide +kernel⟩ (nA := 0) (As := []) (by decide +kernel) rfl rfl (by simp [wv_rfc, wv_kI, wv_kJ, wv_kF, wv_kD]) hl.1 dX26_point_28 (fun w28 H locs cells slots S hv => ?_) (wq_kx X rfl)
  exact wq_athrow X S hv dX26_point_31 (wq_kx X rfl)
set_option maxHeartbeats 4000000 in
theorem wk_X26_point_0 {G : wv_G} {p : Program} {e : Env} {R : Room} {s : State} {m : MethodId} {args : Array Value} {below : List Frame} {meth : Method} {c : Code} {fr : Nat} {P : wv_R → wv_H → Prop} (X : wv_ok G p R s m args meth c fr "WeaversgateModel$Run" cX26_point 12 (Option.some Jvm.ClassFile.FieldType.int) "point" [(138, 156, 176, 0), (176, 178, 176, 0)]) {v0 : Option Nat} {v1 : Int32} {v2 : Int32} {v3 : Option Nat} {v4 : Int32} {v5 : Int32} {v6 : Int32} {v7 : Int32} {w : wv_W} (hv : vc_X26_point_0 G fr P v0 v1 v2 v3 v4 v5 v6 v7 w) : wv_J G p e R s m args below meth c 12 P w 0 [(0, va_rf v0), (1, .int v1), (2, .int v2), (3, va_rf v3), (4, .int v4), (5, .int v5), (6, .int v6), (7, .int v7)] [] := by
  intro H locs cells slots ls S hl
  unfold vc_X26_point_0 at hv
  refine wq_aload_n X dX26_point_0 rfl (lv_at hl 0 rfl) ?_
  refine wq_gA X S hv ccX26 in_X26 (k := 0) (by decide) q2249 dX26_point_1 (fun x1 hv => ?_)
  refine wq_gI X S hv ccX5 in_X5 (k := 3) (by decide) q1784 dX26_point_4 (fun x4 hv => ?_)
  refine lv_bipush (v := (120 : Int32)) X.hx X.hb dX26_point_7 (by decide) ?_
  refine lv_icmp_eq (tgt := 24) X.hx X.hb dX26_point_9 (by decide) (fun c9 => ?_) (fun c9 => ?_)
  · have hv := hv.1 c9
    exact wk_X26_point_24 X  hv H locs cells slots ls S (lv_sub hl [] rfl)
  · have hv := hv.2 c9
    refine wq_aload_n X dX26_point_12 rfl (lv_at hl 0 rfl) ?_
    refine wq_gA X S hv ccX26 in_X26 (k := 1) (by decide) q2250 dX26_point_13 (fun x13 hv => ?_)
    refine wq_cV_I X S hv q2290 q270 q271 q63 ⟨by decide +kernel, by decide +kernel⟩ (nA := 0) (As := []) (by decide +kernel) rfl rfl (by simp [wv_rfc, wv_kI, wv_kJ, wv_kF, wv_kD]) hl.1 dX26_point_16 (fun x16 w16 H locs cells slots S hv => ?_) (wq_kx X rfl)
    refine lv_bipush (v := (20 : Int32)) X.hx X.hb dX26_point_19 (by decide) ?_
    refine lv_icmp_ne (tgt := 32) X.hx X.hb dX26_point_21 (by decide) (fun c21 => ?_) (fun c21 => ?_)
    · have hv := hv.1 c21
      refine wq_aload_n X dX26_point_32 rfl (lv_at hl 0 rfl) ?_
      refine wq_gA X S hv ccX26 in_X26 (k := 0) (by decide) q2249 dX26_point_33 (fun x33 hv => ?_)
      refine lv_dup X.hx X.hb dX26_point_36 (wv_rfc _) ?_
      refine wq_gI X S hv ccX5 in_X5 (k := 3) (by decide) q1784 dX26_point_37 (fun x37 hv => ?_)
      refine lv_iconst (v := (1 : Int32)) X.hx X.hb dX26_point_40 (by decide) ?_
      refine lv_iadd X.hx X.hb dX26_point_41 ?_
      refine wq_pt X S hv tyX5 tyX5_ok nmX5 ccX5 in_X5 (k := 3) (by decide) q1784 rfl rfl rfl rfl dX26_point_42 (fun w42 H locs S hv => ?_)
      refine lv_iconst (v := (0 : Int32)) X.hx X.hb dX26_point_45 (by decide) ?_
      refine lv_istore X.hx X.hb (i := 8) (lv' := [(8, .int (0 : Int32)), (0, va_rf v0), (1, .int v1), (2, .int v2), (3, va_rf v3), (4, .int v4), (5, .int v5), (6, .int v6), (7, .int v7)]) dX26_point_46 hl (by decide) (by simp [wv_rfc, wv_kI, wv_kJ, wv_kF, wv_kD]) (fun ls hl => ?_)
      refine lv_iconst (v := (0 : Int32)) X.hx X.hb dX26_point_48 (by decide) ?_
      refine lv_istore X.hx X.hb (i := 9) (lv' := [(9, .int (0 : Int32)), (8, .int (0 : Int32)), (0, va_rf v0), (1, .int v1), (2, .int v2), (3, va_rf v3), (4, .int v4), (5, .int v5), (6, .int v6), (7, .int v7)]) dX26_point_49 hl (by decide) (by simp [wv_rfc, wv_kI, wv_kJ, wv_kF, wv_kD]) (fun ls hl => ?_)
      exact wv_loop (A := (Option Nat) × Int32 × Int32 × (Option Nat) × Int32 × Int32 × Int32 × Int32 × Int32 × Int32) (fun a w => wv_J G p e R s m args below meth c 12 P w 51 [(0, va_rf a.1), (1, .int a.2.1), (2, .int a.2.2.1), (3, va_rf a.2.2.2.1), (4, .int a.2.2.2.2.1), (5, .int a.2.2.2.2.2.1), (6, .int a.2.2.2.2.2.2.1), (7, .int a.2.2.2.2.2.2.2.1), (8, .int a.2.2.2.2.2.2.2.2.1), (9, .int a.2.2.2.2.2.2.2.2.2)] []) (fun K51 hK51 a w hv => wk_X26_point_51 X hK51 hv) hv H locs cells slots ls S (lv_sub hl [2, 3, 4, 5, 6, 7, 8, 9, 1, 0] rfl)
    · have hv := hv.2 c21
      exact wk_X26_point_24 X  hv H locs cells slots ls S (lv_sub hl [] rfl)
theorem wk_X26_point {G : wv_G} (hG : wv_G0 G) {v0 : Option Nat} {v1 : Int32} {v2 : Int32} {v3 : Option Nat} {v4 : Int32} {v5 : Int32} {v6 : Int32} {v7 : Int32} {h : wv_H} {fr kc ks : Nat} {P : wv_R → wv_H → Prop} (hv : vc_X26_point_0 G fr P v0 v1 v2 v3 v4 v5 v6 v7 (h, kc, ks)) : wv_C G yX26_point [va_rf v0, .int v1, .int v2, va_rf v3, .int v4, .int v5, .int v6, .int v7] h fr kc ks P := by
  refine wv_enterW (lv := [(0, va_rf v0), (1, .int v1), (2, .int v2), (3, va_rf v3), (4, .int v4), (5, .int v5), (6, .int v6), (7, .int v7)]) hG (by decide +kernel) q2289 (by decide) (by simp [lg_sl, wv_rfc, wv_kI, wv_kJ, wv_kF, wv_kD]) (by simp [lv_args, wv_rfc, wv_kI, wv_kJ, wv_kF, wv_kD]) ?_
  intro p e R s m args below meth c X H locs cells slots ls S hl
  exact wk_X26_point_0 X hv H locs cells slots ls S (lv_sub hl [0, 1, 2, 3, 4, 5, 6, 7] rfl)

def vc_X26_replaces_29 (G : wv_G) (fr : Nat) (P : wv_R → wv_H → Prop) (K29 : ((Option Nat) × (Option Nat) × (Option Nat) × (Option Nat) × Int32 × Int32 × Int32 × Int32) → wv_W → Prop) (v0 : Option Nat) (v1 : Option Nat) (v2 : Option Nat) (v3 : Option Nat) (v4 : Int32) (v6 : Int32) (v7 : Int32) (v8 : Int32) (w : wv_W) : Prop :=
  wv_gA w v0 ciX26 4 (fun x32 => wv_gA w x32 ciX4 7 (fun x35 => wv_li G 0 w x35 v6 (fun x40 => (x40 ≤ v8 → P (.inl (some (.int v7))) w.1) ∧ (¬ x40 ≤ v8 → wv_gA w v0 ciX26 4 (fun x55 => wv_gA w x55 ciX4 6 (fun x58 => wv_li G 0 w x58 v6 (fun x63 => wv_cV G fr yX26_goes v0 [va_rf v1, va_rf v2, va_rf v3, .int (v4 + (1 : Int32)), .int (v7 + x63)] w (wv_rI (fun x65 w65 => K29 (v0, v1, v2, v3, v4, v6, x65, (v8 + (1 : Int32))) w65) (wv_pr P)))))))))
def vc_X26_replaces_0 (G : wv_G) (fr : Nat) (P : wv_R → wv_H → Prop) (v0 : Option Nat) (v1 : Option Nat) (v2 : Option Nat) (v3 : Option Nat) (v4 : Int32) (v5 : Int32) (w : wv_W) : Prop :=
  wv_cV G fr yJ2_get v3 [.int v4] w (wv_rA (fun x3 w3 => wv_cc G w3 x3 "java/lang/Integer" (wv_cV G fr yJ20_intValue x3 [] w3 (wv_rI (fun x9 w9 => wv_cV G fr yX26_acts v0 [.int x9, .int v5] w9 (wv_rV (fun w19 => wv_L (fun K29 a w => vc_X26_replaces_29 G fr P K29 a.1 a.2.1 a.2.2.1 a.2.2.2.1 a.2.2.2.2.1 a.2.2.2.2.2.1 a.2.2.2.2.2.2.1 a.2.2.2.2.2.2.2 w) (v0, v1, v2, v3, v4, x9, v5, (0 : Int32)) w19) (wv_pr P))) (wv_pr P)))) (wv_pr P))
set_option maxHeartbeats 4000000 in
theorem wk_X26_replaces_29 {G : wv_G} {p : Program} {e : Env} {R : Room} {s : State} {m : MethodId} {args : Array Value} {below : List Frame} {meth : Method} {c : Code} {fr : Nat} {P : wv_R → wv_H → Prop} (X : wv_ok G p R s m args meth c fr "WeaversgateModel$Run" cX26_replaces 9 (Option.some Jvm.ClassFile.FieldType.int) "replaces" []) {K29 : ((Option Nat) × (Option Nat) × (Option Nat) × (Option Nat) × Int32 × Int32 × Int32 × Int32) → wv_W → Prop} (hK29 : ∀ a w, K29 a w → wv_J G p e R s m args below meth c 9 P w 29 [(0, va_rf a.1), (1, va_rf a.2.1), (2, va_rf a.2.2.1), (3, va_rf a.2.2.2.1), (4, .int a.2.2.2.2.1), (6, .int a.2.2.2.2.2.1), (7, .int a.2.2.2.2.2.2.1), (8, .int a.2.2.2.2.2.2.2)] []) {v0 : Option Nat} {v1 : Option Nat} {v2 : Option Nat} {v3 : Option Nat} {v4 : Int32} {v6 : Int32} {v7 : Int32} {v8 : Int32} {w : wv_W} (hv : vc_X26_replaces_29 G fr P K29 v0 v1 v2 v3 v4 v6 v7 v8 w) : wv_J G p e R s m args below meth c 9 P w 29 [(0, va_rf v0), (1, va_rf v1), (2, va_rf v2), (3, va_rf v3), (4, .int v4), (6, .int v6), (7, .int v7), (8, .int v8)] [] := by
  intro H locs cells slots ls S hl
  unfold vc_X26_replaces_29 at hv
  refine lv_iload X.hx X.hb dX26_replaces_29 (lv_at hl 7 rfl) ?_
  refine wq_aload_n X dX26_replaces_31 rfl (lv_at hl 0 rfl) ?_
  refine wq_gA X S hv ccX26 in_X26 (k := 4) (by decide) q2253 dX26_replaces_32 (fun x32 hv => ?_)
  refine wq_gAN X S hv ccX4 in_X4 (k := 7) (by decide) q1813 dX26_replaces_35 (fun x35 hv => ?_)
  refine lv_iload X.hx X.hb dX26_replaces_38 (lv_at hl 5 rfl) ?_
  refine wq_li0 X S hv dX26_replaces_40 (fun x40 hv => ?_)
  refine lv_icmp_ge (tgt := 76) X.hx X.hb dX26_replaces_41 (by decide) (fun c41 => ?_) (fun c41 => ?_)
  · have hv := hv.1 c41
    refine lv_iload X.hx X.hb dX26_replaces_76 (lv_at hl 6 rfl) ?_
    exact wr_iret X S rfl hv dX26_replaces_78
  · have hv := hv.2 c41
    refine wq_aload_n X dX26_replaces_44 rfl (lv_at hl 0 rfl) ?_
    refine wq_aload_n X dX26_replaces_45 rfl (lv_at hl 1 rfl) ?_
    refine wq_aload_n X dX26_replaces_46 rfl (lv_at hl 2 rfl) ?_
    refine wq_aload_n X dX26_replaces_47 rfl (lv_at hl 3 rfl) ?_
    refine lv_iload X.hx X.hb dX26_replaces_48 (lv_at hl 4 rfl) ?_
    refine lv_iconst (v := (1 : Int32)) X.hx X.hb dX26_replaces_50 (by decide) ?_
    refine lv_iadd X.hx X.hb dX26_replaces_51 ?_
    refine lv_iload X.hx X.hb dX26_replaces_52 (lv_at hl 6 rfl) ?_
    refine wq_aload_n X dX26_replaces_54 rfl (lv_at hl 0 rfl) ?_
    refine wq_gA X S hv ccX26 in_X26 (k := 4) (by decide) q2253 dX26_replaces_55 (fun x55 hv => ?_)
    refine wq_gAN X S hv ccX4 in_X4 (k := 6) (by decide) q1811 dX26_replaces_58 (fun x58 hv => ?_)
    refine lv_iload X.hx X.hb dX26_replaces_61 (lv_at hl 5 rfl) ?_
    refine wq_li0 X S hv dX26_replaces_63 (fun x63 hv => ?_)
    refine lv_iadd X.hx X.hb dX26_replaces_64 ?_
    refine wq_cV_I X S hv q2398 q2399 q2400 q112 ⟨by decide +kernel, by decide +kernel⟩ (nA := 5) (As := [va_rf v1, va_rf v2, va_rf v3, .int (v4 + (1 : Int32)), .int (v7 + x63)]) (by decide +kernel) rfl rfl (by simp [wv_rfc, wv_kI, wv_kJ, wv_kF, wv_kD]) hl.1 dX26_replaces_65 (fun x65 w65 H locs cells slots S hv => ?_) (wq_kx X rfl)
    refine lv_istore X.hx X.hb (i := 7) (lv' := [(7, .int x65), (0, va_rf v0), (1, va_rf v1), (2, va_rf v2), (3, va_rf v3), (4, .int v4), (6, .int v6), (8, .int v8)]) dX26_replaces_68 hl (by decide) (by simp [wv_rfc, wv_kI, wv_kJ, wv_kF, wv_kD]) (fun ls hl => ?_)
    refine lv_iinc (v := (v8 + (1 : Int32))) (lv' := [(8, .int (v8 + (1 : Int32))), (7, .int x65), (0, va_rf v0), (1, va_rf v1), (2, va_rf v2), (3, va_rf v3), (4, .int v4), (6, .int v6)]) X.hx X.hb dX26_replaces_70 hl (k := 7) rfl (by rfl) (by decide) (by simp [wv_rfc, wv_kI, wv_kJ, wv_kF, wv_kD]) (fun ls hl => ?_)
    refine lv_goto (tgt := 29) X.hx X.hb dX26_replaces_73 (by decide) ?_
    exact hK29 _ _ hv H locs cells slots ls S (lv_sub hl [2, 3, 4, 5, 6, 7, 1, 0] rfl)
set_option maxHeartbeats 4000000 in
theorem wk_X26_replaces_0 {G : wv_G} {p : Program} {e : Env} {R : Room} {s : State} {m : MethodId} {args : Array Value} {below : List Frame} {meth : Method} {c : Code} {fr : Nat} {P : wv_R → wv_H → Prop} (X : wv_ok G p R s m args meth c fr "WeaversgateModel$Run" cX26_replaces 9 (Option.some Jvm.ClassFile.FieldType.int) "replaces" []) {v0 : Option Nat} {v1 : Option Nat} {v2 : Option Nat} {v3 : Option Nat} {v4 : Int32} {v5 : Int32} {w : wv_W} (hv : vc_X26_replaces_0 G fr P v0 v1 v2 v3 v4 v5 w) : wv_J G p e R s m args below meth c 9 P w 0 [(0, va_rf v0), (1, va_rf v1), (2, va_rf v2), (3, va_rf v3), (4, .int v4), (5, .int v5)] [] := by
  intro H locs cells slots ls S hl
  unfold vc_X26_replaces_0 at hv
  refine wq_aload_n X dX26_replaces_0 rfl (lv_at hl 3 rfl) ?_
  refine lv_iload X.hx X.hb dX26_replaces_1 (lv_at hl 4 rfl) ?_
  refine wq_cV_A X S hv q2442 q274 q275 q63 ⟨by decide +kernel, by decide +kernel⟩ (nA := 1) (As := [.int v4]) (by decide +kernel) rfl rfl (by simp [wv_rfc, wv_kI, wv_kJ, wv_kF, wv_kD]) hl.1 dX26_replaces_3 (fun x3 w3 H locs cells slots S hv => ?_) (wq_kx X rfl)
  refine wq_cc X S hv q2363 dX26_replaces_6 (fun hv => ?_)
  refine wq_cV_I X S hv q2364 q2078 q2079 q100 ⟨by decide +kernel, by decide +kernel⟩ (nA := 0) (As := []) (by decide +kernel) rfl rfl (by simp [wv_rfc, wv_kI, wv_kJ, wv_kF, wv_kD]) hl.1 dX26_replaces_9 (fun x9 w9 H locs cells slots S hv => ?_) (wq_kx X rfl)
  refine lv_istore X.hx X.hb (i := 6) (lv' := [(6, .int x9), (0, va_rf v0), (1, va_rf v1), (2, va_rf v2), (3, va_rf v3), (4, .int v4), (5, .int v5)]) dX26_replaces_12 hl (by decide) (by simp [wv_rfc, wv_kI, wv_kJ, wv_kF, wv_kD]) (fun ls hl => ?_)
  refine wq_aload_n X dX26_replaces_14 rfl (lv_at hl 1 rfl) ?_
  refine lv_iload X.hx X.hb dX26_replaces_15 (lv_at hl 0 rfl) ?_
  refine lv_iload X.hx X.hb dX26_replaces_17 (lv_at hl 6 rfl) ?_
  refine wq_cV_V X S hv q2447 q2448 q2449 q112 ⟨by decide +kernel, by decide +kernel⟩ (nA := 2) (As := [.int x9, .int v5]) (by decide +kernel) rfl rfl (by simp [wv_rfc, wv_kI, wv_kJ, wv_kF, wv_kD]) hl.1 dX26_replaces_19 (fun w19 H locs cells slots S hv => ?_) (wq_kx X rfl)
  refine lv_iload X.hx X.hb dX26_replaces_22 (lv_at hl 6 rfl) ?_
  refine lv_istore X.hx X.hb (i := 7) (lv' := [(7, .int v5), (6, .int x9), (0, va_rf v0), (1, va_rf v1), (2, va_rf v2), (3, va_rf v3), (4, .int v4), (5, .int v5)]) dX26_replaces_24 hl (by decide) (by simp [wv_rfc, wv_kI, wv_kJ, wv_kF, wv_kD]) (fun ls hl => ?_)
  refine lv_iconst (v := (0 : Int32)) X.hx X.hb dX26_replaces_26 (by decide) ?_
  refine lv_istore X.hx X.hb (i := 8) (lv' := [(8, .int (0 : Int32)), (7, .int v5), (6, .int x9), (0, va_rf v0), (1, va_rf v1), (2, va_rf v2), (3, va_rf v3), (4, .int v4), (5, .int v5)]) dX26_replaces_27 hl (by decide) (by simp [wv_rfc, wv_kI, wv_kJ, wv_kF, wv_kD]) (fun ls hl => ?_)
  exact wv_loop (A := (Option Nat) × (Option Nat) × (Option Nat) × (Option Nat) × Int32 × Int32 × Int32 × Int32) (fun a w => wv_J G p e R s m args below meth c 9 P w 29 [(0, va_rf a.1), (1, va_rf a.2.1), (2, va_rf a.2.2.1), (3, va_rf a.2.2.2.1), (4, .int a.2.2.2.2.1), (6, .int a.2.2.2.2.2.1), (7, .int a.2.2.2.2.2.2.1), (8, .int a.2.2.2.2.2.2.2)] []) (fun K29 hK29 a w hv => wk_X26_replaces_29 X hK29 hv) hv H locs cells slots ls S (lv_sub hl [3, 4, 5, 6, 7, 2, 1, 0] rfl)
theorem wk_X26_replaces {G : wv_G} (hG : wv_G0 G) {v0 : Option Nat} {v1 : Option Nat} {v2 : Option Nat} {v3 : Option Nat} {v4 : Int32} {v5 : Int32} {h : wv_H} {fr kc ks : Nat} {P : wv_R → wv_H → Prop} (hv : vc_X26_replaces_0 G fr P v0 v1 v2 v3 v4 v5 (h, kc, ks)) : wv_C G yX26_replaces [va_rf v0, va_rf v1, va_rf v2, va_rf v3, .int v4, .int v5] h fr kc ks P := by
  refine wv_enter (lv := [(0, va_rf v0), (1, va_rf v1), (2, va_rf v2), (3, va_rf v3), (4, .int v4), (5, .int v5)]) hG (by decide +kernel) q2446 (by decide) (by simp [lg_sl, wv_rfc, wv_kI, wv_kJ, wv_kF, wv_kD]) (by simp [lv_args, wv_rfc, wv_kI, wv_kJ, wv_kF, wv_kD]) ?_
  intro p e R s m args below meth c X H locs cells slots ls S hl
  exact wk_X26_replaces_0 X hv H locs cells slots ls S (lv_sub hl [0, 1, 2, 3, 4, 5] rfl)

def vc_X26_runs_75 (G : wv_G) (fr : Nat) (P : wv_R → wv_H → Prop) (v0 : Option Nat) (w : wv_W) : Prop :=
  wv_gA w v0 ciX26 0 (fun x76 => P (.inl (some (va_rf x76))) w.1)
def vc_X26_runs_64 (G : wv_G) (fr : Nat) (P : wv_R → wv_H → Prop) (v0 : Option Nat) (s0 : Option Nat) (w : wv_W) : Prop :=
  wv_gA w v0 ciX26 0 (fun x67 => wv_fit .char (108 : Int32) ∧ wv_pt w x67 ciX5 1 (.int (108 : Int32)) (fun w72 => vc_X26_runs_75 G fr P v0 w72))
def vc_X26_runs_38 (G : wv_G) (fr : Nat) (P : wv_R → wv_H → Prop) (v0 : Option Nat) (s0 : Option Nat) (w : wv_W) : Prop :=
  wv_gA w v0 ciX26 0 (fun x41 => wv_gI w s0 ciX30 6 (fun x46 => wv_pt w x41 ciX5 2 (.int x46) (fun w49 => wv_gA w49 v0 ciX26 0 (fun x53 => wv_fit .char (120 : Int32) ∧ wv_pt w49 x53 ciX5 1 (.int (120 : Int32)) (fun w58 => vc_X26_runs_75 G fr P v0 w58)))))
def vc_X26_runs_0 (G : wv_G) (fr : Nat) (P : wv_R → wv_H → Prop) (v0 : Option Nat) (v1 : Int32) (v2 : Int32) (v3 : Int32) (w : wv_W) : Prop :=
  wv_gA w v0 ciX26 0 (fun x1 => wv_no G w (wo_o ciX27 [.int 0, va_rf none]) 2 (fun a8 w8 => wv_cI G fr yX27_init (some a8) [.int v1] w8 (wv_rV (fun w13 => wv_cV G fr yX26_point v0 [.int (99 : Int32), .int v2, va_rf (some a8), .int (-1 : Int32), .int (-1 : Int32), .int (-1 : Int32), .int v3] w13 (wv_rI (fun x20 w20 => wv_pt w20 x1 ciX5 2 (.int x20) (fun w23 => wv_gA w23 v0 ciX26 0 (fun x27 => wv_fit .char (114 : Int32) ∧ wv_pt w23 x27 ciX5 1 (.int (114 : Int32)) (fun w32 => vc_X26_runs_75 G fr P v0 w32)))) (fun E q w => (E = "WeaversgateModel$Raised" → vc_X26_runs_38 G fr P v0 (some q) w) ∧ (¬ E = "WeaversgateModel$Raised" → (va_Nc E "WeaversgateModel$Raised" G.2.1 ∧ (E = "WeaversgateModel$GivenUp" → vc_X26_runs_64 G fr P v0 (some q) w) ∧ (¬ E = "WeaversgateModel$GivenUp" → (va_Nc E "WeaversgateModel$GivenUp" G.2.1 ∧ P (.inr (E, q)) w.1))))))) (fun E q w => (E = "WeaversgateModel$Raised" → vc_X26_runs_38 G fr P v0 (some q) w) ∧ (¬ E = "WeaversgateModel$Raised" → (va_Nc E "WeaversgateModel$Raised" G.2.1 ∧ (E = "WeaversgateModel$GivenUp" → vc_X26_runs_64 G fr P v0 (some q) w) ∧ (¬ E = "WeaversgateModel$GivenUp" → (va_Nc E "WeaversgateModel$GivenUp" G.2.1 ∧ P (.inr (E, q)) w.1))))))))
set_option maxHeartbeats 4000000 in
theorem wk_X26_runs_75 {G : wv_G} {p : Program} {e : Env} {R : Room} {s : State} {m : MethodId} {args : Array Value} {below : List Frame} {meth : Method} {c : Code} {fr : Nat} {P : wv_R → wv_H → Prop} (X : wv_ok G p R s m args meth c fr "WeaversgateModel$Run" cX26_runs 5 (Option.some (Jvm.ClassFile.FieldType.object "WeaversgateModel$Result")) "runs" [(0, 35, 38, 205), (0, 35, 64, 150)]) {v0 : Option Nat} {w : wv_W} (hv : vc_X26_runs_75 G fr P v0 w) : wv_J G p e R s m args below meth c 5 P w 75 [(0, va_rf v0)] [] := by
  intro H locs cells slots ls S hl
  unfold vc_X26_runs_75 at hv
  refine wq_aload_n X dX26_runs_75 rfl (lv_at hl 0 rfl) ?_
  refine wq_gA X S hv ccX26 in_X26 (k := 0) (by decide) q2249 dX26_runs_76 (fun x76 hv => ?_)
  exact wr_aret X S (Or.inl ⟨_, rfl⟩) hv dX26_runs_79
set_option maxHeartbeats 4000000 in
theorem wk_X26_runs_64 {G : wv_G} {p : Program} {e : Env} {R : Room} {s : State} {m : MethodId} {args : Array Value} {below : List Frame} {meth : Method} {c : Code} {fr : Nat} {P : wv_R → wv_H → Prop} (X : wv_ok G p R s m args meth c fr "WeaversgateModel$Run" cX26_runs 5 (Option.some (Jvm.ClassFile.FieldType.object "WeaversgateModel$Result")) "runs" [(0, 35, 38, 205), (0, 35, 64, 150)]) {v0 : Option Nat} {s0 : Option Nat} {w : wv_W} (hv : vc_X26_runs_64 G fr P v0 s0 w) : wv_J G p e R s m args below meth c 5 P w 64 [(0, va_rf v0)] [va_rf s0] := by
  intro H locs cells slots ls S hl
  unfold vc_X26_runs_64 at hv
  refine wq_astore X (i := 4) (lv' := [(4, va_rf s0), (0, va_rf v0)]) dX26_runs_64 hl (by decide) rfl (fun ls hl => ?_)
  refine wq_aload_n X dX26_runs_66 rfl (lv_at hl 1 rfl) ?_
  refine wq_gA X S hv ccX26 in_X26 (k := 0) (by decide) q2249 dX26_runs_67 (fun x67 hv => ?_)
  refine lv_bipush (v := (108 : Int32)) X.hx X.hb dX26_runs_70 (by decide) ?_
  have hv72 := hv.1
  have hv := hv.2
  refine wq_pt X S hv tyX5 tyX5_ok nmX5 ccX5 in_X5 (k := 1) (by decide) q1778 rfl rfl hv72.1 hv72.2 dX26_runs_72 (fun w72 H locs S hv => ?_)
  exact wk_X26_runs_75 X  hv H locs cells slots ls S (lv_sub hl [1] rfl)
set_option maxHeartbeats 4000000 in
theorem wk_X26_runs_38 {G : wv_G} {p : Program} {e : Env} {R : Room} {s : State} {m : MethodId} {args : Array Value} {below : List Frame} {meth : Method} {c : Code} {fr : Nat} {P : wv_R → wv_H → Prop} (X : wv_ok G p R s m args meth c fr "WeaversgateModel$Run" cX26_runs 5 (Option.some (Jvm.ClassFile.FieldType.object "WeaversgateModel$Result")) "runs" [(0, 35, 38, 205), (0, 35, 64, 150)]) {v0 : Option Nat} {s0 : Option Nat} {w : wv_W} (hv : vc_X26_runs_38 G fr P v0 s0 w) : wv_J G p e R s m args below meth c 5 P w 38 [(0, va_rf v0)] [va_rf s0] := by
  intro H locs cells slots ls S hl
  unfold vc_X26_runs_38 at hv
  refine wq_astore X (i := 4) (lv' := [(4, va_rf s0), (0, va_rf v0)]) dX26_runs_38 hl (by decide) rfl (fun ls hl => ?_)
  refine wq_aload_n X dX26_runs_40 rfl (lv_at hl 1 rfl) ?_
  refine wq_gA X S hv ccX26 in_X26 (k := 0) (by decide) q2249 dX26_runs_41 (fun x41 hv => ?_)
  refine wq_aload X dX26_runs_44 (lv_at hl 0 rfl) ?_
  refine wq_gI X S hv ccX30 in_X30 (k := 6) (by decide) q2424 dX26_runs_46 (fun x46 hv => ?_)
  refine wq_pt X S hv tyX5 tyX5_ok nmX5 ccX5 in_X5 (k := 2) (by decide) q1781 rfl rfl rfl rfl dX26_runs_49 (fun w49 H locs S hv => ?_)
  refine wq_aload_n X dX26_runs_52 rfl (lv_at hl 1 rfl) ?_
  refine wq_gA X S hv ccX26 in_X26 (k := 0) (by decide) q2249 dX26_runs_53 (fun x53 hv => ?_)
  refine lv_bipush (v := (120 : Int32)) X.hx X.hb dX26_runs_56 (by decide) ?_
  have hv58 := hv.1
  have hv := hv.2
  refine wq_pt X S hv tyX5 tyX5_ok nmX5 ccX5 in_X5 (k := 1) (by decide) q1778 rfl rfl hv58.1 hv58.2 dX26_runs_58 (fun w58 H locs S hv => ?_)
  refine lv_goto (tgt := 75) X.hx X.hb dX26_runs_61 (by decide) ?_
  exact wk_X26_runs_75 X  hv H locs cells slots ls S (lv_sub hl [1] rfl)
set_option maxHeartbeats 4000000 in
theorem wk_X26_runs_0 {G : wv_G} {p : Program} {e : Env} {R : Room} {s : State} {m : MethodId} {args : Array Value} {below : List Frame} {meth : Method} {c : Code} {fr : Nat} {P : wv_R → wv_H → Prop} (X : wv_ok G p R s m args meth c fr "WeaversgateModel$Run" cX26_runs 5 (Option.some (Jvm.ClassFile.FieldType.object "WeaversgateModel$Result")) "runs" [(0, 35, 38, 205), (0, 35, 64, 150)]) {v0 : Option Nat} {v1 : Int32} {v2 : Int32} {v3 : Int32} {w : wv_W} (hv : vc_X26_runs_0 G fr P v0 v1 v2 v3 w) : wv_J G p e R s m args below meth c 5 P w 0 [(0, va_rf v0), (1, .int v1), (2, .int v2), (3, .int v3)] [] := by
  intro H locs cells slots ls S hl
  unfold vc_X26_runs_0 at hv
  refine wq_aload_n X dX26_runs_0 rfl (lv_at hl 0 rfl) ?_
  refine wq_gA X S hv ccX26 in_X26 (k := 0) (by decide) q2249 dX26_runs_1 (fun x1 hv => ?_)
  refine wq_aload_n X dX26_runs_4 rfl (lv_at hl 0 rfl) ?_
  refine lv_bipush (v := (99 : Int32)) X.hx X.hb dX26_runs_5 (by decide) ?_
  refine lv_iload_n X.hx X.hb dX26_runs_7 rfl (lv_at hl 2 rfl) ?_
  refine wq_new X S hv tyX27 tyX27_ok ccX27 in_X27 q2271 q2272 q113 (fun j hj => by have hj : j < 2 := hj; rcases (show j = 0 ∨ j = 1 by omega) with rfl | rfl <;> rfl) dX26_runs_8 (fun a8 w8 H cells slots S hv => ?_)
  refine lv_dup X.hx X.hb dX26_runs_11 (wv_rfc _) ?_
  refine lv_iload_n X.hx X.hb dX26_runs_12 rfl (lv_at hl 1 rfl) ?_
  refine wq_cI_V X S hv rfl q2273 q2274 q2275 q113 ⟨by decide +kernel, by decide +kernel⟩ (nA := 1) (As := [.int v1]) (by decide +kernel) rfl rfl (by simp [wv_rfc, wv_kI, wv_kJ, wv_kF, wv_kD]) hl.1 dX26_runs_13 (fun w13 H locs cells slots S hv => ?_) ?_
  · refine lv_iconst (v := (-1 : Int32)) X.hx X.hb dX26_runs_16 (by decide) ?_
    refine lv_iconst (v := (-1 : Int32)) X.hx X.hb dX26_runs_17 (by decide) ?_
    refine lv_iconst (v := (-1 : Int32)) X.hx X.hb dX26_runs_18 (by decide) ?_
    refine lv_iload_n X.hx X.hb dX26_runs_19 rfl (lv_at hl 3 rfl) ?_
    refine wq_cV_I X S hv q2286 q2287 q2288 q112 ⟨by decide +kernel, by decide +kernel⟩ (nA := 7) (As := [.int (99 : Int32), .int v2, va_rf (some a8), .int (-1 : Int32), .int (-1 : Int32), .int (-1 : Int32), .int v3]) (by decide +kernel) rfl rfl (by simp [wv_rfc, wv_kI, wv_kJ, wv_kF, wv_kD]) hl.1 dX26_runs_20 (fun x20 w20 H locs cells slots S hv => ?_) ?_
    · refine wq_pt X S hv tyX5 tyX5_ok nmX5 ccX5 in_X5 (k := 2) (by decide) q1781 rfl rfl rfl rfl dX26_runs_23 (fun w23 H locs S hv => ?_)
      refine wq_aload_n X dX26_runs_26 rfl (lv_at hl 0 rfl) ?_
      refine wq_gA X S hv ccX26 in_X26 (k := 0) (by decide) q2249 dX26_runs_27 (fun x27 hv => ?_)
      refine lv_bipush (v := (114 : Int32)) X.hx X.hb dX26_runs_30 (by decide) ?_
      have hv32 := hv.1
      have hv := hv.2
      refine wq_pt X S hv tyX5 tyX5_ok nmX5 ccX5 in_X5 (k := 1) (by decide) q1778 rfl rfl hv32.1 hv32.2 dX26_runs_32 (fun w32 H locs S hv => ?_)
      refine lv_goto (tgt := 75) X.hx X.hb dX26_runs_35 (by decide) ?_
      exact wk_X26_runs_75 X  hv H locs cells slots ls S (lv_sub hl [0] rfl)
    · intro E q w H locs cells slots S hv hth
      by_cases hE : E = "WeaversgateModel$Raised"
      · subst hE
        have hv := hv.1 rfl
        refine wr_catch X [] (0, 35, 38, 205) [(0, 35, 64, 150)] rfl (fun z hz => by cases hz) rfl (by decide) q2269 q2412 hth ?_
        exact wk_X26_runs_38 X  hv H locs cells slots ls S (lv_sub hl [0] rfl)
      · have hv := hv.2 hE
        have hN0 := va_Nc.moved X.hW.alike hv.1
        have hv := hv.2
        by_cases hE : E = "WeaversgateModel$GivenUp"
        · subst hE
          have hv := hv.1 rfl
          refine wr_catch X [(0, 35, 38, 205)] (0, 35, 64, 150) [] rfl (List.forall_mem_cons.mpr ⟨(Or.inr ⟨by decide, "WeaversgateModel$Raised", q2269, hN0⟩), (fun z hz => absurd hz List.not_mem_nil)⟩) rfl (by decide) q2270 q2292 hth ?_
          exact wk_X26_runs_64 X  hv H locs cells slots ls S (lv_sub hl [0] rfl)
        · have hv := hv.2 hE
          have hN1 := va_Nc.moved X.hW.alike hv.1
          have hv := hv.2
          exact wr_outP X S hv hth (List.forall_mem_cons.mpr ⟨(Or.inr ⟨by decide, "WeaversgateModel$Raised", q2269, hN0⟩), (List.forall_mem_cons.mpr ⟨(Or.inr ⟨by decide, "WeaversgateModel$GivenUp", q2270, hN1⟩), (fun z hz => absurd hz List.not_mem_nil)⟩)⟩)
  · intro E q w H locs cells slots S hv hth
    by_cases hE : E = "WeaversgateModel$Raised"
    · subst hE
      have hv := hv.1 rfl
      refine wr_catch X [] (0, 35, 38, 205) [(0, 35, 64, 150)] rfl (fun z hz => by cases hz) rfl (by decide) q2269 q2412 hth ?_
      exact wk_X26_runs_38 X  hv H locs cells slots ls S (lv_sub hl [0] rfl)
    · have hv := hv.2 hE
      have hN0 := va_Nc.moved X.hW.alike hv.1
      have hv := hv.2
      by_cases hE : E = "WeaversgateModel$GivenUp"
      · subst hE
        have hv := hv.1 rfl
        refine wr_catch X [(0, 35, 38, 205)] (0, 35, 64, 150) [] rfl (List.forall_mem_cons.mpr ⟨(Or.inr ⟨by decide, "WeaversgateModel$Raised", q2269, hN0⟩), (fun z hz => absurd hz List.not_mem_nil)⟩) rfl (by decide) q2270 q2292 hth ?_
        exact wk_X26_runs_64 X  hv H locs cells slots ls S (lv_sub hl [0] rfl)
      · have hv := hv.2 hE
        have hN1 := va_Nc.moved X.hW.alike hv.1
        have hv := hv.2
        exact wr_outP X S hv hth (List.forall_mem_cons.mpr ⟨(Or.inr ⟨by decide, "WeaversgateModel$Raised", q2269, hN0⟩), (List.forall_mem_cons.mpr ⟨(Or.inr ⟨by decide, "WeaversgateModel$GivenUp", q2270, hN1⟩), (fun z hz => absurd hz List.not_mem_nil)⟩)⟩)
theorem wk_X26_runs {G : wv_G} (hG : wv_G0 G) {v0 : Option Nat} {v1 : Int32} {v2 : Int32} {v3 : Int32} {h : wv_H} {fr kc ks : Nat} {P : wv_R → wv_H → Prop} (hv : vc_X26_runs_0 G fr P v0 v1 v2 v3 (h, kc, ks)) : wv_C G yX26_runs [va_rf v0, .int v1, .int v2, .int v3] h fr kc ks P := by
  refine wv_enterW (lv := [(0, va_rf v0), (1, .int v1), (2, .int v2), (3, .int v3)]) hG (by decide +kernel) q2268 (by decide) (by simp [lg_sl, wv_rfc, wv_kI, wv_kJ, wv_kF, wv_kD]) (by simp [lv_args, wv_rfc, wv_kI, wv_kJ, wv_kF, wv_kD]) ?_
  intro p e R s m args below meth c X H locs cells slots ls S hl
  exact wk_X26_runs_0 X hv H locs cells slots ls S (lv_sub hl [0, 1, 2, 3] rfl)

def vc_X26_spotMatch_19 (G : wv_G) (fr : Nat) (P : wv_R → wv_H → Prop) (K19 : ((Option Nat) × (Option Nat) × Int32 × (Option Nat)) → wv_W → Prop) (v0 : Option Nat) (v1 : Option Nat) (v2 : Int32) (v3 : Option Nat) (w : wv_W) : Prop :=
  wv_cF G fr (⟨"java/util/Iterator", "hasNext", "()Z"⟩ : MethodName) v3 [] w (wv_rI (fun x20 w20 => (x20 = 0 → narrow .char (.int (109 : Int32)) = .int (109 : Int32) ∧ P (.inl (some (.int (109 : Int32)))) w20.1) ∧ (¬ x20 = 0 → wv_cF G fr (⟨"java/util/Iterator", "next", "()Ljava/lang/Object;"⟩ : MethodName) v3 [] w20 (wv_rA (fun x29 w29 => wv_cc G w29 x29 "WeaversgateModel$Spot" (wv_cV G fr yX20_kind x29 [] w29 (wv_rI (fun x41 w41 => wv_cV G fr yX29_kind v1 [] w41 (wv_rI (fun x45 w45 => (¬ x41 = x45 → K19 (v0, v1, v2, v3) w45) ∧ (x41 = x45 → wv_cV G fr yX20_index x29 [] w45 (wv_rI (fun x53 w53 => wv_cV G fr yX29_index v1 [] w53 (wv_rI (fun x57 w57 => (¬ x53 = x57 → K19 (v0, v1, v2, v3) w57) ∧ (x53 = x57 → wv_gA w57 v0 ciX26 4 (fun x64 => wv_cV G fr yX29_placeClass v1 [] w57 (wv_rI (fun x70 w70 => wv_cV G fr yX29_method v1 [] w70 (wv_rI (fun x74 w74 => wv_gA w74 v0 ciX26 4 (fun x78 => wv_gA w74 x78 ciX4 5 (fun x81 => wv_li G 0 w74 x81 v2 (fun x85 => wv_cV G fr yX4_matches x64 [va_rf x29, .int x70, .int x74, .int x85] w74 (wv_rI (fun x86 w86 => narrow .char (.int x86) = .int x86 ∧ P (.inl (some (.int x86))) w86.1) (wv_pr P)))))) (wv_pr P))) (wv_pr P))))) (wv_pr P))) (wv_pr P)))) (wv_pr P))) (wv_pr P)))) (wv_pr P)))) (wv_pr P))
def vc_X26_spotMatch_0 (G : wv_G) (fr : Nat) (P : wv_R → wv_H → Prop) (v0 : Option Nat) (v1 : Option Nat) (v2 : Int32) (w : wv_W) : Prop :=
  wv_gA w v0 ciX26 4 (fun x1 => wv_cV G fr yX29_placeClass v1 [] w (wv_rI (fun x5 w5 => wv_cV G fr yX29_method v1 [] w5 (wv_rI (fun x9 w9 => wv_cV G fr yX4_spots x1 [.int x5, .int x9] w9 (wv_rA (fun x12 w12 => wv_cV G fr yJ2_iterator x12 [] w12 (wv_rA (fun x15 w15 => wv_L (fun K19 a w => vc_X26_spotMatch_19 G fr P K19 a.1 a.2.1 a.2.2.1 a.2.2.2 w) (v0, v1, v2, x15) w15) (wv_pr P))) (wv_pr P))) (wv_pr P))) (wv_pr P)))
set_option maxHeartbeats 4000000 in
theorem wk_X26_spotMatch_19 {G : wv_G} {p : Program} {e : Env} {R : Room} {s : State} {m : MethodId} {args : Array Value} {below : List Frame} {meth : Method} {c : Code} {fr : Nat} {P : wv_R → wv_H → Prop} (X : wv_ok G p R s m args meth c fr "WeaversgateModel$Run" cX26_spotMatch 5 (Option.some Jvm.ClassFile.FieldType.char) "spotMatch" []) {K19 : ((Option Nat) × (Option Nat) × Int32 × (Option Nat)) → wv_W → Prop} (hK19 : ∀ a w, K19 a w → wv_J G p e R s m args below meth c 5 P w 19 [(0, va_rf a.1), (1, va_rf a.2.1), (2, .int a.2.2.1), (3, va_rf a.2.2.2)] []) {v0 : Option Nat} {v1 : Option Nat} {v2 : Int32} {v3 : Option Nat} {w : wv_W} (hv : vc_X26_spotMatch_19 G fr P K19 v0 v1 v2 v3 w) : wv_J G p e R s m args below meth c 5 P w 19 [(0, va_rf v0), (1, va_rf v1), (2, .int v2), (3, va_rf v3)] [] := by
  intro H locs cells slots ls S hl
  unfold vc_X26_spotMatch_19 at hv
  refine wq_aload_n X dX26_spotMatch_19 rfl (lv_at hl 3 rfl) ?_
  refine wq_cF_I X S hv q2320 ⟨by decide +kernel, by decide +kernel⟩ (nA := 0) (As := []) (by decide +kernel) rfl rfl (by simp [wv_rfc, wv_kI, wv_kJ, wv_kF, wv_kD]) hl.1 dX26_spotMatch_20 (fun x20 w20 H locs cells slots S hv => ?_) (wq_kx X rfl)
  refine lv_if_eq (tgt := 93) X.hx X.hb dX26_spotMatch_25 (by decide) (fun c25 => ?_) (fun c25 => ?_)
  · have hv := hv.1 c25
    refine lv_bipush (v := (109 : Int32)) X.hx X.hb dX26_spotMatch_93 (by decide) ?_
    exact wr_iret X S hv.1 hv.2 dX26_spotMatch_95
  · have hv := hv.2 c25
    refine wq_aload_n X dX26_spotMatch_28 rfl (lv_at hl 3 rfl) ?_
    refine wq_cF_A X S hv q2322 ⟨by decide +kernel, by decide +kernel⟩ (nA := 0) (As := []) (by decide +kernel) rfl rfl (by simp [wv_rfc, wv_kI, wv_kJ, wv_kF, wv_kD]) hl.1 dX26_spotMatch_29 (fun x29 w29 H locs cells slots S hv => ?_) (wq_kx X rfl)
    refine wq_cc X S hv q2382 dX26_spotMatch_34 (fun hv => ?_)
    refine wq_astore X (i := 4) (lv' := [(4, va_rf x29), (0, va_rf v0), (1, va_rf v1), (2, .int v2), (3, va_rf v3)]) dX26_spotMatch_37 hl (by decide) (by simp [wv_rfc, wv_kI, wv_kJ, wv_kF, wv_kD]) (fun ls hl => ?_)
    refine wq_aload X dX26_spotMatch_39 (lv_at hl 0 rfl) ?_
    refine wq_cV_I X S hv q2383 q2138 q2139 q105 ⟨by decide +kernel, by decide +kernel⟩ (nA := 0) (As := []) (by decide +kernel) rfl rfl (by simp [wv_rfc, wv_kI, wv_kJ, wv_kF, wv_kD]) hl.1 dX26_spotMatch_41 (fun x41 w41 H locs cells slots S hv => ?_) (wq_kx X rfl)
    refine wq_aload_n X dX26_spotMatch_44 rfl (lv_at hl 2 rfl) ?_
    refine wq_cV_I X S hv q2384 q2385 q2386 q115 ⟨by decide +kernel, by decide +kernel⟩ (nA := 0) (As := []) (by decide +kernel) rfl rfl (by simp [wv_rfc, wv_kI, wv_kJ, wv_kF, wv_kD]) hl.1 dX26_spotMatch_45 (fun x45 w45 H locs cells slots S hv => ?_) (wq_kx X rfl)
    refine lv_icmp_ne (tgt := 90) X.hx X.hb dX26_spotMatch_48 (by decide) (fun c48 => ?_) (fun c48 => ?_)
    · have hv := hv.1 c48
      refine lv_goto (tgt := 19) X.hx X.hb dX26_spotMatch_90 (by decide) ?_
      exact hK19 _ _ hv H locs cells slots ls S (lv_sub hl [1, 2, 3, 4] rfl)
    · have hv := hv.2 c48
      refine wq_aload X dX26_spotMatch_51 (lv_at hl 0 rfl) ?_
      refine wq_cV_I X S hv q2388 q2389 q2390 q105 ⟨by decide +kernel, by decide +kernel⟩ (nA := 0) (As := []) (by decide +kernel) rfl rfl (by simp [wv_rfc, wv_kI, wv_kJ, wv_kF, wv_kD]) hl.1 dX26_spotMatch_53 (fun x53 w53 H locs cells slots S hv => ?_) (wq_kx X rfl)
      refine wq_aload_n X dX26_spotMatch_56 rfl (lv_at hl 2 rfl) ?_
      refine wq_cV_I X S hv q2392 q2393 q2394 q115 ⟨by decide +kernel, by decide +kernel⟩ (nA := 0) (As := []) (by decide +kernel) rfl rfl (by simp [wv_rfc, wv_kI, wv_kJ, wv_kF, wv_kD]) hl.1 dX26_spotMatch_57 (fun x57 w57 H locs cells slots S hv => ?_) (wq_kx X rfl)
      refine lv_icmp_ne (tgt := 90) X.hx X.hb dX26_spotMatch_60 (by decide) (fun c60 => ?_) (fun c60 => ?_)
      · have hv := hv.1 c60
        refine lv_goto (tgt := 19) X.hx X.hb dX26_spotMatch_90 (by decide) ?_
        exact hK19 _ _ hv H locs cells slots ls S (lv_sub hl [1, 2, 3, 4] rfl)
      · have hv := hv.2 c60
        refine wq_aload_n X dX26_spotMatch_63 rfl (lv_at hl 1 rfl) ?_
        refine wq_gA X S hv ccX26 in_X26 (k := 4) (by decide) q2253 dX26_spotMatch_64 (fun x64 hv => ?_)
        refine wq_aload X dX26_spotMatch_67 (lv_at hl 0 rfl) ?_
        refine wq_aload_n X dX26_spotMatch_69 rfl (lv_at hl 2 rfl) ?_
        refine wq_cV_I X S hv q2369 q2370 q2371 q115 ⟨by decide +kernel, by decide +kernel⟩ (nA := 0) (As := []) (by decide +kernel) rfl rfl (by simp [wv_rfc, wv_kI, wv_kJ, wv_kF, wv_kD]) hl.1 dX26_spotMatch_70 (fun x70 w70 H locs cells slots S hv => ?_) (wq_kx X rfl)
        refine wq_aload_n X dX26_spotMatch_73 rfl (lv_at hl 2 rfl) ?_
        refine wq_cV_I X S hv q2377 q2378 q2379 q115 ⟨by decide +kernel, by decide +kernel⟩ (nA := 0) (As := []) (by decide +kernel) rfl rfl (by simp [wv_rfc, wv_kI, wv_kJ, wv_kF, wv_kD]) hl.1 dX26_spotMatch_74 (fun x74 w74 H locs cells slots S hv => ?_) (wq_kx X rfl)
        refine wq_aload_n X dX26_spotMatch_77 rfl (lv_at hl 1 rfl) ?_
        refine wq_gA X S hv ccX26 in_X26 (k := 4) (by decide) q2253 dX26_spotMatch_78 (fun x78 hv => ?_)
        refine wq_gAN X S hv ccX4 in_X4 (k := 5) (by decide) q1809 dX26_spotMatch_81 (fun x81 hv => ?_)
        refine lv_iload_n X.hx X.hb dX26_spotMatch_84 rfl (lv_at hl 3 rfl) ?_
        refine wq_li0 X S hv dX26_spotMatch_85 (fun x85 hv => ?_)
        refine wq_cVN_I X S hv q2396 q2131 qs47 q2132 q66 ⟨by decide +kernel, by decide +kernel⟩ (nA := 4) (As := [va_rf x29, .int x70, .int x74, .int x85]) (by decide +kernel) rfl rfl (by simp [wv_rfc, wv_kI, wv_kJ, wv_kF, wv_kD]) hl.1 dX26_spotMatch_86 (fun x86 w86 H locs cells slots S hv => ?_) (wq_kx X rfl)
        exact wr_iret X S hv.1 hv.2 dX26_spotMatch_89
set_option maxHeartbeats 4000000 in
theorem wk_X26_spotMatch_0 {G : wv_G} {p : Program} {e : Env} {R : Room} {s : State} {m : MethodId} {args : Array Value} {below : List Frame} {meth : Method} {c : Code} {fr : Nat} {P : wv_R → wv_H → Prop} (X : wv_ok G p R s m args meth c fr "WeaversgateModel$Run" cX26_spotMatch 5 (Option.some Jvm.ClassFile.FieldType.char) "spotMatch" []) {v0 : Option Nat} {v1 : Option Nat} {v2 : Int32} {w : wv_W} (hv : vc_X26_spotMatch_0 G fr P v0 v1 v2 w) : wv_J G p e R s m args below meth c 5 P w 0 [(0, va_rf v0), (1, va_rf v1), (2, .int v2)] [] := by
  intro H locs cells slots ls S hl
  unfold vc_X26_spotMatch_0 at hv
  refine wq_aload_n X dX26_spotMatch_0 rfl (lv_at hl 0 rfl) ?_
  refine wq_gA X S hv ccX26 in_X26 (k := 4) (by decide) q2253 dX26_spotMatch_1 (fun x1 hv => ?_)
  refine wq_aload_n X dX26_spotMatch_4 rfl (lv_at hl 1 rfl) ?_
  refine wq_cV_I X S hv q2369 q2370 q2371 q115 ⟨by decide +kernel, by decide +kernel⟩ (nA := 0) (As := []) (by decide +kernel) rfl rfl (by simp [wv_rfc, wv_kI, wv_kJ, wv_kF, wv_kD]) hl.1 dX26_spotMatch_5 (fun x5 w5 H locs cells slots S hv => ?_) (wq_kx X rfl)
  refine wq_aload_n X dX26_spotMatch_8 rfl (lv_at hl 1 rfl) ?_
  refine wq_cV_I X S hv q2377 q2378 q2379 q115 ⟨by decide +kernel, by decide +kernel⟩ (nA := 0) (As := []) (by decide +kernel) rfl rfl (by simp [wv_rfc, wv_kI, wv_kJ, wv_kF, wv_kD]) hl.1 dX26_spotMatch_9 (fun x9 w9 H locs cells slots S hv => ?_) (wq_kx X rfl)
  refine wq_cVN_A X S hv q2381 q2100 qs46 q2101 q66 ⟨by decide +kernel, by decide +kernel⟩ (nA := 2) (As := [.int x5, .int x9]) (by decide +kernel) rfl rfl (by simp [wv_rfc, wv_kI, wv_kJ, wv_kF, wv_kD]) hl.1 dX26_spotMatch_12 (fun x12 w12 H locs cells slots S hv => ?_) (wq_kx X rfl)
  refine wq_cV_A X S hv q2318 q2175 q2176 q63 ⟨by decide +kernel, by decide +kernel⟩ (nA := 0) (As := []) (by decide +kernel) rfl rfl (by simp [wv_rfc, wv_kI, wv_kJ, wv_kF, wv_kD]) hl.1 dX26_spotMatch_15 (fun x15 w15 H locs cells slots S hv => ?_) (wq_kx X rfl)
  refine wq_astore_n X (i := 3) (lv' := [(3, va_rf x15), (0, va_rf v0), (1, va_rf v1), (2, .int v2)]) dX26_spotMatch_18 rfl hl (by decide) (by simp [wv_rfc, wv_kI, wv_kJ, wv_kF, wv_kD]) (fun ls hl => ?_)
  exact wv_loop (A := (Option Nat) × (Option Nat) × Int32 × (Option Nat)) (fun a w => wv_J G p e R s m args below meth c 5 P w 19 [(0, va_rf a.1), (1, va_rf a.2.1), (2, .int a.2.2.1), (3, va_rf a.2.2.2)] []) (fun K19 hK19 a w hv => wk_X26_spotMatch_19 X hK19 hv) hv H locs cells slots ls S (lv_sub hl [1, 2, 3, 0] rfl)
theorem wk_X26_spotMatch {G : wv_G} (hG : wv_G0 G) {v0 : Option Nat} {v1 : Option Nat} {v2 : Int32} {h : wv_H} {fr kc ks : Nat} {P : wv_R → wv_H → Prop} (hv : vc_X26_spotMatch_0 G fr P v0 v1 v2 (h, kc, ks)) : wv_C G yX26_spotMatch [va_rf v0, va_rf v1, .int v2] h fr kc ks P := by
  refine wv_enter (lv := [(0, va_rf v0), (1, va_rf v1), (2, .int v2)]) hG (by decide +kernel) q2376 (by decide) (by simp [lg_sl, wv_rfc, wv_kI, wv_kJ, wv_kF, wv_kD]) (by simp [lv_args, wv_rfc, wv_kI, wv_kJ, wv_kF, wv_kD]) ?_
  intro p e R s m args below meth c X H locs cells slots ls S hl
  exact wk_X26_spotMatch_0 X hv H locs cells slots ls S (lv_sub hl [0, 1, 2] rfl)

def vc_X26_step_84 (G : wv_G) (fr : Nat) (P : wv_R → wv_H → Prop) (v0 : Option Nat) (v1 : Option Nat) (v2 : Int32) (v3 : Int32) (v5 : Int32) (v6 : Int32) (v7 : Int32) (v8 : Int32) (w : wv_W) : Prop :=
  wv_cV G fr yX26_point v0 [.int v7, .int v8, va_rf v1, .int v2, .int v3, .int v5, .int v6] w (wv_rI (fun x96 w96 => P (.inl (some (.int x96))) w96.1) (wv_pr P))
def vc_X26_step_63 (G : wv_G) (fr : Nat) (P : wv_R → wv_H → Prop) (v0 : Option Nat) (v1 : Option Nat) (v2 : Int32) (v3 : Int32) (v4 : Option Nat) (v5 : Int32) (v6 : Int32) (v7 : Int32) (v8 : Int32) (w : wv_W) : Prop :=
  (v7 = (99 : Int32) → vc_X26_step_84 G fr P v0 v1 v2 v3 v5 v6 v7 v8 w) ∧ (¬ v7 = (99 : Int32) → (v7 = (103 : Int32) → vc_X26_step_84 G fr P v0 v1 v2 v3 v5 v6 v7 v8 w) ∧ (¬ v7 = (103 : Int32) → (¬ v7 = (115 : Int32) → (v7 = (109 : Int32) → wv_no G w (wo_o ciX27 [.int 0, va_rf none]) 2 (fun a110 w110 => wv_cI G fr yX27_init (some a110) [.int v8] w110 (wv_rV (fun w116 => wv_cV G fr yX26_point v0 [.int (109 : Int32), .int v8, va_rf (some a110), .int v2, .int v3, .int v5, .int v6] w116 (wv_rI (fun x134 w134 => wv_gA w134 v4 ciX8 2 (fun x144 => wv_li G 0 w134 x144 v5 (fun x149 => wv_cV G fr yX26_point v0 [.int (99 : Int32), .int x149, va_rf (some a110), .int v2, .int v3, .int v5, .int x134] w134 (wv_rI (fun x158 w158 => P (.inl (some (.int x158))) w158.1) (wv_pr P))))) (wv_pr P))) (wv_pr P)))) ∧ (¬ v7 = (109 : Int32) → P (.inl (some (.int v6))) w.1)) ∧ (v7 = (115 : Int32) → vc_X26_step_84 G fr P v0 v1 v2 v3 v5 v6 v7 v8 w)))
def vc_X26_step_0 (G : wv_G) (fr : Nat) (P : wv_R → wv_H → Prop) (v0 : Option Nat) (v1 : Option Nat) (v2 : Int32) (v3 : Int32) (v4 : Option Nat) (v5 : Int32) (v6 : Int32) (w : wv_W) : Prop :=
  wv_gA w v4 ciX8 0 (fun x2 => wv_li G 1 w x2 v5 (fun x7 => wv_gA w v4 ciX8 1 (fun x12 => wv_li G 0 w x12 v5 (fun x17 => (¬ x7 = (110 : Int32) → (¬ x7 = (116 : Int32) → vc_X26_step_63 G fr P v0 v1 v2 v3 v4 v5 v6 x7 x17 w) ∧ (x7 = (116 : Int32) → wv_gA w v4 ciX8 2 (fun x44 => wv_li G 0 w x44 v5 (fun x49 => (v6 ≤ x49 → vc_X26_step_63 G fr P v0 v1 v2 v3 v4 v5 v6 x7 x17 w) ∧ (¬ v6 ≤ x49 → wv_no G w (wo_o ciX30 [va_rf none, va_rf none, va_rf none, va_rf none, va_rf none, .int 0, .int 0]) 7 (fun a53 w53 => wv_cI G fr yX30_init (some a53) [.int x17] w53 (wv_rV (fun w59 => wv_at w59 (some a53) (wv_pr P)) (wv_pr P)))))))) ∧ (x7 = (110 : Int32) → P (.inl (some (.int (v6 + x17)))) w.1)))))
set_option maxHeartbeats 4000000 in
theorem wk_X26_step_84 {G : wv_G} {p : Program} {e : Env} {R : Room} {s : State} {m : MethodId} {args : Array Value} {below : List Frame} {meth : Method} {c : Code} {fr : Nat} {P : wv_R → wv_H → Prop} (X : wv_ok G p R s m args meth c fr "WeaversgateModel$Run" cX26_step 11 (Option.some Jvm.ClassFile.FieldType.int) "step" []) {v0 : Option Nat} {v1 : Option Nat} {v2 : Int32} {v3 : Int32} {v5 : Int32} {v6 : Int32} {v7 : Int32} {v8 : Int32} {w : wv_W} (hv : vc_X26_step_84 G fr P v0 v1 v2 v3 v5 v6 v7 v8 w) : wv_J G p e R s m args below meth c 11 P w 84 [(0, va_rf v0), (1, va_rf v1), (2, .int v2), (3, .int v3), (5, .int v5), (6, .int v6), (7, .int v7), (8, .int v8)] [] := by
  intro H locs cells slots ls S hl
  unfold vc_X26_step_84 at hv
  refine wq_aload_n X dX26_step_84 rfl (lv_at hl 0 rfl) ?_
  refine lv_iload X.hx X.hb dX26_step_85 (lv_at hl 6 rfl) ?_
  refine lv_iload X.hx X.hb dX26_step_87 (lv_at hl 7 rfl) ?_
  refine wq_aload_n X dX26_step_89 rfl (lv_at hl 1 rfl) ?_
  refine lv_iload_n X.hx X.hb dX26_step_90 rfl (lv_at hl 2 rfl) ?_
  refine lv_iload_n X.hx X.hb dX26_step_91 rfl (lv_at hl 3 rfl) ?_
  refine lv_iload X.hx X.hb dX26_step_92 (lv_at hl 4 rfl) ?_
  refine lv_iload X.hx X.hb dX26_step_94 (lv_at hl 5 rfl) ?_
  refine wq_cV_I X S hv q2286 q2287 q2288 q112 ⟨by decide +kernel, by decide +kernel⟩ (nA := 7) (As := [.int v7, .int v8, va_rf v1, .int v2, .int v3, .int v5, .int v6]) (by decide +kernel) rfl rfl (by simp [wv_rfc, wv_kI, wv_kJ, wv_kF, wv_kD]) hl.1 dX26_step_96 (fun x96 w96 H locs cells slots S hv => ?_) (wq_kx X rfl)
  exact wr_iret X S rfl hv dX26_step_99
set_option maxHeartbeats 4000000 in
theorem wk_X26_step_63 {G : wv_G} {p : Program} {e : Env} {R : Room} {s : State} {m : MethodId} {args : Array Value} {below : List Frame} {meth : Method} {c : Code} {fr : Nat} {P : wv_R → wv_H → Prop} (X : wv_ok G p R s m args meth c fr "WeaversgateModel$Run" cX26_step 11 (Option.some Jvm.ClassFile.FieldType.int) "step" []) {v0 : Option Nat} {v1 : Option Nat} {v2 : Int32} {v3 : Int32} {v4 : Option Nat} {v5 : Int32} {v6 : Int32} {v7 : Int32} {v8 : Int32} {w : wv_W} (hv : vc_X26_step_63 G fr P v0 v1 v2 v3 v4 v5 v6 v7 v8 w) : wv_J G p e R s m args below meth c 11 P w 63 [(0, va_rf v0), (1, va_rf v1), (2, .int v2), (3, .int v3), (4, va_rf v4), (5, .int v5), (6, .int v6), (7, .int v7), (8, .int v8)] [] := by
  intro H locs cells slots ls S hl
  unfold vc_X26_step_63 at hv
  refine lv_iload X.hx X.hb dX26_step_63 (lv_at hl 7 rfl) ?_
  refine lv_bipush (v := (99 : Int32)) X.hx X.hb dX26_step_65 (by decide) ?_
  refine lv_icmp_eq (tgt := 84) X.hx X.hb dX26_step_67 (by decide) (fun c67 => ?_) (fun c67 => ?_)
  · have hv := hv.1 c67
    exact wk_X26_step_84 X  hv H locs cells slots ls S (lv_sub hl [0, 1, 2, 3, 5, 6, 7, 8] rfl)
  · have hv := hv.2 c67
    refine lv_iload X.hx X.hb dX26_step_70 (lv_at hl 7 rfl) ?_
    refine lv_bipush (v := (103 : Int32)) X.hx X.hb dX26_step_72 (by decide) ?_
    refine lv_icmp_eq (tgt := 84) X.hx X.hb dX26_step_74 (by decide) (fun c74 => ?_) (fun c74 => ?_)
    · have hv := hv.1 c74
      exact wk_X26_step_84 X  hv H locs cells slots ls S (lv_sub hl [0, 1, 2, 3, 5, 6, 7, 8] rfl)
    · have hv := hv.2 c74
      refine lv_iload X.hx X.hb dX26_step_77 (lv_at hl 7 rfl) ?_
      refine lv_bipush (v := (115 : Int32)) X.hx X.hb dX26_step_79 (by decide) ?_
      refine lv_icmp_ne (tgt := 100) X.hx X.hb dX26_step_81 (by decide) (fun c81 => ?_) (fun c81 => ?_)
      · have hv := hv.1 c81
        refine lv_iload X.hx X.hb dX26_step_100 (lv_at hl 7 rfl) ?_
        refine lv_bipush (v := (109 : Int32)) X.hx X.hb dX26_step_102 (by decide) ?_
        refine lv_icmp_eq (tgt := 110) X.hx X.hb dX26_step_104 (by decide) (fun c104 => ?_) (fun c104 => ?_)
        · have hv := hv.1 c104
          refine wq_new X S hv tyX27 tyX27_ok ccX27 in_X27 q2271 q2272 q113 (fun j hj => by have hj : j < 2 := hj; rcases (show j = 0 ∨ j = 1 by omega) with rfl | rfl <;> rfl) dX26_step_110 (fun a110 w110 H cells slots S hv => ?_)
          refine lv_dup X.hx X.hb dX26_step_113 (wv_rfc _) ?_
          refine lv_iload X.hx X.hb dX26_step_114 (lv_at hl 8 rfl) ?_
          refine wq_cI_V X S hv rfl q2273 q2274 q2275 q113 ⟨by decide +kernel, by decide +kernel⟩ (nA := 1) (As := [.int v8]) (by decide +kernel) rfl rfl (by simp [wv_rfc, wv_kI, wv_kJ, wv_kF, wv_kD]) hl.1 dX26_step_116 (fun w116 H locs cells slots S hv => ?_) (wq_kx X rfl)
          refine wq_astore X (i := 9) (lv' := [(9, va_rf (some a110)), (0, va_rf v0), (1, va_rf v1), (2, .int v2), (3, .int v3), (4, va_rf v4), (5, .int v5), (6, .int v6), (7, .int v7), (8, .int v8)]) dX26_step_119 hl (by decide) (by simp [wv_rfc, wv_kI, wv_kJ, wv_kF, wv_kD]) (fun ls hl => ?_)
          refine wq_aload_n X dX26_step_121 rfl (lv_at hl 1 rfl) ?_
          refine lv_bipush (v := (109 : Int32)) X.hx X.hb dX26_step_122 (by decide) ?_
          refine lv_iload X.hx X.hb dX26_step_124 (lv_at hl 9 rfl) ?_
          refine wq_aload X dX26_step_126 (lv_at hl 0 rfl) ?_
          refine lv_iload_n X.hx X.hb dX26_step_128 rfl (lv_at hl 3 rfl) ?_
          refine lv_iload_n X.hx X.hb dX26_step_129 rfl (lv_at hl 4 rfl) ?_
          refine lv_iload X.hx X.hb dX26_step_130 (lv_at hl 6 rfl) ?_
          refine lv_iload X.hx X.hb dX26_step_132 (lv_at hl 7 rfl) ?_
          refine wq_cV_I X S hv q2286 q2287 q2288 q112 ⟨by decide +kernel, by decide +kernel⟩ (nA := 7) (As := [.int (109 : Int32), .int v8, va_rf (some a110), .int v2, .int v3, .int v5, .int v6]) (by decide +kernel) rfl rfl (by simp [wv_rfc, wv_kI, wv_kJ, wv_kF, wv_kD]) hl.1 dX26_step_134 (fun x134 w134 H locs cells slots S hv => ?_) (wq_kx X rfl)
          refine lv_istore X.hx X.hb (i := 10) (lv' := [(10, .int x134), (9, va_rf (some a110)), (0, va_rf v0), (1, va_rf v1), (2, .int v2), (3, .int v3), (4, va_rf v4), (5, .int v5), (6, .int v6), (7, .int v7), (8, .int v8)]) dX26_step_137 hl (by decide) (by simp [wv_rfc, wv_kI, wv_kJ, wv_kF, wv_kD]) (fun ls hl => ?_)
          refine wq_aload_n X dX26_step_139 rfl (lv_at hl 2 rfl) ?_
          refine lv_bipush (v := (99 : Int32)) X.hx X.hb dX26_step_140 (by decide) ?_
          refine wq_aload X dX26_step_142 (lv_at hl 6 rfl) ?_
          refine wq_gA X S hv ccX8 in_X8 (k := 2) (by decide) q1906 dX26_step_144 (fun x144 hv => ?_)
          refine lv_iload X.hx X.hb dX26_step_147 (lv_at hl 7 rfl) ?_
          refine wq_li0 X S hv dX26_step_149 (fun x149 hv => ?_)
          refine wq_aload X dX26_step_150 (lv_at hl 1 rfl) ?_
          refine lv_iload_n X.hx X.hb dX26_step_152 rfl (lv_at hl 4 rfl) ?_
          refine lv_iload_n X.hx X.hb dX26_step_153 rfl (lv_at hl 5 rfl) ?_
          refine lv_iload X.hx X.hb dX26_step_154 (lv_at hl 7 rfl) ?_
          refine lv_iload X.hx X.hb dX26_step_156 (lv_at hl 0 rfl) ?_
          refine wq_cV_I X S hv q2286 q2287 q2288 q112 ⟨by decide +kernel, by decide +kernel⟩ (nA := 7) (As := [.int (99 : Int32), .int x149, va_rf (some a110), .int v2, .int v3, .int v5, .int x134]) (by decide +kernel) rfl rfl (by simp [wv_rfc, wv_kI, wv_kJ, wv_kF, wv_kD]) hl.1 dX26_step_158 (fun x158 w158 H locs cells slots S hv => ?_) (wq_kx X rfl)
          exact wr_iret X S rfl hv dX26_step_161
        · have hv := hv.2 c104
          refine lv_iload X.hx X.hb dX26_step_107 (lv_at hl 6 rfl) ?_
          exact wr_iret X S rfl hv dX26_step_109
      · have hv := hv.2 c81
        exact wk_X26_step_84 X  hv H locs cells slots ls S (lv_sub hl [0, 1, 2, 3, 5, 6, 7, 8] rfl)
set_option maxHeartbeats 4000000 in
theorem wk_X26_step_0 {G : wv_G} {p : Program} {e : Env} {R : Room} {s : State} {m : MethodId} {args : Array Value} {below : List Frame} {meth : Method} {c : Code} {fr : Nat} {P : wv_R → wv_H → Prop} (X : wv_ok G p R s m args meth c fr "WeaversgateModel$Run" cX26_step 11 (Option.some Jvm.ClassFile.FieldType.int) "step" []) {v0 : Option Nat} {v1 : Option Nat} {v2 : Int32} {v3 : Int32} {v4 : Option Nat} {v5 : Int32} {v6 : Int32} {w : wv_W} (hv : vc_X26_step_0 G fr P v0 v1 v2 v3 v4 v5 v6 w) : wv_J G p e R s m args below meth c 11 P w 0 [(0, va_rf v0), (1, va_rf v1), (2, .int v2), (3, .int v3), (4, va_rf v4), (5, .int v5), (6, .int v6)] [] := by
  intro H locs cells slots ls S hl
  unfold vc_X26_step_0 at hv
  refine wq_aload X dX26_step_0 (lv_at hl 4 rfl) ?_
  refine wq_gA X S hv ccX8 in_X8 (k := 0) (by decide) q1900 dX26_step_2 (fun x2 hv => ?_)
  refine lv_iload X.hx X.hb dX26_step_5 (lv_at hl 5 rfl) ?_
  refine wq_li1 X S hv dX26_step_7 (fun x7 hv => ?_)
  refine lv_istore X.hx X.hb (i := 7) (lv' := [(7, .int x7), (0, va_rf v0), (1, va_rf v1), (2, .int v2), (3, .int v3), (4, va_rf v4), (5, .int v5), (6, .int v6)]) dX26_step_8 hl (by decide) (by simp [wv_rfc, wv_kI, wv_kJ, wv_kF, wv_kD]) (fun ls hl => ?_)
  refine wq_aload X dX26_step_10 (lv_at hl 5 rfl) ?_
  refine wq_gA X S hv ccX8 in_X8 (k := 1) (by decide) q1903 dX26_step_12 (fun x12 hv => ?_)
  refine lv_iload X.hx X.hb dX26_step_15 (lv_at hl 6 rfl) ?_
  refine wq_li0 X S hv dX26_step_17 (fun x17 hv => ?_)
  refine lv_istore X.hx X.hb (i := 8) (lv' := [(8, .int x17), (7, .int x7), (0, va_rf v0), (1, va_rf v1), (2, .int v2), (3, .int v3), (4, va_rf v4), (5, .int v5), (6, .int v6)]) dX26_step_18 hl (by decide) (by simp [wv_rfc, wv_kI, wv_kJ, wv_kF, wv_kD]) (fun ls hl => ?_)
  refine lv_iload X.hx X.hb dX26_step_20 (lv_at hl 1 rfl) ?_
  refine lv_bipush (v := (110 : Int32)) X.hx X.hb dX26_step_22 (by decide) ?_
  refine lv_icmp_ne (tgt := 33) X.hx X.hb dX26_step_24 (by decide) (fun c24 => ?_) (fun c24 => ?_)
  · have hv := hv.1 c24
    refine lv_iload X.hx X.hb dX26_step_33 (lv_at hl 1 rfl) ?_
    refine lv_bipush (v := (116 : Int32)) X.hx X.hb dX26_step_35 (by decide) ?_
    refine lv_icmp_ne (tgt := 63) X.hx X.hb dX26_step_37 (by decide) (fun c37 => ?_) (fun c37 => ?_)
    · have hv := hv.1 c37
      exact wk_X26_step_63 X  hv H locs cells slots ls S (lv_sub hl [2, 3, 4, 5, 6, 7, 8, 1, 0] rfl)
    · have hv := hv.2 c37
      refine lv_iload X.hx X.hb dX26_step_40 (lv_at hl 8 rfl) ?_
      refine wq_aload X dX26_step_42 (lv_at hl 6 rfl) ?_
      refine wq_gA X S hv ccX8 in_X8 (k := 2) (by decide) q1906 dX26_step_44 (fun x44 hv => ?_)
      refine lv_iload X.hx X.hb dX26_step_47 (lv_at hl 7 rfl) ?_
      refine wq_li0 X S hv dX26_step_49 (fun x49 hv => ?_)
      refine lv_icmp_le (tgt := 63) X.hx X.hb dX26_step_50 (by decide) (fun c50 => ?_) (fun c50 => ?_)
      · have hv := hv.1 c50
        exact wk_X26_step_63 X  hv H locs cells slots ls S (lv_sub hl [2, 3, 4, 5, 6, 7, 8, 1, 0] rfl)
      · have hv := hv.2 c50
        refine wq_new X S hv tyX30 tyX30_ok ccX30 in_X30 q2269 q2411 q116 (fun j hj => by have hj : j < 7 := hj; rcases (show j = 0 ∨ j = 1 ∨ j = 2 ∨ j = 3 ∨ j = 4 ∨ j = 5 ∨ j = 6 by omega) with rfl | rfl | rfl | rfl | rfl | rfl | rfl <;> rfl) dX26_step_53 (fun a53 w53 H cells slots S hv => ?_)
        refine lv_dup X.hx X.hb dX26_step_56 (wv_rfc _) ?_
        refine lv_iload X.hx X.hb dX26_step_57 (lv_at hl 0 rfl) ?_
        refine wq_cI_V X S hv rfl q2419 q2420 q2421 q116 ⟨by decide +kernel, by decide +kernel⟩ (nA := 1) (As := [.int x17]) (by decide +kernel) rfl rfl (by simp [wv_rfc, wv_kI, wv_kJ, wv_kF, wv_kD]) hl.1 dX26_step_59 (fun w59 H locs cells slots S hv => ?_) (wq_kx X rfl)
        exact wq_athrow X S hv dX26_step_62 (wq_kx X rfl)
  · have hv := hv.2 c24
    refine lv_iload X.hx X.hb dX26_step_27 (lv_at hl 8 rfl) ?_
    refine lv_iload X.hx X.hb dX26_step_29 (lv_at hl 0 rfl) ?_
    refine lv_iadd X.hx X.hb dX26_step_31 ?_
    exact wr_iret X S rfl hv dX26_step_32
theorem wk_X26_step {G : wv_G} (hG : wv_G0 G) {v0 : Option Nat} {v1 : Option Nat} {v2 : Int32} {v3 : Int32} {v4 : Option Nat} {v5 : Int32} {v6 : Int32} {h : wv_H} {fr kc ks : Nat} {P : wv_R → wv_H → Prop} (hv : vc_X26_step_0 G fr P v0 v1 v2 v3 v4 v5 v6 (h, kc, ks)) : wv_C G yX26_step [va_rf v0, va_rf v1, .int v2, .int v3, va_rf v4, .int v5, .int v6] h fr kc ks P := by
  refine wv_enter (lv := [(0, va_rf v0), (1, va_rf v1), (2, .int v2), (3, .int v3), (4, va_rf v4), (5, .int v5), (6, .int v6)]) hG (by decide +kernel) q2437 (by decide) (by simp [lg_sl, wv_rfc, wv_kI, wv_kJ, wv_kF, wv_kD]) (by simp [lv_args, wv_rfc, wv_kI, wv_kJ, wv_kF, wv_kD]) ?_
  intro p e R s m args below meth c X H locs cells slots ls S hl
  exact wk_X26_step_0 X hv H locs cells slots ls S (lv_sub hl [0, 1, 2, 3, 4, 5, 6] rfl)

def vc_X27_init_0 (G : wv_G) (fr : Nat) (P : wv_R → wv_H → Prop) (v0 : Option Nat) (v1 : Int32) (w : wv_W) : Prop :=
  (∃ a, v0 = some a) ∧ 1 ≤ fr ∧ (wv_na G w (4 : Int32) (fun N => wo_i (wv_A G 0) N (fun _ => 0)) (fun a6 w6 => wv_pt w6 v0 ciX27 1 (va_rf (some a6)) (fun w8 => wv_pt w8 v0 ciX27 0 (.int v1) (fun w13 => P (.inl none) w13.1))))
set_option maxHeartbeats 4000000 in
theorem wk_X27_init_0 {G : wv_G} {p : Program} {e : Env} {R : Room} {s : State} {m : MethodId} {args : Array Value} {below : List Frame} {meth : Method} {c : Code} {fr : Nat} {P : wv_R → wv_H → Prop} (X : wv_ok G p R s m args meth c fr "WeaversgateModel$Thing" cX27_init 2 (Option.none : Option Jvm.ClassFile.FieldType) "<init>" []) {v0 : Option Nat} {v1 : Int32} {w : wv_W} (hv : vc_X27_init_0 G fr P v0 v1 w) : wv_J G p e R s m args below meth c 2 P w 0 [(0, va_rf v0), (1, .int v1)] [] := by
  intro H locs cells slots ls S hl
  unfold vc_X27_init_0 at hv
  refine wq_aload_n X dX27_init_0 rfl (lv_at hl 0 rfl) ?_
  obtain ⟨⟨_, hr⟩, h1, hv⟩ := hv
  refine wq_objInit X hr q2276 q125 q126 h1 (by simp [wv_rfc, wv_kI, wv_kJ, wv_kF, wv_kD]) hl.1 dX27_init_1 ?_
  refine wq_aload_n X dX27_init_4 rfl (lv_at hl 0 rfl) ?_
  refine lv_iconst (v := (4 : Int32)) X.hx X.hb dX27_init_5 (by decide) ?_
  refine wq_nwi X S hv q188 dX27_init_6 (fun a6 w6 H cells slots S hv => ?_)
  refine wq_ptF X S hv tyX27 tyX27_ok nmX27 ccX27 in_X27 (k := 1) (by decide) q2279 rfl rfl rfl (wv_fnA (Or.inr ⟨_, rfl⟩)).1 (wv_fnA (Or.inr ⟨_, rfl⟩)).2 dX27_init_8 (fun w8 H locs S hv => ?_)
  refine wq_aload_n X dX27_init_11 rfl (lv_at hl 0 rfl) ?_
  refine lv_iload_n X.hx X.hb dX27_init_12 rfl (lv_at hl 1 rfl) ?_
  refine wq_ptF X S hv tyX27 tyX27_ok nmX27 ccX27 in_X27 (k := 0) (by decide) q2277 rfl rfl rfl rfl rfl dX27_init_13 (fun w13 H locs S hv => ?_)
  exact wr_vret X S hv dX27_init_16
theorem wk_X27_init {G : wv_G} (hG : wv_G0 G) {v0 : Option Nat} {v1 : Int32} {h : wv_H} {fr kc ks : Nat} {P : wv_R → wv_H → Prop} (hv : vc_X27_init_0 G fr P v0 v1 (h, kc, ks)) : wv_C G yX27_init [va_rf v0, .int v1] h fr kc ks P := by
  refine wv_enter (lv := [(0, va_rf v0), (1, .int v1)]) hG (by decide +kernel) q2275 (by decide) (by simp [lg_sl, wv_rfc, wv_kI, wv_kJ, wv_kF, wv_kD]) (by simp [lv_args, wv_rfc, wv_kI, wv_kJ, wv_kF, wv_kD]) ?_
  intro p e R s m args below meth c X H locs cells slots ls S hl
  exact wk_X27_init_0 X hv H locs cells slots ls S (lv_sub hl [0, 1] rfl)

def vc_X28_init_0 (G : wv_G) (fr : Nat) (P : wv_R → wv_H → Prop) (v0 : Option Nat) (w : wv_W) : Prop :=
  wv_cI G fr yJ4_init_2 v0 [] w (wv_rV (fun w1 => P (.inl none) w1.1) (wv_pr P))
set_option maxHeartbeats 4000000 in
theorem wk_X28_init_0 {G : wv_G} {p : Program} {e : Env} {R : Room} {s : State} {m : MethodId} {args : Array Value} {below : List Frame} {meth : Method} {c : Code} {fr : Nat} {P : wv_R → wv_H → Prop} (X : wv_ok G p R s m args meth c fr "WeaversgateModel$GivenUp" cX28_init 1 (Option.none : Option Jvm.ClassFile.FieldType) "<init>" []) {v0 : Option Nat} {w : wv_W} (hv : vc_X28_init_0 G fr P v0 w) : wv_J G p e R s m args below meth c 1 P w 0 [(0, va_rf v0)] [] := by
  intro H locs cells slots ls S hl
  unfold vc_X28_init_0 at hv
  refine wq_aload_n X dX28_init_0 rfl (lv_at hl 0 rfl) ?_
  refine wq_cI_V X S hv rfl q2302 q991 q992 q69 ⟨by decide +kernel, by decide +kernel⟩ (nA := 0) (As := []) (by decide +kernel) rfl rfl (by simp [wv_rfc, wv_kI, wv_kJ, wv_kF, wv_kD]) hl.1 dX28_init_1 (fun w1 H locs cells slots S hv => ?_) (wq_kx X rfl)
  exact wr_vret X S hv dX28_init_4
theorem wk_X28_init {G : wv_G} (hG : wv_G0 G) {v0 : Option Nat} {h : wv_H} {fr kc ks : Nat} {P : wv_R → wv_H → Prop} (hv : vc_X28_init_0 G fr P v0 (h, kc, ks)) : wv_C G yX28_init [va_rf v0] h fr kc ks P := by
  refine wv_enter (lv := [(0, va_rf v0)]) hG (by decide +kernel) q2301 (by decide) (by simp [lg_sl, wv_rfc, wv_kI, wv_kJ, wv_kF, wv_kD]) (by simp [lv_args, wv_rfc, wv_kI, wv_kJ, wv_kF, wv_kD]) ?_
  intro p e R s m args below meth c X H locs cells slots ls S hl
  exact wk_X28_init_0 X hv H locs cells slots ls S (lv_sub hl [0] rfl)

def vc_X29_held_0 (G : wv_G) (fr : Nat) (P : wv_R → wv_H → Prop) (v0 : Option Nat) (w : wv_W) : Prop :=
  wv_gI w v0 ciX29 7 (fun x1 => P (.inl (some (.int x1))) w.1)
set_option maxHeartbeats 4000000 in
theorem wk_X29_held_0 {G : wv_G} {p : Program} {e : Env} {R : Room} {s : State} {m : MethodId} {args : Array Value} {below : List Frame} {meth : Method} {c : Code} {fr : Nat} {P : wv_R → wv_H → Prop} (X : wv_ok G p R s m args meth c fr "WeaversgateModel$Point" cX29_held 1 (Option.some Jvm.ClassFile.FieldType.int) "held" []) {v0 : Option Nat} {w : wv_W} (hv : vc_X29_held_0 G fr P v0 w) : wv_J G p e R s m args below meth c 1 P w 0 [(0, va_rf v0)] [] := by
  intro H locs cells slots ls S hl
  unfold vc_X29_held_0 at hv
  refine wq_aload_n X dX29_held_0 rfl (lv_at hl 0 rfl) ?_
  refine wq_gI X S hv ccX29 in_X29 (k := 7) (by decide) q2340 dX29_held_1 (fun x1 hv => ?_)
  exact wr_iret X S rfl hv dX29_held_4
theorem wk_X29_held {G : wv_G} (hG : wv_G0 G) {v0 : Option Nat} {h : wv_H} {fr kc ks : Nat} {P : wv_R → wv_H → Prop} (hv : vc_X29_held_0 G fr P v0 (h, kc, ks)) : wv_C G yX29_held [va_rf v0] h fr kc ks P := by
  refine wv_enter (lv := [(0, va_rf v0)]) hG (by decide +kernel) q2327 (by decide) (by simp [lg_sl, wv_rfc, wv_kI, wv_kJ, wv_kF, wv_kD]) (by simp [lv_args, wv_rfc, wv_kI, wv_kJ, wv_kF, wv_kD]) ?_
  intro p e R s m args below meth c X H locs cells slots ls S hl
  exact wk_X29_held_0 X hv H locs cells slots ls S (lv_sub hl [0] rfl)

def vc_X29_index_0 (G : wv_G) (fr : Nat) (P : wv_R → wv_H → Prop) (v0 : Option Nat) (w : wv_W) : Prop :=
  wv_gI w v0 ciX29 5 (fun x1 => P (.inl (some (.int x1))) w.1)
set_option maxHeartbeats 4000000 in
theorem wk_X29_index_0 {G : wv_G} {p : Program} {e : Env} {R : Room} {s : State} {m : MethodId} {args : Array Value} {below : List Frame} {meth : Method} {c : Code} {fr : Nat} {P : wv_R → wv_H → Prop} (X : wv_ok G p R s m args meth c fr "WeaversgateModel$Point" cX29_index 1 (Option.some Jvm.ClassFile.FieldType.int) "index" []) {v0 : Option Nat} {w : wv_W} (hv : vc_X29_index_0 G fr P v0 w) : wv_J G p e R s m args below meth c 1 P w 0 [(0, va_rf v0)] [] := by
  intro H locs cells slots ls S hl
  unfold vc_X29_index_0 at hv
  refine wq_aload_n X dX29_index_0 rfl (lv_at hl 0 rfl) ?_
  refine wq_gI X S hv ccX29 in_X29 (k := 5) (by decide) q2338 dX29_index_1 (fun x1 hv => ?_)
  exact wr_iret X S rfl hv dX29_index_4
theorem wk_X29_index {G : wv_G} (hG : wv_G0 G) {v0 : Option Nat} {h : wv_H} {fr kc ks : Nat} {P : wv_R → wv_H → Prop} (hv : vc_X29_index_0 G fr P v0 (h, kc, ks)) : wv_C G yX29_index [va_rf v0] h fr kc ks P := by
  refine wv_enter (lv := [(0, va_rf v0)]) hG (by decide +kernel) q2395 (by decide) (by simp [lg_sl, wv_rfc, wv_kI, wv_kJ, wv_kF, wv_kD]) (by simp [lv_args, wv_rfc, wv_kI, wv_kJ, wv_kF, wv_kD]) ?_
  intro p e R s m args below meth c X H locs cells slots ls S hl
  exact wk_X29_index_0 X hv H locs cells slots ls S (lv_sub hl [0] rfl)

def vc_X29_init_0 (G : wv_G) (fr : Nat) (P : wv_R → wv_H → Prop) (v0 : Option Nat) (v1 : Int32) (v2 : Int32) (v3 : Int32) (v4 : Int32) (v5 : Int32) (v6 : Int32) (v7 : Int32) (v8 : Int32) (w : wv_W) : Prop :=
  wv_cI G fr yJ23_init v0 [] w (wv_rV (fun w1 => wv_fit .char v1 ∧ wv_pt w1 v0 ciX29 0 (.int v1) (fun w6 => wv_pt w6 v0 ciX29 1 (.int v2) (fun w11 => wv_pt w11 v0 ciX29 2 (.int v3) (fun w16 => wv_pt w16 v0 ciX29 3 (.int v4) (fun w22 => wv_pt w22 v0 ciX29 4 (.int v5) (fun w28 => wv_pt w28 v0 ciX29 5 (.int v6) (fun w34 => wv_pt w34 v0 ciX29 6 (.int v7) (fun w40 => wv_pt w40 v0 ciX29 7 (.int v8) (fun w46 => P (.inl none) w46.1))))))))) (wv_pr P))
set_option maxHeartbeats 4000000 in
theorem wk_X29_init_0 {G : wv_G} {p : Program} {e : Env} {R : Room} {s : State} {m : MethodId} {args : Array Value} {below : List Frame} {meth : Method} {c : Code} {fr : Nat} {P : wv_R → wv_H → Prop} (X : wv_ok G p R s m args meth c fr "WeaversgateModel$Point" cX29_init 9 (Option.none : Option Jvm.ClassFile.FieldType) "<init>" []) {v0 : Option Nat} {v1 : Int32} {v2 : Int32} {v3 : Int32} {v4 : Int32} {v5 : Int32} {v6 : Int32} {v7 : Int32} {v8 : Int32} {w : wv_W} (hv : vc_X29_init_0 G fr P v0 v1 v2 v3 v4 v5 v6 v7 v8 w) : wv_J G p e R s m args below meth c 9 P w 0 [(0, va_rf v0), (1, .int v1), (2, .int v2), (3, .int v3), (4, .int v4), (5, .int v5), (6, .int v6), (7, .int v7), (8, .int v8)] [] := by
  intro H locs cells slots ls S hl
  unfold vc_X29_init_0 at hv
  refine wq_aload_n X dX29_init_0 rfl (lv_at hl 0 rfl) ?_
  refine wq_cI_V X S hv rfl q2332 q2108 q2109 q104 ⟨by decide +kernel, by decide +kernel⟩ (nA := 0) (As := []) (by decide +kernel) rfl rfl (by simp [wv_rfc, wv_kI, wv_kJ, wv_kF, wv_kD]) hl.1 dX29_init_1 (fun w1 H locs cells slots S hv => ?_) (wq_kx X rfl)
  refine wq_aload_n X dX29_init_4 rfl (lv_at hl 0 rfl) ?_
  refine lv_iload_n X.hx X.hb dX29_init_5 rfl (lv_at hl 1 rfl) ?_
  have hv6 := hv.1
  have hv := hv.2
  refine wq_ptF X S hv tyX29 tyX29_ok nmX29 ccX29 in_X29 (k := 0) (by decide) q2333 rfl rfl rfl hv6.1 hv6.2 dX29_init_6 (fun w6 H locs S hv => ?_)
  refine wq_aload_n X dX29_init_9 rfl (lv_at hl 0 rfl) ?_
  refine lv_iload_n X.hx X.hb dX29_init_10 rfl (lv_at hl 2 rfl) ?_
  refine wq_ptF X S hv tyX29 tyX29_ok nmX29 ccX29 in_X29 (k := 1) (by decide) q2334 rfl rfl rfl rfl rfl dX29_init_11 (fun w11 H locs S hv => ?_)
  refine wq_aload_n X dX29_init_14 rfl (lv_at hl 0 rfl) ?_
  refine lv_iload_n X.hx X.hb dX29_init_15 rfl (lv_at hl 3 rfl) ?_
  refine wq_ptF X S hv tyX29 tyX29_ok nmX29 ccX29 in_X29 (k := 2) (by decide) q2335 rfl rfl rfl rfl rfl dX29_init_16 (fun w16 H locs S hv => ?_)
  refine wq_aload_n X dX29_init_19 rfl (lv_at hl 0 rfl) ?_
  refine lv_iload X.hx X.hb dX29_init_20 (lv_at hl 4 rfl) ?_
  refine wq_ptF X S hv tyX29 tyX29_ok nmX29 ccX29 in_X29 (k := 3) (by decide) q2336 rfl rfl rfl rfl rfl dX29_init_22 (fun w22 H locs S hv => ?_)
  refine wq_aload_n X dX29_init_25 rfl (lv_at hl 0 rfl) ?_
  refine lv_iload X.hx X.hb dX29_init_26 (lv_at hl 5 rfl) ?_
  refine wq_ptF X S hv tyX29 tyX29_ok nmX29 ccX29 in_X29 (k := 4) (by decide) q2337 rfl rfl rfl rfl rfl dX29_init_28 (fun w28 H locs S hv => ?_)
  refine wq_aload_n X dX29_init_31 rfl (lv_at hl 0 rfl) ?_
  refine lv_iload X.hx X.hb dX29_init_32 (lv_at hl 6 rfl) ?_
  refine wq_ptF X S hv tyX29 tyX29_ok nmX29 ccX29 in_X29 (k := 5) (by decide) q2338 rfl rfl rfl rfl rfl dX29_init_34 (fun w34 H locs S hv => ?_)
  refine wq_aload_n X dX29_init_37 rfl (lv_at hl 0 rfl) ?_
  refine lv_iload X.hx X.hb dX29_init_38 (lv_at hl 7 rfl) ?_
  refine wq_ptF X S hv tyX29 tyX29_ok nmX29 ccX29 in_X29 (k := 6) (by decide) q2339 rfl rfl rfl rfl rfl dX29_init_40 (fun w40 H locs S hv => ?_)
  refine wq_aload_n X dX29_init_43 rfl (lv_at hl 0 rfl) ?_
  refine lv_iload X.hx X.hb dX29_init_44 (lv_at hl 8 rfl) ?_
  refine wq_ptF X S hv tyX29 tyX29_ok nmX29 ccX29 in_X29 (k := 7) (by decide) q2340 rfl rfl rfl rfl rfl dX29_init_46 (fun w46 H locs S hv => ?_)
  exact wr_vret X S hv dX29_init_49
theorem wk_X29_init {G : wv_G} (hG : wv_G0 G) {v0 : Option Nat} {v1 : Int32} {v2 : Int32} {v3 : Int32} {v4 : Int32} {v5 : Int32} {v6 : Int32} {v7 : Int32} {v8 : Int32} {h : wv_H} {fr kc ks : Nat} {P : wv_R → wv_H → Prop} (hv : vc_X29_init_0 G fr P v0 v1 v2 v3 v4 v5 v6 v7 v8 (h, kc, ks)) : wv_C G yX29_init [va_rf v0, .int v1, .int v2, .int v3, .int v4, .int v5, .int v6, .int v7, .int v8] h fr kc ks P := by
  refine wv_enter (lv := [(0, va_rf v0), (1, .int v1), (2, .int v2), (3, .int v3), (4, .int v4), (5, .int v5), (6, .int v6), (7, .int v7), (8, .int v8)]) hG (by decide +kernel) q2331 (by decide) (by simp [lg_sl, wv_rfc, wv_kI, wv_kJ, wv_kF, wv_kD]) (by simp [lv_args, wv_rfc, wv_kI, wv_kJ, wv_kF, wv_kD]) ?_
  intro p e R s m args below meth c X H locs cells slots ls S hl
  exact wk_X29_init_0 X hv H locs cells slots ls S (lv_sub hl [0, 1, 2, 3, 4, 5, 6, 7, 8] rfl)

def vc_X29_kind_0 (G : wv_G) (fr : Nat) (P : wv_R → wv_H → Prop) (v0 : Option Nat) (w : wv_W) : Prop :=
  wv_gI w v0 ciX29 0 (fun x1 => narrow .char (.int x1) = .int x1 ∧ P (.inl (some (.int x1))) w.1)
set_option maxHeartbeats 4000000 in
theorem wk_X29_kind_0 {G : wv_G} {p : Program} {e : Env} {R : Room} {s : State} {m : MethodId} {args : Array Value} {below : List Frame} {meth : Method} {c : Code} {fr : Nat} {P : wv_R → wv_H → Prop} (X : wv_ok G p R s m args meth c fr "WeaversgateModel$Point" cX29_kind 1 (Option.some Jvm.ClassFile.FieldType.char) "kind" []) {v0 : Option Nat} {w : wv_W} (hv : vc_X29_kind_0 G fr P v0 w) : wv_J G p e R s m args below meth c 1 P w 0 [(0, va_rf v0)] [] := by
  intro H locs cells slots ls S hl
  unfold vc_X29_kind_0 at hv
  refine wq_aload_n X dX29_kind_0 rfl (lv_at hl 0 rfl) ?_
  refine wq_gI X S hv ccX29 in_X29 (k := 0) (by decide) q2333 dX29_kind_1 (fun x1 hv => ?_)
  exact wr_iret X S hv.1 hv.2 dX29_kind_4
theorem wk_X29_kind {G : wv_G} (hG : wv_G0 G) {v0 : Option Nat} {h : wv_H} {fr kc ks : Nat} {P : wv_R → wv_H → Prop} (hv : vc_X29_kind_0 G fr P v0 (h, kc, ks)) : wv_C G yX29_kind [va_rf v0] h fr kc ks P := by
  refine wv_enter (lv := [(0, va_rf v0)]) hG (by decide +kernel) q2387 (by decide) (by simp [lg_sl, wv_rfc, wv_kI, wv_kJ, wv_kF, wv_kD]) (by simp [lv_args, wv_rfc, wv_kI, wv_kJ, wv_kF, wv_kD]) ?_
  intro p e R s m args below meth c X H locs cells slots ls S hl
  exact wk_X29_kind_0 X hv H locs cells slots ls S (lv_sub hl [0] rfl)

def vc_X29_method_0 (G : wv_G) (fr : Nat) (P : wv_R → wv_H → Prop) (v0 : Option Nat) (w : wv_W) : Prop :=
  wv_gI w v0 ciX29 4 (fun x1 => P (.inl (some (.int x1))) w.1)
set_option maxHeartbeats 4000000 in
theorem wk_X29_method_0 {G : wv_G} {p : Program} {e : Env} {R : Room} {s : State} {m : MethodId} {args : Array Value} {below : List Frame} {meth : Method} {c : Code} {fr : Nat} {P : wv_R → wv_H → Prop} (X : wv_ok G p R s m args meth c fr "WeaversgateModel$Point" cX29_method 1 (Option.some Jvm.ClassFile.FieldType.int) "method" []) {v0 : Option Nat} {w : wv_W} (hv : vc_X29_method_0 G fr P v0 w) : wv_J G p e R s m args below meth c 1 P w 0 [(0, va_rf v0)] [] := by
  intro H locs cells slots ls S hl
  unfold vc_X29_method_0 at hv
  refine wq_aload_n X dX29_method_0 rfl (lv_at hl 0 rfl) ?_
  refine wq_gI X S hv ccX29 in_X29 (k := 4) (by decide) q2337 dX29_method_1 (fun x1 hv => ?_)
  exact wr_iret X S rfl hv dX29_method_4
theorem wk_X29_method {G : wv_G} (hG : wv_G0 G) {v0 : Option Nat} {h : wv_H} {fr kc ks : Nat} {P : wv_R → wv_H → Prop} (hv : vc_X29_method_0 G fr P v0 (h, kc, ks)) : wv_C G yX29_method [va_rf v0] h fr kc ks P := by
  refine wv_enter (lv := [(0, va_rf v0)]) hG (by decide +kernel) q2380 (by decide) (by simp [lg_sl, wv_rfc, wv_kI, wv_kJ, wv_kF, wv_kD]) (by simp [lv_args, wv_rfc, wv_kI, wv_kJ, wv_kF, wv_kD]) ?_
  intro p e R s m args below meth c X H locs cells slots ls S hl
  exact wk_X29_method_0 X hv H locs cells slots ls S (lv_sub hl [0] rfl)

def vc_X29_name_0 (G : wv_G) (fr : Nat) (P : wv_R → wv_H → Prop) (v0 : Option Nat) (w : wv_W) : Prop :=
  wv_gI w v0 ciX29 1 (fun x1 => P (.inl (some (.int x1))) w.1)
set_option maxHeartbeats 4000000 in
theorem wk_X29_name_0 {G : wv_G} {p : Program} {e : Env} {R : Room} {s : State} {m : MethodId} {args : Array Value} {below : List Frame} {meth : Method} {c : Code} {fr : Nat} {P : wv_R → wv_H → Prop} (X : wv_ok G p R s m args meth c fr "WeaversgateModel$Point" cX29_name 1 (Option.some Jvm.ClassFile.FieldType.int) "name" []) {v0 : Option Nat} {w : wv_W} (hv : vc_X29_name_0 G fr P v0 w) : wv_J G p e R s m args below meth c 1 P w 0 [(0, va_rf v0)] [] := by
  intro H locs cells slots ls S hl
  unfold vc_X29_name_0 at hv
  refine wq_aload_n X dX29_name_0 rfl (lv_at hl 0 rfl) ?_
  refine wq_gI X S hv ccX29 in_X29 (k := 1) (by decide) q2334 dX29_name_1 (fun x1 hv => ?_)
  exact wr_iret X S rfl hv dX29_name_4
theorem wk_X29_name {G : wv_G} (hG : wv_G0 G) {v0 : Option Nat} {h : wv_H} {fr kc ks : Nat} {P : wv_R → wv_H → Prop} (hv : vc_X29_name_0 G fr P v0 (h, kc, ks)) : wv_C G yX29_name [va_rf v0] h fr kc ks P := by
  refine wv_enter (lv := [(0, va_rf v0)]) hG (by decide +kernel) q2409 (by decide) (by simp [lg_sl, wv_rfc, wv_kI, wv_kJ, wv_kF, wv_kD]) (by simp [lv_args, wv_rfc, wv_kI, wv_kJ, wv_kF, wv_kD]) ?_
  intro p e R s m args below meth c X H locs cells slots ls S hl
  exact wk_X29_name_0 X hv H locs cells slots ls S (lv_sub hl [0] rfl)

def vc_X29_placeClass_0 (G : wv_G) (fr : Nat) (P : wv_R → wv_H → Prop) (v0 : Option Nat) (w : wv_W) : Prop :=
  wv_gI w v0 ciX29 3 (fun x1 => P (.inl (some (.int x1))) w.1)
set_option maxHeartbeats 4000000 in
theorem wk_X29_placeClass_0 {G : wv_G} {p : Program} {e : Env} {R : Room} {s : State} {m : MethodId} {args : Array Value} {below : List Frame} {meth : Method} {c : Code} {fr : Nat} {P : wv_R → wv_H → Prop} (X : wv_ok G p R s m args meth c fr "WeaversgateModel$Point" cX29_placeClass 1 (Option.some Jvm.ClassFile.FieldType.int) "placeClass" []) {v0 : Option Nat} {w : wv_W} (hv : vc_X29_placeClass_0 G fr P v0 w) : wv_J G p e R s m args below meth c 1 P w 0 [(0, va_rf v0)] [] := by
  intro H locs cells slots ls S hl
  unfold vc_X29_placeClass_0 at hv
  refine wq_aload_n X dX29_placeClass_0 rfl (lv_at hl 0 rfl) ?_
  refine wq_gI X S hv ccX29 in_X29 (k := 3) (by decide) q2336 dX29_placeClass_1 (fun x1 hv => ?_)
  exact wr_iret X S rfl hv dX29_placeClass_4
theorem wk_X29_placeClass {G : wv_G} (hG : wv_G0 G) {v0 : Option Nat} {h : wv_H} {fr kc ks : Nat} {P : wv_R → wv_H → Prop} (hv : vc_X29_placeClass_0 G fr P v0 (h, kc, ks)) : wv_C G yX29_placeClass [va_rf v0] h fr kc ks P := by
  refine wv_enter (lv := [(0, va_rf v0)]) hG (by decide +kernel) q2372 (by decide) (by simp [lg_sl, wv_rfc, wv_kI, wv_kJ, wv_kF, wv_kD]) (by simp [lv_args, wv_rfc, wv_kI, wv_kJ, wv_kF, wv_kD]) ?_
  intro p e R s m args below meth c X H locs cells slots ls S hl
  exact wk_X29_placeClass_0 X hv H locs cells slots ls S (lv_sub hl [0] rfl)

def vc_X30_init_0 (G : wv_G) (fr : Nat) (P : wv_R → wv_H → Prop) (v0 : Option Nat) (v1 : Int32) (w : wv_W) : Prop :=
  wv_cI G fr yJ4_init_2 v0 [] w (wv_rV (fun w1 => wv_pt w1 v0 ciX30 6 (.int v1) (fun w6 => P (.inl none) w6.1)) (wv_pr P))
set_option maxHeartbeats 4000000 in
theorem wk_X30_init_0 {G : wv_G} {p : Program} {e : Env} {R : Room} {s : State} {m : MethodId} {args : Array Value} {below : List Frame} {meth : Method} {c : Code} {fr : Nat} {P : wv_R → wv_H → Prop} (X : wv_ok G p R s m args meth c fr "WeaversgateModel$Raised" cX30_init 2 (Option.none : Option Jvm.ClassFile.FieldType) "<init>" []) {v0 : Option Nat} {v1 : Int32} {w : wv_W} (hv : vc_X30_init_0 G fr P v0 v1 w) : wv_J G p e R s m args below meth c 2 P w 0 [(0, va_rf v0), (1, .int v1)] [] := by
  intro H locs cells slots ls S hl
  unfold vc_X30_init_0 at hv
  refine wq_aload_n X dX30_init_0 rfl (lv_at hl 0 rfl) ?_
  refine wq_cI_V X S hv rfl q2422 q991 q992 q69 ⟨by decide +kernel, by decide +kernel⟩ (nA := 0) (As := []) (by decide +kernel) rfl rfl (by simp [wv_rfc, wv_kI, wv_kJ, wv_kF, wv_kD]) hl.1 dX30_init_1 (fun w1 H locs cells slots S hv => ?_) (wq_kx X rfl)
  refine wq_aload_n X dX30_init_4 rfl (lv_at hl 0 rfl) ?_
  refine lv_iload_n X.hx X.hb dX30_init_5 rfl (lv_at hl 1 rfl) ?_
  refine wq_ptF X S hv tyX30 tyX30_ok nmX30 ccX30 in_X30 (k := 6) (by decide) q2423 rfl rfl rfl rfl rfl dX30_init_6 (fun w6 H locs S hv => ?_)
  exact wr_vret X S hv dX30_init_9
theorem wk_X30_init {G : wv_G} (hG : wv_G0 G) {v0 : Option Nat} {v1 : Int32} {h : wv_H} {fr kc ks : Nat} {P : wv_R → wv_H → Prop} (hv : vc_X30_init_0 G fr P v0 v1 (h, kc, ks)) : wv_C G yX30_init [va_rf v0, .int v1] h fr kc ks P := by
  refine wv_enter (lv := [(0, va_rf v0), (1, .int v1)]) hG (by decide +kernel) q2421 (by decide) (by simp [lg_sl, wv_rfc, wv_kI, wv_kJ, wv_kF, wv_kD]) (by simp [lv_args, wv_rfc, wv_kI, wv_kJ, wv_kF, wv_kD]) ?_
  intro p e R s m args below meth c X H locs cells slots ls S hl
  exact wk_X30_init_0 X hv H locs cells slots ls S (lv_sub hl [0, 1] rfl)

def vc_X31_advice_0 (G : wv_G) (fr : Nat) (P : wv_R → wv_H → Prop) (v0 : Option Nat) (w : wv_W) : Prop :=
  wv_gI w v0 ciX31 2 (fun x1 => P (.inl (some (.int x1))) w.1)
set_option maxHeartbeats 4000000 in
theorem wk_X31_advice_0 {G : wv_G} {p : Program} {e : Env} {R : Room} {s : State} {m : MethodId} {args : Array Value} {below : List Frame} {meth : Method} {c : Code} {fr : Nat} {P : wv_R → wv_H → Prop} (X : wv_ok G p R s m args meth c fr "WeaversgateModel$Act" cX31_advice 1 (Option.some Jvm.ClassFile.FieldType.int) "advice" []) {v0 : Option Nat} {w : wv_W} (hv : vc_X31_advice_0 G fr P v0 w) : wv_J G p e R s m args below meth c 1 P w 0 [(0, va_rf v0)] [] := by
  intro H locs cells slots ls S hl
  unfold vc_X31_advice_0 at hv
  refine wq_aload_n X dX31_advice_0 rfl (lv_at hl 0 rfl) ?_
  refine wq_gI X S hv ccX31 in_X31 (k := 2) (by decide) q2459 dX31_advice_1 (fun x1 hv => ?_)
  exact wr_iret X S rfl hv dX31_advice_4
theorem wk_X31_advice {G : wv_G} (hG : wv_G0 G) {v0 : Option Nat} {h : wv_H} {fr kc ks : Nat} {P : wv_R → wv_H → Prop} (hv : vc_X31_advice_0 G fr P v0 (h, kc, ks)) : wv_C G yX31_advice [va_rf v0] h fr kc ks P := by
  refine wv_enter (lv := [(0, va_rf v0)]) hG (by decide +kernel) q2524 (by decide) (by simp [lg_sl, wv_rfc, wv_kI, wv_kJ, wv_kF, wv_kD]) (by simp [lv_args, wv_rfc, wv_kI, wv_kJ, wv_kF, wv_kD]) ?_
  intro p e R s m args below meth c X H locs cells slots ls S hl
  exact wk_X31_advice_0 X hv H locs cells slots ls S (lv_sub hl [0] rfl)

def vc_X31_init_0 (G : wv_G) (fr : Nat) (P : wv_R → wv_H → Prop) (v0 : Option Nat) (v1 : Int32) (v2 : Int32) (v3 : Int32) (w : wv_W) : Prop :=
  wv_cI G fr yJ23_init v0 [] w (wv_rV (fun w1 => wv_fit .char v1 ∧ wv_pt w1 v0 ciX31 0 (.int v1) (fun w6 => wv_pt w6 v0 ciX31 1 (.int v2) (fun w11 => wv_pt w11 v0 ciX31 2 (.int v3) (fun w16 => P (.inl none) w16.1)))) (wv_pr P))
set_option maxHeartbeats 4000000 in
theorem wk_X31_init_0 {G : wv_G} {p : Program} {e : Env} {R : Room} {s : State} {m : MethodId} {args : Array Value} {below : List Frame} {meth : Method} {c : Code} {fr : Nat} {P : wv_R → wv_H → Prop} (X : wv_ok G p R s m args meth c fr "WeaversgateModel$Act" cX31_init 4 (Option.none : Option Jvm.ClassFile.FieldType) "<init>" []) {v0 : Option Nat} {v1 : Int32} {v2 : Int32} {v3 : Int32} {w : wv_W} (hv : vc_X31_init_0 G fr P v0 v1 v2 v3 w) : wv_J G p e R s m args below meth c 4 P w 0 [(0, va_rf v0), (1, .int v1), (2, .int v2), (3, .int v3)] [] := by
  intro H locs cells slots ls S hl
  unfold vc_X31_init_0 at hv
  refine wq_aload_n X dX31_init_0 rfl (lv_at hl 0 rfl) ?_
  refine wq_cI_V X S hv rfl q2456 q2108 q2109 q104 ⟨by decide +kernel, by decide +kernel⟩ (nA := 0) (As := []) (by decide +kernel) rfl rfl (by simp [wv_rfc, wv_kI, wv_kJ, wv_kF, wv_kD]) hl.1 dX31_init_1 (fun w1 H locs cells slots S hv => ?_) (wq_kx X rfl)
  refine wq_aload_n X dX31_init_4 rfl (lv_at hl 0 rfl) ?_
  refine lv_iload_n X.hx X.hb dX31_init_5 rfl (lv_at hl 1 rfl) ?_
  have hv6 := hv.1
  have hv := hv.2
  refine wq_ptF X S hv tyX31 tyX31_ok nmX31 ccX31 in_X31 (k := 0) (by decide) q2457 rfl rfl rfl hv6.1 hv6.2 dX31_init_6 (fun w6 H locs S hv => ?_)
  refine wq_aload_n X dX31_init_9 rfl (lv_at hl 0 rfl) ?_
  refine lv_iload_n X.hx X.hb dX31_init_10 rfl (lv_at hl 2 rfl) ?_
  refine wq_ptF X S hv tyX31 tyX31_ok nmX31 ccX31 in_X31 (k := 1) (by decide) q2458 rfl rfl rfl rfl rfl dX31_init_11 (fun w11 H locs S hv => ?_)
  refine wq_aload_n X dX31_init_14 rfl (lv_at hl 0 rfl) ?_
  refine lv_iload_n X.hx X.hb dX31_init_15 rfl (lv_at hl 3 rfl) ?_
  refine wq_ptF X S hv tyX31 tyX31_ok nmX31 ccX31 in_X31 (k := 2) (by decide) q2459 rfl rfl rfl rfl rfl dX31_init_16 (fun w16 H locs S hv => ?_)
  exact wr_vret X S hv dX31_init_19
theorem wk_X31_init {G : wv_G} (hG : wv_G0 G) {v0 : Option Nat} {v1 : Int32} {v2 : Int32} {v3 : Int32} {h : wv_H} {fr kc ks : Nat} {P : wv_R → wv_H → Prop} (hv : vc_X31_init_0 G fr P v0 v1 v2 v3 (h, kc, ks)) : wv_C G yX31_init [va_rf v0, .int v1, .int v2, .int v3] h fr kc ks P := by
  refine wv_enter (lv := [(0, va_rf v0), (1, .int v1), (2, .int v2), (3, .int v3)]) hG (by decide +kernel) q2455 (by decide) (by simp [lg_sl, wv_rfc, wv_kI, wv_kJ, wv_kF, wv_kD]) (by simp [lv_args, wv_rfc, wv_kI, wv_kJ, wv_kF, wv_kD]) ?_
  intro p e R s m args below meth c X H locs cells slots ls S hl
  exact wk_X31_init_0 X hv H locs cells slots ls S (lv_sub hl [0, 1, 2, 3] rfl)

def vc_X31_kind_0 (G : wv_G) (fr : Nat) (P : wv_R → wv_H → Prop) (v0 : Option Nat) (w : wv_W) : Prop :=
  wv_gI w v0 ciX31 0 (fun x1 => narrow .char (.int x1) = .int x1 ∧ P (.inl (some (.int x1))) w.1)
set_option maxHeartbeats 4000000 in
theorem wk_X31_kind_0 {G : wv_G} {p : Program} {e : Env} {R : Room} {s : State} {m : MethodId} {args : Array Value} {below : List Frame} {meth : Method} {c : Code} {fr : Nat} {P : wv_R → wv_H → Prop} (X : wv_ok G p R s m args meth c fr "WeaversgateModel$Act" cX31_kind 1 (Option.some Jvm.ClassFile.FieldType.char) "kind" []) {v0 : Option Nat} {w : wv_W} (hv : vc_X31_kind_0 G fr P v0 w) : wv_J G p e R s m args below meth c 1 P w 0 [(0, va_rf v0)] [] := by
  intro H locs cells slots ls S hl
  unfold vc_X31_kind_0 at hv
  refine wq_aload_n X dX31_kind_0 rfl (lv_at hl 0 rfl) ?_
  refine wq_gI X S hv ccX31 in_X31 (k := 0) (by decide) q2457 dX31_kind_1 (fun x1 hv => ?_)
  exact wr_iret X S hv.1 hv.2 dX31_kind_4
theorem wk_X31_kind {G : wv_G} (hG : wv_G0 G) {v0 : Option Nat} {h : wv_H} {fr kc ks : Nat} {P : wv_R → wv_H → Prop} (hv : vc_X31_kind_0 G fr P v0 (h, kc, ks)) : wv_C G yX31_kind [va_rf v0] h fr kc ks P := by
  refine wv_enter (lv := [(0, va_rf v0)]) hG (by decide +kernel) q2508 (by decide) (by simp [lg_sl, wv_rfc, wv_kI, wv_kJ, wv_kF, wv_kD]) (by simp [lv_args, wv_rfc, wv_kI, wv_kJ, wv_kF, wv_kD]) ?_
  intro p e R s m args below meth c X H locs cells slots ls S hl
  exact wk_X31_kind_0 X hv H locs cells slots ls S (lv_sub hl [0] rfl)

def vc_X31_number_0 (G : wv_G) (fr : Nat) (P : wv_R → wv_H → Prop) (v0 : Option Nat) (w : wv_W) : Prop :=
  wv_gI w v0 ciX31 1 (fun x1 => P (.inl (some (.int x1))) w.1)
set_option maxHeartbeats 4000000 in
theorem wk_X31_number_0 {G : wv_G} {p : Program} {e : Env} {R : Room} {s : State} {m : MethodId} {args : Array Value} {below : List Frame} {meth : Method} {c : Code} {fr : Nat} {P : wv_R → wv_H → Prop} (X : wv_ok G p R s m args meth c fr "WeaversgateModel$Act" cX31_number 1 (Option.some Jvm.ClassFile.FieldType.int) "number" []) {v0 : Option Nat} {w : wv_W} (hv : vc_X31_number_0 G fr P v0 w) : wv_J G p e R s m args below meth c 1 P w 0 [(0, va_rf v0)] [] := by
  intro H locs cells slots ls S hl
  unfold vc_X31_number_0 at hv
  refine wq_aload_n X dX31_number_0 rfl (lv_at hl 0 rfl) ?_
  refine wq_gI X S hv ccX31 in_X31 (k := 1) (by decide) q2458 dX31_number_1 (fun x1 hv => ?_)
  exact wr_iret X S rfl hv dX31_number_4
theorem wk_X31_number {G : wv_G} (hG : wv_G0 G) {v0 : Option Nat} {h : wv_H} {fr kc ks : Nat} {P : wv_R → wv_H → Prop} (hv : vc_X31_number_0 G fr P v0 (h, kc, ks)) : wv_C G yX31_number [va_rf v0] h fr kc ks P := by
  refine wv_enter (lv := [(0, va_rf v0)]) hG (by decide +kernel) q2516 (by decide) (by simp [lg_sl, wv_rfc, wv_kI, wv_kJ, wv_kF, wv_kD]) (by simp [lv_args, wv_rfc, wv_kI, wv_kJ, wv_kF, wv_kD]) ?_
  intro p e R s m args below meth c X H locs cells slots ls S hl
  exact wk_X31_number_0 X hv H locs cells slots ls S (lv_sub hl [0] rfl)
