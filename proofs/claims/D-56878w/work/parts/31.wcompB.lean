def vc_X1_acted_0 (G : wv_G) (fr : Nat) (P : wv_R → wv_H → Prop) (v0 : Option Nat) (v1 : Int32) (w : wv_W) : Prop :=
  wv_c0 G fr yX1_isAdvice [.int v1] w (wv_rI (fun x1 w1 => wv_c0 G fr yX1_checkArgument [.int x1] w1 (wv_rV (fun w4 => wv_gA w4 v0 ciX1 4 (fun x8 => wv_gA w4 x8 ciX2 0 (fun x11 => wv_c0 G fr yX1_count [va_rf x11, .int v1] w4 (wv_rI (fun x15 w15 => P (.inl (some (.int x15))) w15.1) (wv_pr P))))) (wv_pr P))) (wv_pr P))
set_option maxHeartbeats 4000000 in
theorem wk_X1_acted_0 {G : wv_G} {p : Program} {e : Env} {R : Room} {s : State} {m : MethodId} {args : Array Value} {below : List Frame} {meth : Method} {c : Code} {fr : Nat} {P : wv_R → wv_H → Prop} (X : wv_ok G p R s m args meth c fr "Weaversgate" cX1_acted 2 (Option.some Jvm.ClassFile.FieldType.int) "acted" []) {v0 : Option Nat} {v1 : Int32} {w : wv_W} (hv : vc_X1_acted_0 G fr P v0 v1 w) : wv_J G p e R s m args below meth c 2 P w 0 [(0, va_rf v0), (1, .int v1)] [] := by
  intro H locs cells slots ls S hl
  unfold vc_X1_acted_0 at hv
  refine lv_iload_n X.hx X.hb dX1_acted_0 rfl (lv_at hl 1 rfl) ?_
  refine wq_cS_I X S hv q1529 q1530 q60 ⟨by decide +kernel, by decide +kernel⟩ (nA := 1) (As := [.int v1]) (by decide +kernel) rfl rfl (by simp [wv_rfc, wv_kI, wv_kJ, wv_kF, wv_kD]) hl.1 dX1_acted_1 (fun x1 w1 H locs cells slots S hv => ?_) (wq_kx X rfl)
  refine wq_cS_V X S hv q1326 q1327 q60 ⟨by decide +kernel, by decide +kernel⟩ (nA := 1) (As := [.int x1]) (by decide +kernel) rfl rfl (by simp [wv_rfc, wv_kI, wv_kJ, wv_kF, wv_kD]) hl.1 dX1_acted_4 (fun w4 H locs cells slots S hv => ?_) (wq_kx X rfl)
  refine wq_aload_n X dX1_acted_7 rfl (lv_at hl 0 rfl) ?_
  refine wq_gA X S hv ccX1 in_X1 (k := 4) (by decide) q231 dX1_acted_8 (fun x8 hv => ?_)
  refine wq_gAN X S hv ccX2 in_X2 (k := 0) (by decide) q192 dX1_acted_11 (fun x11 hv => ?_)
  refine lv_iload_n X.hx X.hb dX1_acted_14 rfl (lv_at hl 1 rfl) ?_
  refine wq_cS_I X S hv q1669 q1670 q60 ⟨by decide +kernel, by decide +kernel⟩ (nA := 2) (As := [va_rf x11, .int v1]) (by decide +kernel) rfl rfl (by simp [wv_rfc, wv_kI, wv_kJ, wv_kF, wv_kD]) hl.1 dX1_acted_15 (fun x15 w15 H locs cells slots S hv => ?_) (wq_kx X rfl)
  exact wr_iret X S rfl hv dX1_acted_18
theorem wk_X1_acted {G : wv_G} (hG : wv_G0 G) {v0 : Option Nat} {v1 : Int32} {h : wv_H} {fr kc ks : Nat} {P : wv_R → wv_H → Prop} (hv : vc_X1_acted_0 G fr P v0 v1 (h, kc, ks)) : wv_C G yX1_acted [va_rf v0, .int v1] h fr kc ks P := by
  refine wv_enter (lv := [(0, va_rf v0), (1, .int v1)]) hG (by decide +kernel) q1668 (by decide) (by simp [lg_sl, wv_rfc, wv_kI, wv_kJ, wv_kF, wv_kD]) (by simp [lv_args, wv_rfc, wv_kI, wv_kJ, wv_kF, wv_kD]) ?_
  intro p e R s m args below meth c X H locs cells slots ls S hl
  exact wk_X1_acted_0 X hv H locs cells slots ls S (lv_sub hl [0, 1] rfl)

def vc_X1_addAdvice_78 (G : wv_G) (fr : Nat) (P : wv_R → wv_H → Prop) (v0 : Option Nat) (v1 : Int32) (v2 : Int32) (v4 : Int32) (v5 : Int32) (v6 : Option Nat) (s0 : Int32) (w : wv_W) : Prop :=
  wv_c0 G fr yX1_checkState [.int s0] w (wv_rV (fun w78 => wv_gA w78 v0 ciX1 2 (fun x82 => wv_no G w78 (wo_o ciX19 [.int 0, .int 0, .int 0, va_rf none, .int 0, .int 0, .int 0]) 7 (fun a85 w85 => wv_gA w85 v0 ciX1 2 (fun x90 => wv_cV G fr yJ2_size x90 [] w85 (wv_rI (fun x93 w93 => wv_cI G fr yX19_init (some a85) [.int x93, .int v1, .int v2, va_rf v6, .int v4, .int v5] w93 (wv_rV (fun w104 => wv_cV G fr yJ2_add x82 [va_rf (some a85)] w104 (wv_rI (fun x107 w107 => wv_gA w107 v0 ciX1 2 (fun x112 => wv_cV G fr yJ2_size x112 [] w107 (wv_rI (fun x115 w115 => P (.inl (some (.int (x115 - (1 : Int32))))) w115.1) (wv_pr P)))) (wv_pr P))) (wv_pr P))) (wv_pr P)))))) (wv_pr P))
def vc_X1_addAdvice_51 (G : wv_G) (fr : Nat) (P : wv_R → wv_H → Prop) (v0 : Option Nat) (v1 : Int32) (v2 : Int32) (v3 : Int32) (v4 : Int32) (v5 : Int32) (s0 : Int32) (w : wv_W) : Prop :=
  wv_c0 G fr yX1_checkArgument [.int s0] w (wv_rV (fun w51 => wv_cV G fr yX1_pattern v0 [.int v3] w51 (wv_rA (fun x56 w56 => wv_gA w56 v0 ciX1 2 (fun x62 => wv_cV G fr yJ2_size x62 [] w56 (wv_rI (fun x65 w65 => ((12 : Int32) ≤ x65 → vc_X1_addAdvice_78 G fr P v0 v1 v2 v4 v5 x56 (0 : Int32) w65) ∧ (¬ (12 : Int32) ≤ x65 → vc_X1_addAdvice_78 G fr P v0 v1 v2 v4 v5 x56 (1 : Int32) w65)) (wv_pr P)))) (wv_pr P))) (wv_pr P))
def vc_X1_addAdvice_21 (G : wv_G) (fr : Nat) (P : wv_R → wv_H → Prop) (v0 : Option Nat) (v1 : Int32) (v2 : Int32) (v3 : Int32) (v4 : Int32) (v5 : Int32) (s0 : Int32) (w : wv_W) : Prop :=
  wv_c0 G fr yX1_checkArgument [.int s0] w (wv_rV (fun w21 => wv_c0 G fr yX1_inRange [.int v4, .int (-99 : Int32), .int (99 : Int32)] w21 (wv_rI (fun x30 w30 => (x30 = 0 → vc_X1_addAdvice_51 G fr P v0 v1 v2 v3 v4 v5 (0 : Int32) w30) ∧ (¬ x30 = 0 → wv_c0 G fr yX1_inRange [.int v5, .int (0 : Int32), .int (2 : Int32)] w30 (wv_rI (fun x40 w40 => (x40 = 0 → vc_X1_addAdvice_51 G fr P v0 v1 v2 v3 v4 v5 (0 : Int32) w40) ∧ (¬ x40 = 0 → vc_X1_addAdvice_51 G fr P v0 v1 v2 v3 v4 v5 (1 : Int32) w40)) (wv_pr P)))) (wv_pr P))) (wv_pr P))
def vc_X1_addAdvice_0 (G : wv_G) (fr : Nat) (P : wv_R → wv_H → Prop) (v0 : Option Nat) (v1 : Int32) (v2 : Int32) (v3 : Int32) (v4 : Int32) (v5 : Int32) (w : wv_W) : Prop :=
  wv_c0 G fr yX1_inRange [.int v1, .int (0 : Int32), .int (3 : Int32)] w (wv_rI (fun x3 w3 => (x3 = 0 → vc_X1_addAdvice_21 G fr P v0 v1 v2 v3 v4 v5 (0 : Int32) w3) ∧ (¬ x3 = 0 → wv_c0 G fr yX1_isAdvice [.int v2] w3 (wv_rI (fun x10 w10 => (x10 = 0 → vc_X1_addAdvice_21 G fr P v0 v1 v2 v3 v4 v5 (0 : Int32) w10) ∧ (¬ x10 = 0 → vc_X1_addAdvice_21 G fr P v0 v1 v2 v3 v4 v5 (1 : Int32) w10)) (wv_pr P)))) (wv_pr P))
set_option maxHeartbeats 4000000 in
theorem wk_X1_addAdvice_78 {G : wv_G} {p : Program} {e : Env} {R : Room} {s : State} {m : MethodId} {args : Array Value} {below : List Frame} {meth : Method} {c : Code} {fr : Nat} {P : wv_R → wv_H → Prop} (X : wv_ok G p R s m args meth c fr "Weaversgate" cX1_addAdvice 7 (Option.some Jvm.ClassFile.FieldType.int) "addAdvice" []) {v0 : Option Nat} {v1 : Int32} {v2 : Int32} {v4 : Int32} {v5 : Int32} {v6 : Option Nat} {s0 : Int32} {w : wv_W} (hv : vc_X1_addAdvice_78 G fr P v0 v1 v2 v4 v5 v6 s0 w) : wv_J G p e R s m args below meth c 7 P w 78 [(0, va_rf v0), (1, .int v1), (2, .int v2), (4, .int v4), (5, .int v5), (6, va_rf v6)] [.int s0] := by
  intro H locs cells slots ls S hl
  unfold vc_X1_addAdvice_78 at hv
  refine wq_cS_V X S hv q1264 q1265 q60 ⟨by decide +kernel, by decide +kernel⟩ (nA := 1) (As := [.int s0]) (by decide +kernel) rfl rfl (by simp [wv_rfc, wv_kI, wv_kJ, wv_kF, wv_kD]) hl.1 dX1_addAdvice_78 (fun w78 H locs cells slots S hv => ?_) (wq_kx X rfl)
  refine wq_aload_n X dX1_addAdvice_81 rfl (lv_at hl 0 rfl) ?_
  refine wq_gA X S hv ccX1 in_X1 (k := 2) (by decide) q229 dX1_addAdvice_82 (fun x82 hv => ?_)
  refine wq_new X S hv tyX19 tyX19_ok ccX19 in_X19 q829 q1532 q98 (fun j hj => by have hj : j < 7 := hj; rcases (show j = 0 ∨ j = 1 ∨ j = 2 ∨ j = 3 ∨ j = 4 ∨ j = 5 ∨ j = 6 by omega) with rfl | rfl | rfl | rfl | rfl | rfl | rfl <;> rfl) dX1_addAdvice_85 (fun a85 w85 H cells slots S hv => ?_)
  refine lv_dup X.hx X.hb dX1_addAdvice_88 (wv_rfc _) ?_
  refine wq_aload_n X dX1_addAdvice_89 rfl (lv_at hl 0 rfl) ?_
  refine wq_gA X S hv ccX1 in_X1 (k := 2) (by decide) q229 dX1_addAdvice_90 (fun x90 hv => ?_)
  refine wq_cV_I X S hv q269 q270 q271 q63 ⟨by decide +kernel, by decide +kernel⟩ (nA := 0) (As := []) (by decide +kernel) rfl rfl (by simp [wv_rfc, wv_kI, wv_kJ, wv_kF, wv_kD]) hl.1 dX1_addAdvice_93 (fun x93 w93 H locs cells slots S hv => ?_) (wq_kx X rfl)
  refine lv_iload_n X.hx X.hb dX1_addAdvice_96 rfl (lv_at hl 1 rfl) ?_
  refine lv_iload_n X.hx X.hb dX1_addAdvice_97 rfl (lv_at hl 2 rfl) ?_
  refine wq_aload X dX1_addAdvice_98 (lv_at hl 5 rfl) ?_
  refine lv_iload X.hx X.hb dX1_addAdvice_100 (lv_at hl 3 rfl) ?_
  refine lv_iload X.hx X.hb dX1_addAdvice_102 (lv_at hl 4 rfl) ?_
  refine wq_cI_V X S hv rfl q1533 q1534 q1535 q98 ⟨by decide +kernel, by decide +kernel⟩ (nA := 6) (As := [.int x93, .int v1, .int v2, va_rf v6, .int v4, .int v5]) (by decide +kernel) rfl rfl (by simp [wv_rfc, wv_kI, wv_kJ, wv_kF, wv_kD]) hl.1 dX1_addAdvice_104 (fun w104 H locs cells slots S hv => ?_) (wq_kx X rfl)
  refine wq_cV_I X S hv q751 q752 q753 q63 ⟨by decide +kernel, by decide +kernel⟩ (nA := 1) (As := [va_rf (some a85)]) (by decide +kernel) rfl rfl (by simp [wv_rfc, wv_kI, wv_kJ, wv_kF, wv_kD]) hl.1 dX1_addAdvice_107 (fun x107 w107 H locs cells slots S hv => ?_) (wq_kx X rfl)
  refine lv_pop X.hx X.hb dX1_addAdvice_110 rfl ?_
  refine wq_aload_n X dX1_addAdvice_111 rfl (lv_at hl 0 rfl) ?_
  refine wq_gA X S hv ccX1 in_X1 (k := 2) (by decide) q229 dX1_addAdvice_112 (fun x112 hv => ?_)
  refine wq_cV_I X S hv q269 q270 q271 q63 ⟨by decide +kernel, by decide +kernel⟩ (nA := 0) (As := []) (by decide +kernel) rfl rfl (by simp [wv_rfc, wv_kI, wv_kJ, wv_kF, wv_kD]) hl.1 dX1_addAdvice_115 (fun x115 w115 H locs cells slots S hv => ?_) (wq_kx X rfl)
  refine lv_iconst (v := (1 : Int32)) X.hx X.hb dX1_addAdvice_118 (by decide) ?_
  refine lv_isub X.hx X.hb dX1_addAdvice_119 ?_
  exact wr_iret X S rfl hv dX1_addAdvice_120
set_option maxHeartbeats 4000000 in
theorem wk_X1_addAdvice_51 {G : wv_G} {p : Program} {e : Env} {R : Room} {s : State} {m : MethodId} {args : Array Value} {below : List Frame} {meth : Method} {c : Code} {fr : Nat} {P : wv_R → wv_H → Prop} (X : wv_ok G p R s m args meth c fr "Weaversgate" cX1_addAdvice 7 (Option.some Jvm.ClassFile.FieldType.int) "addAdvice" []) {v0 : Option Nat} {v1 : Int32} {v2 : Int32} {v3 : Int32} {v4 : Int32} {v5 : Int32} {s0 : Int32} {w : wv_W} (hv : vc_X1_addAdvice_51 G fr P v0 v1 v2 v3 v4 v5 s0 w) : wv_J G p e R s m args below meth c 7 P w 51 [(0, va_rf v0), (1, .int v1), (2, .int v2), (3, .int v3), (4, .int v4), (5, .int v5)] [.int s0] := by
  intro H locs cells slots ls S hl
  unfold vc_X1_addAdvice_51 at hv
  refine wq_cS_V X S hv q1326 q1327 q60 ⟨by decide +kernel, by decide +kernel⟩ (nA := 1) (As := [.int s0]) (by decide +kernel) rfl rfl (by simp [wv_rfc, wv_kI, wv_kJ, wv_kF, wv_kD]) hl.1 dX1_addAdvice_51 (fun w51 H locs cells slots S hv => ?_) (wq_kx X rfl)
  refine wq_aload_n X dX1_addAdvice_54 rfl (lv_at hl 0 rfl) ?_
  refine lv_iload_n X.hx X.hb dX1_addAdvice_55 rfl (lv_at hl 3 rfl) ?_
  refine wq_cV_A X S hv q1433 q1435 qs31 q60 ⟨by decide +kernel, by decide +kernel⟩ (nA := 1) (As := [.int v3]) (by decide +kernel) rfl rfl (by simp [wv_rfc, wv_kI, wv_kJ, wv_kF, wv_kD]) hl.1 dX1_addAdvice_56 (fun x56 w56 H locs cells slots S hv => ?_) (wq_kx X rfl)
  refine wq_astore X (i := 6) (lv' := [(6, va_rf x56), (0, va_rf v0), (1, .int v1), (2, .int v2), (3, .int v3), (4, .int v4), (5, .int v5)]) dX1_addAdvice_59 hl (by decide) (by simp [wv_rfc, wv_kI, wv_kJ, wv_kF, wv_kD]) (fun ls hl => ?_)
  refine wq_aload_n X dX1_addAdvice_61 rfl (lv_at hl 1 rfl) ?_
  refine wq_gA X S hv ccX1 in_X1 (k := 2) (by decide) q229 dX1_addAdvice_62 (fun x62 hv => ?_)
  refine wq_cV_I X S hv q269 q270 q271 q63 ⟨by decide +kernel, by decide +kernel⟩ (nA := 0) (As := []) (by decide +kernel) rfl rfl (by simp [wv_rfc, wv_kI, wv_kJ, wv_kF, wv_kD]) hl.1 dX1_addAdvice_65 (fun x65 w65 H locs cells slots S hv => ?_) (wq_kx X rfl)
  refine lv_bipush (v := (12 : Int32)) X.hx X.hb dX1_addAdvice_68 (by decide) ?_
  refine lv_icmp_ge (tgt := 77) X.hx X.hb dX1_addAdvice_70 (by decide) (fun c70 => ?_) (fun c70 => ?_)
  · have hv := hv.1 c70
    refine lv_iconst (v := (0 : Int32)) X.hx X.hb dX1_addAdvice_77 (by decide) ?_
    exact wk_X1_addAdvice_78 X  hv H locs cells slots ls S (lv_sub hl [1, 2, 3, 5, 6, 0] rfl)
  · have hv := hv.2 c70
    refine lv_iconst (v := (1 : Int32)) X.hx X.hb dX1_addAdvice_73 (by decide) ?_
    refine lv_goto (tgt := 78) X.hx X.hb dX1_addAdvice_74 (by decide) ?_
    exact wk_X1_addAdvice_78 X  hv H locs cells slots ls S (lv_sub hl [1, 2, 3, 5, 6, 0] rfl)
set_option maxHeartbeats 4000000 in
theorem wk_X1_addAdvice_21 {G : wv_G} {p : Program} {e : Env} {R : Room} {s : State} {m : MethodId} {args : Array Value} {below : List Frame} {meth : Method} {c : Code} {fr : Nat} {P : wv_R → wv_H → Prop} (X : wv_ok G p R s m args meth c fr "Weaversgate" cX1_addAdvice 7 (Option.some Jvm.ClassFile.FieldType.int) "addAdvice" []) {v0 : Option Nat} {v1 : Int32} {v2 : Int32} {v3 : Int32} {v4 : Int32} {v5 : Int32} {s0 : Int32} {w : wv_W} (hv : vc_X1_addAdvice_21 G fr P v0 v1 v2 v3 v4 v5 s0 w) : wv_J G p e R s m args below meth c 7 P w 21 [(0, va_rf v0), (1, .int v1), (2, .int v2), (3, .int v3), (4, .int v4), (5, .int v5)] [.int s0] := by
  intro H locs cells slots ls S hl
  unfold vc_X1_addAdvice_21 at hv
  refine wq_cS_V X S hv q1326 q1327 q60 ⟨by decide +kernel, by decide +kernel⟩ (nA := 1) (As := [.int s0]) (by decide +kernel) rfl rfl (by simp [wv_rfc, wv_kI, wv_kJ, wv_kF, wv_kD]) hl.1 dX1_addAdvice_21 (fun w21 H locs cells slots S hv => ?_) (wq_kx X rfl)
  refine lv_iload X.hx X.hb dX1_addAdvice_24 (lv_at hl 4 rfl) ?_
  refine lv_bipush (v := (-99 : Int32)) X.hx X.hb dX1_addAdvice_26 (by decide) ?_
  refine lv_bipush (v := (99 : Int32)) X.hx X.hb dX1_addAdvice_28 (by decide) ?_
  refine wq_cS_I X S hv q1243 q1244 q60 ⟨by decide +kernel, by decide +kernel⟩ (nA := 3) (As := [.int v4, .int (-99 : Int32), .int (99 : Int32)]) (by decide +kernel) rfl rfl (by simp [wv_rfc, wv_kI, wv_kJ, wv_kF, wv_kD]) hl.1 dX1_addAdvice_30 (fun x30 w30 H locs cells slots S hv => ?_) (wq_kx X rfl)
  refine lv_if_eq (tgt := 50) X.hx X.hb dX1_addAdvice_33 (by decide) (fun c33 => ?_) (fun c33 => ?_)
  · have hv := hv.1 c33
    refine lv_iconst (v := (0 : Int32)) X.hx X.hb dX1_addAdvice_50 (by decide) ?_
    exact wk_X1_addAdvice_51 X  hv H locs cells slots ls S (lv_sub hl [0, 1, 2, 3, 4, 5] rfl)
  · have hv := hv.2 c33
    refine lv_iload X.hx X.hb dX1_addAdvice_36 (lv_at hl 5 rfl) ?_
    refine lv_iconst (v := (0 : Int32)) X.hx X.hb dX1_addAdvice_38 (by decide) ?_
    refine lv_iconst (v := (2 : Int32)) X.hx X.hb dX1_addAdvice_39 (by decide) ?_
    refine wq_cS_I X S hv q1243 q1244 q60 ⟨by decide +kernel, by decide +kernel⟩ (nA := 3) (As := [.int v5, .int (0 : Int32), .int (2 : Int32)]) (by decide +kernel) rfl rfl (by simp [wv_rfc, wv_kI, wv_kJ, wv_kF, wv_kD]) hl.1 dX1_addAdvice_40 (fun x40 w40 H locs cells slots S hv => ?_) (wq_kx X rfl)
    refine lv_if_eq (tgt := 50) X.hx X.hb dX1_addAdvice_43 (by decide) (fun c43 => ?_) (fun c43 => ?_)
    · have hv := hv.1 c43
      refine lv_iconst (v := (0 : Int32)) X.hx X.hb dX1_addAdvice_50 (by decide) ?_
      exact wk_X1_addAdvice_51 X  hv H locs cells slots ls S (lv_sub hl [0, 1, 2, 3, 4, 5] rfl)
    · have hv := hv.2 c43
      refine lv_iconst (v := (1 : Int32)) X.hx X.hb dX1_addAdvice_46 (by decide) ?_
      refine lv_goto (tgt := 51) X.hx X.hb dX1_addAdvice_47 (by decide) ?_
      exact wk_X1_addAdvice_51 X  hv H locs cells slots ls S (lv_sub hl [0, 1, 2, 3, 4, 5] rfl)
set_option maxHeartbeats 4000000 in
theorem wk_X1_addAdvice_0 {G : wv_G} {p : Program} {e : Env} {R : Room} {s : State} {m : MethodId} {args : Array Value} {below : List Frame} {meth : Method} {c : Code} {fr : Nat} {P : wv_R → wv_H → Prop} (X : wv_ok G p R s m args meth c fr "Weaversgate" cX1_addAdvice 7 (Option.some Jvm.ClassFile.FieldType.int) "addAdvice" []) {v0 : Option Nat} {v1 : Int32} {v2 : Int32} {v3 : Int32} {v4 : Int32} {v5 : Int32} {w : wv_W} (hv : vc_X1_addAdvice_0 G fr P v0 v1 v2 v3 v4 v5 w) : wv_J G p e R s m args below meth c 7 P w 0 [(0, va_rf v0), (1, .int v1), (2, .int v2), (3, .int v3), (4, .int v4), (5, .int v5)] [] := by
  intro H locs cells slots ls S hl
  unfold vc_X1_addAdvice_0 at hv
  refine lv_iload_n X.hx X.hb dX1_addAdvice_0 rfl (lv_at hl 1 rfl) ?_
  refine lv_iconst (v := (0 : Int32)) X.hx X.hb dX1_addAdvice_1 (by decide) ?_
  refine lv_iconst (v := (3 : Int32)) X.hx X.hb dX1_addAdvice_2 (by decide) ?_
  refine wq_cS_I X S hv q1243 q1244 q60 ⟨by decide +kernel, by decide +kernel⟩ (nA := 3) (As := [.int v1, .int (0 : Int32), .int (3 : Int32)]) (by decide +kernel) rfl rfl (by simp [wv_rfc, wv_kI, wv_kJ, wv_kF, wv_kD]) hl.1 dX1_addAdvice_3 (fun x3 w3 H locs cells slots S hv => ?_) (wq_kx X rfl)
  refine lv_if_eq (tgt := 20) X.hx X.hb dX1_addAdvice_6 (by decide) (fun c6 => ?_) (fun c6 => ?_)
  · have hv := hv.1 c6
    refine lv_iconst (v := (0 : Int32)) X.hx X.hb dX1_addAdvice_20 (by decide) ?_
    exact wk_X1_addAdvice_21 X  hv H locs cells slots ls S (lv_sub hl [0, 1, 2, 3, 4, 5] rfl)
  · have hv := hv.2 c6
    refine lv_iload_n X.hx X.hb dX1_addAdvice_9 rfl (lv_at hl 2 rfl) ?_
    refine wq_cS_I X S hv q1529 q1530 q60 ⟨by decide +kernel, by decide +kernel⟩ (nA := 1) (As := [.int v2]) (by decide +kernel) rfl rfl (by simp [wv_rfc, wv_kI, wv_kJ, wv_kF, wv_kD]) hl.1 dX1_addAdvice_10 (fun x10 w10 H locs cells slots S hv => ?_) (wq_kx X rfl)
    refine lv_if_eq (tgt := 20) X.hx X.hb dX1_addAdvice_13 (by decide) (fun c13 => ?_) (fun c13 => ?_)
    · have hv := hv.1 c13
      refine lv_iconst (v := (0 : Int32)) X.hx X.hb dX1_addAdvice_20 (by decide) ?_
      exact wk_X1_addAdvice_21 X  hv H locs cells slots ls S (lv_sub hl [0, 1, 2, 3, 4, 5] rfl)
    · have hv := hv.2 c13
      refine lv_iconst (v := (1 : Int32)) X.hx X.hb dX1_addAdvice_16 (by decide) ?_
      refine lv_goto (tgt := 21) X.hx X.hb dX1_addAdvice_17 (by decide) ?_
      exact wk_X1_addAdvice_21 X  hv H locs cells slots ls S (lv_sub hl [0, 1, 2, 3, 4, 5] rfl)
theorem wk_X1_addAdvice {G : wv_G} (hG : wv_G0 G) {v0 : Option Nat} {v1 : Int32} {v2 : Int32} {v3 : Int32} {v4 : Int32} {v5 : Int32} {h : wv_H} {fr kc ks : Nat} {P : wv_R → wv_H → Prop} (hv : vc_X1_addAdvice_0 G fr P v0 v1 v2 v3 v4 v5 (h, kc, ks)) : wv_C G yX1_addAdvice [va_rf v0, .int v1, .int v2, .int v3, .int v4, .int v5] h fr kc ks P := by
  refine wv_enter (lv := [(0, va_rf v0), (1, .int v1), (2, .int v2), (3, .int v3), (4, .int v4), (5, .int v5)]) hG (by decide +kernel) q1528 (by decide) (by simp [lg_sl, wv_rfc, wv_kI, wv_kJ, wv_kF, wv_kD]) (by simp [lv_args, wv_rfc, wv_kI, wv_kJ, wv_kF, wv_kD]) ?_
  intro p e R s m args below meth c X H locs cells slots ls S hl
  exact wk_X1_addAdvice_0 X hv H locs cells slots ls S (lv_sub hl [0, 1, 2, 3, 4, 5] rfl)

def vc_X1_addClass_32 (G : wv_G) (fr : Nat) (P : wv_R → wv_H → Prop) (v0 : Option Nat) (v2 : Option Nat) (s0 : Int32) (w : wv_W) : Prop :=
  wv_c0 G fr yX1_checkState [.int s0] w (wv_rV (fun w32 => wv_gA w32 v0 ciX1 0 (fun x36 => wv_no G w32 (wo_o ciX6 [.int 0, va_rf none, va_rf none, va_rf none]) 4 (fun a39 w39 => wv_gA w39 v0 ciX1 0 (fun x44 => wv_cV G fr yJ2_size x44 [] w39 (wv_rI (fun x47 w47 => wv_cI G fr yX6_init (some a39) [.int x47, va_rf v2] w47 (wv_rV (fun w51 => wv_cV G fr yJ2_add x36 [va_rf (some a39)] w51 (wv_rI (fun x54 w54 => wv_cV G fr yX1_forgetPlaces v0 [] w54 (wv_rV (fun w59 => wv_gA w59 v0 ciX1 0 (fun x63 => wv_cV G fr yJ2_size x63 [] w59 (wv_rI (fun x66 w66 => P (.inl (some (.int (x66 - (1 : Int32))))) w66.1) (wv_pr P)))) (wv_pr P))) (wv_pr P))) (wv_pr P))) (wv_pr P)))))) (wv_pr P))
def vc_X1_addClass_14 (G : wv_G) (fr : Nat) (P : wv_R → wv_H → Prop) (v0 : Option Nat) (s0 : Option Nat) (w : wv_W) : Prop :=
  wv_gA w v0 ciX1 0 (fun x16 => wv_cV G fr yJ2_size x16 [] w (wv_rI (fun x19 w19 => ((6 : Int32) ≤ x19 → vc_X1_addClass_32 G fr P v0 s0 (0 : Int32) w19) ∧ (¬ (6 : Int32) ≤ x19 → vc_X1_addClass_32 G fr P v0 s0 (1 : Int32) w19)) (wv_pr P)))
def vc_X1_addClass_0 (G : wv_G) (fr : Nat) (P : wv_R → wv_H → Prop) (v0 : Option Nat) (v1 : Int32) (w : wv_W) : Prop :=
  (¬ v1 = (-1 : Int32) → wv_cV G fr yX1_type v0 [.int v1] w (wv_rA (fun x11 w11 => vc_X1_addClass_14 G fr P v0 x11 w11) (wv_pr P))) ∧ (v1 = (-1 : Int32) → vc_X1_addClass_14 G fr P v0 none w)
set_option maxHeartbeats 4000000 in
theorem wk_X1_addClass_32 {G : wv_G} {p : Program} {e : Env} {R : Room} {s : State} {m : MethodId} {args : Array Value} {below : List Frame} {meth : Method} {c : Code} {fr : Nat} {P : wv_R → wv_H → Prop} (X : wv_ok G p R s m args meth c fr "Weaversgate" cX1_addClass 3 (Option.some Jvm.ClassFile.FieldType.int) "addClass" []) {v0 : Option Nat} {v2 : Option Nat} {s0 : Int32} {w : wv_W} (hv : vc_X1_addClass_32 G fr P v0 v2 s0 w) : wv_J G p e R s m args below meth c 3 P w 32 [(0, va_rf v0), (2, va_rf v2)] [.int s0] := by
  intro H locs cells slots ls S hl
  unfold vc_X1_addClass_32 at hv
  refine wq_cS_V X S hv q1264 q1265 q60 ⟨by decide +kernel, by decide +kernel⟩ (nA := 1) (As := [.int s0]) (by decide +kernel) rfl rfl (by simp [wv_rfc, wv_kI, wv_kJ, wv_kF, wv_kD]) hl.1 dX1_addClass_32 (fun w32 H locs cells slots S hv => ?_) (wq_kx X rfl)
  refine wq_aload_n X dX1_addClass_35 rfl (lv_at hl 0 rfl) ?_
  refine wq_gA X S hv ccX1 in_X1 (k := 0) (by decide) q225 dX1_addClass_36 (fun x36 hv => ?_)
  refine wq_new X S hv tyX6 tyX6_ok ccX6 in_X6 q287 q1282 q77 (fun j hj => by have hj : j < 4 := hj; rcases (show j = 0 ∨ j = 1 ∨ j = 2 ∨ j = 3 by omega) with rfl | rfl | rfl | rfl <;> rfl) dX1_addClass_39 (fun a39 w39 H cells slots S hv => ?_)
  refine lv_dup X.hx X.hb dX1_addClass_42 (wv_rfc _) ?_
  refine wq_aload_n X dX1_addClass_43 rfl (lv_at hl 0 rfl) ?_
  refine wq_gA X S hv ccX1 in_X1 (k := 0) (by decide) q225 dX1_addClass_44 (fun x44 hv => ?_)
  refine wq_cV_I X S hv q269 q270 q271 q63 ⟨by decide +kernel, by decide +kernel⟩ (nA := 0) (As := []) (by decide +kernel) rfl rfl (by simp [wv_rfc, wv_kI, wv_kJ, wv_kF, wv_kD]) hl.1 dX1_addClass_47 (fun x47 w47 H locs cells slots S hv => ?_) (wq_kx X rfl)
  refine wq_aload_n X dX1_addClass_50 rfl (lv_at hl 1 rfl) ?_
  refine wq_cI_V X S hv rfl q1283 q1284 q1285 q77 ⟨by decide +kernel, by decide +kernel⟩ (nA := 2) (As := [.int x47, va_rf v2]) (by decide +kernel) rfl rfl (by simp [wv_rfc, wv_kI, wv_kJ, wv_kF, wv_kD]) hl.1 dX1_addClass_51 (fun w51 H locs cells slots S hv => ?_) (wq_kx X rfl)
  refine wq_cV_I X S hv q751 q752 q753 q63 ⟨by decide +kernel, by decide +kernel⟩ (nA := 1) (As := [va_rf (some a39)]) (by decide +kernel) rfl rfl (by simp [wv_rfc, wv_kI, wv_kJ, wv_kF, wv_kD]) hl.1 dX1_addClass_54 (fun x54 w54 H locs cells slots S hv => ?_) (wq_kx X rfl)
  refine lv_pop X.hx X.hb dX1_addClass_57 rfl ?_
  refine wq_aload_n X dX1_addClass_58 rfl (lv_at hl 0 rfl) ?_
  refine wq_cV_V X S hv q1307 q1309 qs28 q60 ⟨by decide +kernel, by decide +kernel⟩ (nA := 0) (As := []) (by decide +kernel) rfl rfl (by simp [wv_rfc, wv_kI, wv_kJ, wv_kF, wv_kD]) hl.1 dX1_addClass_59 (fun w59 H locs cells slots S hv => ?_) (wq_kx X rfl)
  refine wq_aload_n X dX1_addClass_62 rfl (lv_at hl 0 rfl) ?_
  refine wq_gA X S hv ccX1 in_X1 (k := 0) (by decide) q225 dX1_addClass_63 (fun x63 hv => ?_)
  refine wq_cV_I X S hv q269 q270 q271 q63 ⟨by decide +kernel, by decide +kernel⟩ (nA := 0) (As := []) (by decide +kernel) rfl rfl (by simp [wv_rfc, wv_kI, wv_kJ, wv_kF, wv_kD]) hl.1 dX1_addClass_66 (fun x66 w66 H locs cells slots S hv => ?_) (wq_kx X rfl)
  refine lv_iconst (v := (1 : Int32)) X.hx X.hb dX1_addClass_69 (by decide) ?_
  refine lv_isub X.hx X.hb dX1_addClass_70 ?_
  exact wr_iret X S rfl hv dX1_addClass_71
set_option maxHeartbeats 4000000 in
theorem wk_X1_addClass_14 {G : wv_G} {p : Program} {e : Env} {R : Room} {s : State} {m : MethodId} {args : Array Value} {below : List Frame} {meth : Method} {c : Code} {fr : Nat} {P : wv_R → wv_H → Prop} (X : wv_ok G p R s m args meth c fr "Weaversgate" cX1_addClass 3 (Option.some Jvm.ClassFile.FieldType.int) "addClass" []) {v0 : Option Nat} {s0 : Option Nat} {w : wv_W} (hv : vc_X1_addClass_14 G fr P v0 s0 w) : wv_J G p e R s m args below meth c 3 P w 14 [(0, va_rf v0)] [va_rf s0] := by
  intro H locs cells slots ls S hl
  unfold vc_X1_addClass_14 at hv
  refine wq_astore_n X (i := 2) (lv' := [(2, va_rf s0), (0, va_rf v0)]) dX1_addClass_14 rfl hl (by decide) rfl (fun ls hl => ?_)
  refine wq_aload_n X dX1_addClass_15 rfl (lv_at hl 1 rfl) ?_
  refine wq_gA X S hv ccX1 in_X1 (k := 0) (by decide) q225 dX1_addClass_16 (fun x16 hv => ?_)
  refine wq_cV_I X S hv q269 q270 q271 q63 ⟨by decide +kernel, by decide +kernel⟩ (nA := 0) (As := []) (by decide +kernel) rfl rfl (by simp [wv_rfc, wv_kI, wv_kJ, wv_kF, wv_kD]) hl.1 dX1_addClass_19 (fun x19 w19 H locs cells slots S hv => ?_) (wq_kx X rfl)
  refine lv_bipush (v := (6 : Int32)) X.hx X.hb dX1_addClass_22 (by decide) ?_
  refine lv_icmp_ge (tgt := 31) X.hx X.hb dX1_addClass_24 (by decide) (fun c24 => ?_) (fun c24 => ?_)
  · have hv := hv.1 c24
    refine lv_iconst (v := (0 : Int32)) X.hx X.hb dX1_addClass_31 (by decide) ?_
    exact wk_X1_addClass_32 X  hv H locs cells slots ls S (lv_sub hl [1, 0] rfl)
  · have hv := hv.2 c24
    refine lv_iconst (v := (1 : Int32)) X.hx X.hb dX1_addClass_27 (by decide) ?_
    refine lv_goto (tgt := 32) X.hx X.hb dX1_addClass_28 (by decide) ?_
    exact wk_X1_addClass_32 X  hv H locs cells slots ls S (lv_sub hl [1, 0] rfl)
set_option maxHeartbeats 4000000 in
theorem wk_X1_addClass_0 {G : wv_G} {p : Program} {e : Env} {R : Room} {s : State} {m : MethodId} {args : Array Value} {below : List Frame} {meth : Method} {c : Code} {fr : Nat} {P : wv_R → wv_H → Prop} (X : wv_ok G p R s m args meth c fr "Weaversgate" cX1_addClass 3 (Option.some Jvm.ClassFile.FieldType.int) "addClass" []) {v0 : Option Nat} {v1 : Int32} {w : wv_W} (hv : vc_X1_addClass_0 G fr P v0 v1 w) : wv_J G p e R s m args below meth c 3 P w 0 [(0, va_rf v0), (1, .int v1)] [] := by
  intro H locs cells slots ls S hl
  unfold vc_X1_addClass_0 at hv
  refine lv_iload_n X.hx X.hb dX1_addClass_0 rfl (lv_at hl 1 rfl) ?_
  refine lv_iconst (v := (-1 : Int32)) X.hx X.hb dX1_addClass_1 (by decide) ?_
  refine lv_icmp_ne (tgt := 9) X.hx X.hb dX1_addClass_2 (by decide) (fun c2 => ?_) (fun c2 => ?_)
  · have hv := hv.1 c2
    refine wq_aload_n X dX1_addClass_9 rfl (lv_at hl 0 rfl) ?_
    refine lv_iload_n X.hx X.hb dX1_addClass_10 rfl (lv_at hl 1 rfl) ?_
    refine wq_cV_A X S hv q1239 q1241 qs27 q60 ⟨by decide +kernel, by decide +kernel⟩ (nA := 1) (As := [.int v1]) (by decide +kernel) rfl rfl (by simp [wv_rfc, wv_kI, wv_kJ, wv_kF, wv_kD]) hl.1 dX1_addClass_11 (fun x11 w11 H locs cells slots S hv => ?_) (wq_kx X rfl)
    exact wk_X1_addClass_14 X  hv H locs cells slots ls S (lv_sub hl [0] rfl)
  · have hv := hv.2 c2
    refine wq_null (k := 0) X S dX1_addClass_5 ?_
    refine lv_goto (tgt := 14) X.hx X.hb dX1_addClass_6 (by decide) ?_
    exact wk_X1_addClass_14 X  hv H locs cells slots ls S (lv_sub hl [0] rfl)
theorem wk_X1_addClass {G : wv_G} (hG : wv_G0 G) {v0 : Option Nat} {v1 : Int32} {h : wv_H} {fr kc ks : Nat} {P : wv_R → wv_H → Prop} (hv : vc_X1_addClass_0 G fr P v0 v1 (h, kc, ks)) : wv_C G yX1_addClass [va_rf v0, .int v1] h fr kc ks P := by
  refine wv_enter (lv := [(0, va_rf v0), (1, .int v1)]) hG (by decide +kernel) q1238 (by decide) (by simp [lg_sl, wv_rfc, wv_kI, wv_kJ, wv_kF, wv_kD]) (by simp [lv_args, wv_rfc, wv_kI, wv_kJ, wv_kF, wv_kD]) ?_
  intro p e R s m args below meth c X H locs cells slots ls S hl
  exact wk_X1_addClass_0 X hv H locs cells slots ls S (lv_sub hl [0, 1] rfl)

def vc_X1_addPattern_34 (G : wv_G) (fr : Nat) (P : wv_R → wv_H → Prop) (v0 : Option Nat) (v4 : Option Nat) (s0 : Int32) (w : wv_W) : Prop :=
  wv_c0 G fr yX1_checkState [.int s0] w (wv_rV (fun w34 => wv_gA w34 v0 ciX1 1 (fun x38 => wv_no G w34 (wo_o ciX18 [va_rf none, .int 0]) 2 (fun a41 w41 => wv_gA w41 v0 ciX1 1 (fun x48 => wv_cV G fr yJ2_size x48 [] w41 (wv_rI (fun x51 w51 => wv_cI G fr yX18_init (some a41) [va_rf v4, .int x51] w51 (wv_rV (fun w54 => wv_cV G fr yJ2_add x38 [va_rf (some a41)] w54 (wv_rI (fun x57 w57 => wv_gA w57 v0 ciX1 1 (fun x62 => wv_cV G fr yJ2_size x62 [] w57 (wv_rI (fun x65 w65 => P (.inl (some (.int (x65 - (1 : Int32))))) w65.1) (wv_pr P)))) (wv_pr P))) (wv_pr P))) (wv_pr P)))))) (wv_pr P))
def vc_X1_addPattern_0 (G : wv_G) (fr : Nat) (P : wv_R → wv_H → Prop) (v0 : Option Nat) (v1 : Int32) (v2 : Int32) (v3 : Int32) (w : wv_W) : Prop :=
  wv_c0 G fr yX1_isPatternRight [.int v1, .int v2] w (wv_rI (fun x2 w2 => wv_c0 G fr yX1_checkArgument [.int x2] w2 (wv_rV (fun w5 => wv_cV G fr yX1_made v0 [.int v1, .int v2, .int v3] w5 (wv_rA (fun x12 w12 => wv_gA w12 v0 ciX1 1 (fun x18 => wv_cV G fr yJ2_size x18 [] w12 (wv_rI (fun x21 w21 => ((24 : Int32) ≤ x21 → vc_X1_addPattern_34 G fr P v0 x12 (0 : Int32) w21) ∧ (¬ (24 : Int32) ≤ x21 → vc_X1_addPattern_34 G fr P v0 x12 (1 : Int32) w21)) (wv_pr P)))) (wv_pr P))) (wv_pr P))) (wv_pr P))
set_option maxHeartbeats 4000000 in
theorem wk_X1_addPattern_34 {G : wv_G} {p : Program} {e : Env} {R : Room} {s : State} {m : MethodId} {args : Array Value} {below : List Frame} {meth : Method} {c : Code} {fr : Nat} {P : wv_R → wv_H → Prop} (X : wv_ok G p R s m args meth c fr "Weaversgate" cX1_addPattern 5 (Option.some Jvm.ClassFile.FieldType.int) "addPattern" []) {v0 : Option Nat} {v4 : Option Nat} {s0 : Int32} {w : wv_W} (hv : vc_X1_addPattern_34 G fr P v0 v4 s0 w) : wv_J G p e R s m args below meth c 5 P w 34 [(0, va_rf v0), (4, va_rf v4)] [.int s0] := by
  intro H locs cells slots ls S hl
  unfold vc_X1_addPattern_34 at hv
  refine wq_cS_V X S hv q1264 q1265 q60 ⟨by decide +kernel, by decide +kernel⟩ (nA := 1) (As := [.int s0]) (by decide +kernel) rfl rfl (by simp [wv_rfc, wv_kI, wv_kJ, wv_kF, wv_kD]) hl.1 dX1_addPattern_34 (fun w34 H locs cells slots S hv => ?_) (wq_kx X rfl)
  refine wq_aload_n X dX1_addPattern_37 rfl (lv_at hl 0 rfl) ?_
  refine wq_gA X S hv ccX1 in_X1 (k := 1) (by decide) q227 dX1_addPattern_38 (fun x38 hv => ?_)
  refine wq_new X S hv tyX18 tyX18_ok ccX18 in_X18 q1509 q1510 q95 (fun j hj => by have hj : j < 2 := hj; rcases (show j = 0 ∨ j = 1 by omega) with rfl | rfl <;> rfl) dX1_addPattern_41 (fun a41 w41 H cells slots S hv => ?_)
  refine lv_dup X.hx X.hb dX1_addPattern_44 (wv_rfc _) ?_
  refine wq_aload X dX1_addPattern_45 (lv_at hl 1 rfl) ?_
  refine wq_aload_n X dX1_addPattern_47 rfl (lv_at hl 0 rfl) ?_
  refine wq_gA X S hv ccX1 in_X1 (k := 1) (by decide) q227 dX1_addPattern_48 (fun x48 hv => ?_)
  refine wq_cV_I X S hv q269 q270 q271 q63 ⟨by decide +kernel, by decide +kernel⟩ (nA := 0) (As := []) (by decide +kernel) rfl rfl (by simp [wv_rfc, wv_kI, wv_kJ, wv_kF, wv_kD]) hl.1 dX1_addPattern_51 (fun x51 w51 H locs cells slots S hv => ?_) (wq_kx X rfl)
  refine wq_cI_V X S hv rfl q1511 q1512 q1513 q95 ⟨by decide +kernel, by decide +kernel⟩ (nA := 2) (As := [va_rf v4, .int x51]) (by decide +kernel) rfl rfl (by simp [wv_rfc, wv_kI, wv_kJ, wv_kF, wv_kD]) hl.1 dX1_addPattern_54 (fun w54 H locs cells slots S hv => ?_) (wq_kx X rfl)
  refine wq_cV_I X S hv q751 q752 q753 q63 ⟨by decide +kernel, by decide +kernel⟩ (nA := 1) (As := [va_rf (some a41)]) (by decide +kernel) rfl rfl (by simp [wv_rfc, wv_kI, wv_kJ, wv_kF, wv_kD]) hl.1 dX1_addPattern_57 (fun x57 w57 H locs cells slots S hv => ?_) (wq_kx X rfl)
  refine lv_pop X.hx X.hb dX1_addPattern_60 rfl ?_
  refine wq_aload_n X dX1_addPattern_61 rfl (lv_at hl 0 rfl) ?_
  refine wq_gA X S hv ccX1 in_X1 (k := 1) (by decide) q227 dX1_addPattern_62 (fun x62 hv => ?_)
  refine wq_cV_I X S hv q269 q270 q271 q63 ⟨by decide +kernel, by decide +kernel⟩ (nA := 0) (As := []) (by decide +kernel) rfl rfl (by simp [wv_rfc, wv_kI, wv_kJ, wv_kF, wv_kD]) hl.1 dX1_addPattern_65 (fun x65 w65 H locs cells slots S hv => ?_) (wq_kx X rfl)
  refine lv_iconst (v := (1 : Int32)) X.hx X.hb dX1_addPattern_68 (by decide) ?_
  refine lv_isub X.hx X.hb dX1_addPattern_69 ?_
  exact wr_iret X S rfl hv dX1_addPattern_70
set_option maxHeartbeats 4000000 in
theorem wk_X1_addPattern_0 {G : wv_G} {p : Program} {e : Env} {R : Room} {s : State} {m : MethodId} {args : Array Value} {below : List Frame} {meth : Method} {c : Code} {fr : Nat} {P : wv_R → wv_H → Prop} (X : wv_ok G p R s m args meth c fr "Weaversgate" cX1_addPattern 5 (Option.some Jvm.ClassFile.FieldType.int) "addPattern" []) {v0 : Option Nat} {v1 : Int32} {v2 : Int32} {v3 : Int32} {w : wv_W} (hv : vc_X1_addPattern_0 G fr P v0 v1 v2 v3 w) : wv_J G p e R s m args below meth c 5 P w 0 [(0, va_rf v0), (1, .int v1), (2, .int v2), (3, .int v3)] [] := by
  intro H locs cells slots ls S hl
  unfold vc_X1_addPattern_0 at hv
  refine lv_iload_n X.hx X.hb dX1_addPattern_0 rfl (lv_at hl 1 rfl) ?_
  refine lv_iload_n X.hx X.hb dX1_addPattern_1 rfl (lv_at hl 2 rfl) ?_
  refine wq_cS_I X S hv q1381 q1382 q60 ⟨by decide +kernel, by decide +kernel⟩ (nA := 2) (As := [.int v1, .int v2]) (by decide +kernel) rfl rfl (by simp [wv_rfc, wv_kI, wv_kJ, wv_kF, wv_kD]) hl.1 dX1_addPattern_2 (fun x2 w2 H locs cells slots S hv => ?_) (wq_kx X rfl)
  refine wq_cS_V X S hv q1326 q1327 q60 ⟨by decide +kernel, by decide +kernel⟩ (nA := 1) (As := [.int x2]) (by decide +kernel) rfl rfl (by simp [wv_rfc, wv_kI, wv_kJ, wv_kF, wv_kD]) hl.1 dX1_addPattern_5 (fun w5 H locs cells slots S hv => ?_) (wq_kx X rfl)
  refine wq_aload_n X dX1_addPattern_8 rfl (lv_at hl 0 rfl) ?_
  refine lv_iload_n X.hx X.hb dX1_addPattern_9 rfl (lv_at hl 1 rfl) ?_
  refine lv_iload_n X.hx X.hb dX1_addPattern_10 rfl (lv_at hl 2 rfl) ?_
  refine lv_iload_n X.hx X.hb dX1_addPattern_11 rfl (lv_at hl 3 rfl) ?_
  refine wq_cV_A X S hv q1384 q1386 qs30 q60 ⟨by decide +kernel, by decide +kernel⟩ (nA := 3) (As := [.int v1, .int v2, .int v3]) (by decide +kernel) rfl rfl (by simp [wv_rfc, wv_kI, wv_kJ, wv_kF, wv_kD]) hl.1 dX1_addPattern_12 (fun x12 w12 H locs cells slots S hv => ?_) (wq_kx X rfl)
  refine wq_astore X (i := 4) (lv' := [(4, va_rf x12), (0, va_rf v0), (1, .int v1), (2, .int v2), (3, .int v3)]) dX1_addPattern_15 hl (by decide) (by simp [wv_rfc, wv_kI, wv_kJ, wv_kF, wv_kD]) (fun ls hl => ?_)
  refine wq_aload_n X dX1_addPattern_17 rfl (lv_at hl 1 rfl) ?_
  refine wq_gA X S hv ccX1 in_X1 (k := 1) (by decide) q227 dX1_addPattern_18 (fun x18 hv => ?_)
  refine wq_cV_I X S hv q269 q270 q271 q63 ⟨by decide +kernel, by decide +kernel⟩ (nA := 0) (As := []) (by decide +kernel) rfl rfl (by simp [wv_rfc, wv_kI, wv_kJ, wv_kF, wv_kD]) hl.1 dX1_addPattern_21 (fun x21 w21 H locs cells slots S hv => ?_) (wq_kx X rfl)
  refine lv_bipush (v := (24 : Int32)) X.hx X.hb dX1_addPattern_24 (by decide) ?_
  refine lv_icmp_ge (tgt := 33) X.hx X.hb dX1_addPattern_26 (by decide) (fun c26 => ?_) (fun c26 => ?_)
  · have hv := hv.1 c26
    refine lv_iconst (v := (0 : Int32)) X.hx X.hb dX1_addPattern_33 (by decide) ?_
    exact wk_X1_addPattern_34 X  hv H locs cells slots ls S (lv_sub hl [1, 0] rfl)
  · have hv := hv.2 c26
    refine lv_iconst (v := (1 : Int32)) X.hx X.hb dX1_addPattern_29 (by decide) ?_
    refine lv_goto (tgt := 34) X.hx X.hb dX1_addPattern_30 (by decide) ?_
    exact wk_X1_addPattern_34 X  hv H locs cells slots ls S (lv_sub hl [1, 0] rfl)
theorem wk_X1_addPattern {G : wv_G} (hG : wv_G0 G) {v0 : Option Nat} {v1 : Int32} {v2 : Int32} {v3 : Int32} {h : wv_H} {fr kc ks : Nat} {P : wv_R → wv_H → Prop} (hv : vc_X1_addPattern_0 G fr P v0 v1 v2 v3 (h, kc, ks)) : wv_C G yX1_addPattern [va_rf v0, .int v1, .int v2, .int v3] h fr kc ks P := by
  refine wv_enter (lv := [(0, va_rf v0), (1, .int v1), (2, .int v2), (3, .int v3)]) hG (by decide +kernel) q1380 (by decide) (by simp [lg_sl, wv_rfc, wv_kI, wv_kJ, wv_kF, wv_kD]) (by simp [lv_args, wv_rfc, wv_kI, wv_kJ, wv_kF, wv_kD]) ?_
  intro p e R s m args below meth c X H locs cells slots ls S hl
  exact wk_X1_addPattern_0 X hv H locs cells slots ls S (lv_sub hl [0, 1, 2, 3] rfl)

def vc_X1_addStep_52 (G : wv_G) (fr : Nat) (P : wv_R → wv_H → Prop) (v0 : Option Nat) (v3 : Int32) (v4 : Int32) (v5 : Int32) (v7 : Option Nat) (s0 : Int32) (w : wv_W) : Prop :=
  wv_c0 G fr yX1_checkState [.int s0] w (wv_rV (fun w52 => wv_no G w52 (wo_o ciX7 [.int 0, .int 0, .int 0]) 3 (fun a57 w57 => wv_cI G fr yX7_init (some a57) [.int v3, .int v4, .int v5] w57 (wv_rV (fun w66 => wv_cV G fr yJ2_add v7 [va_rf (some a57)] w66 (wv_rI (fun x69 w69 => wv_cV G fr yX1_forgetPlaces v0 [] w69 (wv_rV (fun w74 => wv_cV G fr yJ2_size v7 [] w74 (wv_rI (fun x79 w79 => P (.inl (some (.int x79))) w79.1) (wv_pr P))) (wv_pr P))) (wv_pr P))) (wv_pr P)))) (wv_pr P))
def vc_X1_addStep_0 (G : wv_G) (fr : Nat) (P : wv_R → wv_H → Prop) (v0 : Option Nat) (v1 : Int32) (v2 : Int32) (v3 : Int32) (v4 : Int32) (v5 : Int32) (w : wv_W) : Prop :=
  wv_cV G fr yX1_type v0 [.int v1] w (wv_rA (fun x2 w2 => wv_c0 G fr yX1_checkMethod [.int v2] w2 (wv_rV (fun w8 => wv_cV G fr yX1_isStepRight v0 [.int v3, .int v4, .int v5] w8 (wv_rI (fun x17 w17 => wv_c0 G fr yX1_checkArgument [.int x17] w17 (wv_rV (fun w20 => wv_gA w20 x2 ciX6 2 (fun x25 => wv_cV G fr yJ2_get x25 [.int v2] w20 (wv_rA (fun x29 w29 => wv_cc G w29 x29 "java/util/ArrayList" (wv_cV G fr yJ2_size x29 [] w29 (wv_rI (fun x39 w39 => ((8 : Int32) ≤ x39 → vc_X1_addStep_52 G fr P v0 v3 v4 v5 x29 (0 : Int32) w39) ∧ (¬ (8 : Int32) ≤ x39 → vc_X1_addStep_52 G fr P v0 v3 v4 v5 x29 (1 : Int32) w39)) (wv_pr P)))) (wv_pr P)))) (wv_pr P))) (wv_pr P))) (wv_pr P))) (wv_pr P))
set_option maxHeartbeats 4000000 in
theorem wk_X1_addStep_52 {G : wv_G} {p : Program} {e : Env} {R : Room} {s : State} {m : MethodId} {args : Array Value} {below : List Frame} {meth : Method} {c : Code} {fr : Nat} {P : wv_R → wv_H → Prop} (X : wv_ok G p R s m args meth c fr "Weaversgate" cX1_addStep 8 (Option.some Jvm.ClassFile.FieldType.int) "addStep" []) {v0 : Option Nat} {v3 : Int32} {v4 : Int32} {v5 : Int32} {v7 : Option Nat} {s0 : Int32} {w : wv_W} (hv : vc_X1_addStep_52 G fr P v0 v3 v4 v5 v7 s0 w) : wv_J G p e R s m args below meth c 8 P w 52 [(0, va_rf v0), (3, .int v3), (4, .int v4), (5, .int v5), (7, va_rf v7)] [.int s0] := by
  intro H locs cells slots ls S hl
  unfold vc_X1_addStep_52 at hv
  refine wq_cS_V X S hv q1264 q1265 q60 ⟨by decide +kernel, by decide +kernel⟩ (nA := 1) (As := [.int s0]) (by decide +kernel) rfl rfl (by simp [wv_rfc, wv_kI, wv_kJ, wv_kF, wv_kD]) hl.1 dX1_addStep_52 (fun w52 H locs cells slots S hv => ?_) (wq_kx X rfl)
  refine wq_aload X dX1_addStep_55 (lv_at hl 4 rfl) ?_
  refine wq_new X S hv tyX7 tyX7_ok ccX7 in_X7 q302 q1338 q83 (fun j hj => by have hj : j < 3 := hj; rcases (show j = 0 ∨ j = 1 ∨ j = 2 by omega) with rfl | rfl | rfl <;> rfl) dX1_addStep_57 (fun a57 w57 H cells slots S hv => ?_)
  refine lv_dup X.hx X.hb dX1_addStep_60 (wv_rfc _) ?_
  refine lv_iload_n X.hx X.hb dX1_addStep_61 rfl (lv_at hl 1 rfl) ?_
  refine lv_iload X.hx X.hb dX1_addStep_62 (lv_at hl 2 rfl) ?_
  refine lv_iload X.hx X.hb dX1_addStep_64 (lv_at hl 3 rfl) ?_
  refine wq_cI_V X S hv rfl q1339 q1340 q1341 q83 ⟨by decide +kernel, by decide +kernel⟩ (nA := 3) (As := [.int v3, .int v4, .int v5]) (by decide +kernel) rfl rfl (by simp [wv_rfc, wv_kI, wv_kJ, wv_kF, wv_kD]) hl.1 dX1_addStep_66 (fun w66 H locs cells slots S hv => ?_) (wq_kx X rfl)
  refine wq_cV_I X S hv q751 q752 q753 q63 ⟨by decide +kernel, by decide +kernel⟩ (nA := 1) (As := [va_rf (some a57)]) (by decide +kernel) rfl rfl (by simp [wv_rfc, wv_kI, wv_kJ, wv_kF, wv_kD]) hl.1 dX1_addStep_69 (fun x69 w69 H locs cells slots S hv => ?_) (wq_kx X rfl)
  refine lv_pop X.hx X.hb dX1_addStep_72 rfl ?_
  refine wq_aload_n X dX1_addStep_73 rfl (lv_at hl 0 rfl) ?_
  refine wq_cV_V X S hv q1307 q1309 qs28 q60 ⟨by decide +kernel, by decide +kernel⟩ (nA := 0) (As := []) (by decide +kernel) rfl rfl (by simp [wv_rfc, wv_kI, wv_kJ, wv_kF, wv_kD]) hl.1 dX1_addStep_74 (fun w74 H locs cells slots S hv => ?_) (wq_kx X rfl)
  refine wq_aload X dX1_addStep_77 (lv_at hl 4 rfl) ?_
  refine wq_cV_I X S hv q269 q270 q271 q63 ⟨by decide +kernel, by decide +kernel⟩ (nA := 0) (As := []) (by decide +kernel) rfl rfl (by simp [wv_rfc, wv_kI, wv_kJ, wv_kF, wv_kD]) hl.1 dX1_addStep_79 (fun x79 w79 H locs cells slots S hv => ?_) (wq_kx X rfl)
  exact wr_iret X S rfl hv dX1_addStep_82
set_option maxHeartbeats 4000000 in
theorem wk_X1_addStep_0 {G : wv_G} {p : Program} {e : Env} {R : Room} {s : State} {m : MethodId} {args : Array Value} {below : List Frame} {meth : Method} {c : Code} {fr : Nat} {P : wv_R → wv_H → Prop} (X : wv_ok G p R s m args meth c fr "Weaversgate" cX1_addStep 8 (Option.some Jvm.ClassFile.FieldType.int) "addStep" []) {v0 : Option Nat} {v1 : Int32} {v2 : Int32} {v3 : Int32} {v4 : Int32} {v5 : Int32} {w : wv_W} (hv : vc_X1_addStep_0 G fr P v0 v1 v2 v3 v4 v5 w) : wv_J G p e R s m args below meth c 8 P w 0 [(0, va_rf v0), (1, .int v1), (2, .int v2), (3, .int v3), (4, .int v4), (5, .int v5)] [] := by
  intro H locs cells slots ls S hl
  unfold vc_X1_addStep_0 at hv
  refine wq_aload_n X dX1_addStep_0 rfl (lv_at hl 0 rfl) ?_
  refine lv_iload_n X.hx X.hb dX1_addStep_1 rfl (lv_at hl 1 rfl) ?_
  refine wq_cV_A X S hv q1239 q1241 qs27 q60 ⟨by decide +kernel, by decide +kernel⟩ (nA := 1) (As := [.int v1]) (by decide +kernel) rfl rfl (by simp [wv_rfc, wv_kI, wv_kJ, wv_kF, wv_kD]) hl.1 dX1_addStep_2 (fun x2 w2 H locs cells slots S hv => ?_) (wq_kx X rfl)
  refine wq_astore X (i := 6) (lv' := [(6, va_rf x2), (0, va_rf v0), (1, .int v1), (2, .int v2), (3, .int v3), (4, .int v4), (5, .int v5)]) dX1_addStep_5 hl (by decide) (by simp [wv_rfc, wv_kI, wv_kJ, wv_kF, wv_kD]) (fun ls hl => ?_)
  refine lv_iload_n X.hx X.hb dX1_addStep_7 rfl (lv_at hl 3 rfl) ?_
  refine wq_cS_V X S hv q1323 q1324 q60 ⟨by decide +kernel, by decide +kernel⟩ (nA := 1) (As := [.int v2]) (by decide +kernel) rfl rfl (by simp [wv_rfc, wv_kI, wv_kJ, wv_kF, wv_kD]) hl.1 dX1_addStep_8 (fun w8 H locs cells slots S hv => ?_) (wq_kx X rfl)
  refine wq_aload_n X dX1_addStep_11 rfl (lv_at hl 1 rfl) ?_
  refine lv_iload_n X.hx X.hb dX1_addStep_12 rfl (lv_at hl 4 rfl) ?_
  refine lv_iload X.hx X.hb dX1_addStep_13 (lv_at hl 5 rfl) ?_
  refine lv_iload X.hx X.hb dX1_addStep_15 (lv_at hl 6 rfl) ?_
  refine wq_cV_I X S hv q1334 q1336 qs29 q60 ⟨by decide +kernel, by decide +kernel⟩ (nA := 3) (As := [.int v3, .int v4, .int v5]) (by decide +kernel) rfl rfl (by simp [wv_rfc, wv_kI, wv_kJ, wv_kF, wv_kD]) hl.1 dX1_addStep_17 (fun x17 w17 H locs cells slots S hv => ?_) (wq_kx X rfl)
  refine wq_cS_V X S hv q1326 q1327 q60 ⟨by decide +kernel, by decide +kernel⟩ (nA := 1) (As := [.int x17]) (by decide +kernel) rfl rfl (by simp [wv_rfc, wv_kI, wv_kJ, wv_kF, wv_kD]) hl.1 dX1_addStep_20 (fun w20 H locs cells slots S hv => ?_) (wq_kx X rfl)
  refine wq_aload X dX1_addStep_23 (lv_at hl 0 rfl) ?_
  refine wq_gAN X S hv ccX6 in_X6 (k := 2) (by decide) q1295 dX1_addStep_25 (fun x25 hv => ?_)
  refine lv_iload_n X.hx X.hb dX1_addStep_28 rfl (lv_at hl 3 rfl) ?_
  refine wq_cV_A X S hv q273 q274 q275 q63 ⟨by decide +kernel, by decide +kernel⟩ (nA := 1) (As := [.int v2]) (by decide +kernel) rfl rfl (by simp [wv_rfc, wv_kI, wv_kJ, wv_kF, wv_kD]) hl.1 dX1_addStep_29 (fun x29 w29 H locs cells slots S hv => ?_) (wq_kx X rfl)
  refine wq_cc X S hv q127 dX1_addStep_32 (fun hv => ?_)
  refine wq_astore X (i := 7) (lv' := [(7, va_rf x29), (6, va_rf x2), (0, va_rf v0), (1, .int v1), (2, .int v2), (3, .int v3), (4, .int v4), (5, .int v5)]) dX1_addStep_35 hl (by decide) (by simp [wv_rfc, wv_kI, wv_kJ, wv_kF, wv_kD]) (fun ls hl => ?_)
  refine wq_aload X dX1_addStep_37 (lv_at hl 0 rfl) ?_
  refine wq_cV_I X S hv q269 q270 q271 q63 ⟨by decide +kernel, by decide +kernel⟩ (nA := 0) (As := []) (by decide +kernel) rfl rfl (by simp [wv_rfc, wv_kI, wv_kJ, wv_kF, wv_kD]) hl.1 dX1_addStep_39 (fun x39 w39 H locs cells slots S hv => ?_) (wq_kx X rfl)
  refine lv_bipush (v := (8 : Int32)) X.hx X.hb dX1_addStep_42 (by decide) ?_
  refine lv_icmp_ge (tgt := 51) X.hx X.hb dX1_addStep_44 (by decide) (fun c44 => ?_) (fun c44 => ?_)
  · have hv := hv.1 c44
    refine lv_iconst (v := (0 : Int32)) X.hx X.hb dX1_addStep_51 (by decide) ?_
    exact wk_X1_addStep_52 X  hv H locs cells slots ls S (lv_sub hl [2, 5, 6, 7, 0] rfl)
  · have hv := hv.2 c44
    refine lv_iconst (v := (1 : Int32)) X.hx X.hb dX1_addStep_47 (by decide) ?_
    refine lv_goto (tgt := 52) X.hx X.hb dX1_addStep_48 (by decide) ?_
    exact wk_X1_addStep_52 X  hv H locs cells slots ls S (lv_sub hl [2, 5, 6, 7, 0] rfl)
theorem wk_X1_addStep {G : wv_G} (hG : wv_G0 G) {v0 : Option Nat} {v1 : Int32} {v2 : Int32} {v3 : Int32} {v4 : Int32} {v5 : Int32} {h : wv_H} {fr kc ks : Nat} {P : wv_R → wv_H → Prop} (hv : vc_X1_addStep_0 G fr P v0 v1 v2 v3 v4 v5 (h, kc, ks)) : wv_C G yX1_addStep [va_rf v0, .int v1, .int v2, .int v3, .int v4, .int v5] h fr kc ks P := by
  refine wv_enter (lv := [(0, va_rf v0), (1, .int v1), (2, .int v2), (3, .int v3), (4, .int v4), (5, .int v5)]) hG (by decide +kernel) q1322 (by decide) (by simp [lg_sl, wv_rfc, wv_kI, wv_kJ, wv_kF, wv_kD]) (by simp [lv_args, wv_rfc, wv_kI, wv_kJ, wv_kF, wv_kD]) ?_
  intro p e R s m args below meth c X H locs cells slots ls S hl
  exact wk_X1_addStep_0 X hv H locs cells slots ls S (lv_sub hl [0, 1, 2, 3, 4, 5] rfl)

def vc_X1_advice_0 (G : wv_G) (fr : Nat) (P : wv_R → wv_H → Prop) (v0 : Option Nat) (v1 : Int32) (w : wv_W) : Prop :=
  wv_gA w v0 ciX1 2 (fun x3 => wv_cV G fr yJ2_size x3 [] w (wv_rI (fun x6 w6 => wv_c0 G fr yX1_inRange [.int v1, .int (0 : Int32), .int (x6 - (1 : Int32))] w6 (wv_rI (fun x11 w11 => wv_c0 G fr yX1_checkFound [.int x11] w11 (wv_rV (fun w14 => wv_gA w14 v0 ciX1 2 (fun x18 => wv_cV G fr yJ2_get x18 [.int v1] w14 (wv_rA (fun x22 w22 => wv_cc G w22 x22 "Weaversgate$Advice" (P (.inl (some (va_rf x22))) w22.1)) (wv_pr P)))) (wv_pr P))) (wv_pr P))) (wv_pr P)))
set_option maxHeartbeats 4000000 in
theorem wk_X1_advice_0 {G : wv_G} {p : Program} {e : Env} {R : Room} {s : State} {m : MethodId} {args : Array Value} {below : List Frame} {meth : Method} {c : Code} {fr : Nat} {P : wv_R → wv_H → Prop} (X : wv_ok G p R s m args meth c fr "Weaversgate" cX1_advice 2 (Option.some (Jvm.ClassFile.FieldType.object "Weaversgate$Advice")) "advice" []) {v0 : Option Nat} {v1 : Int32} {w : wv_W} (hv : vc_X1_advice_0 G fr P v0 v1 w) : wv_J G p e R s m args below meth c 2 P w 0 [(0, va_rf v0), (1, .int v1)] [] := by
  intro H locs cells slots ls S hl
  unfold vc_X1_advice_0 at hv
  refine lv_iload_n X.hx X.hb dX1_advice_0 rfl (lv_at hl 1 rfl) ?_
  refine lv_iconst (v := (0 : Int32)) X.hx X.hb dX1_advice_1 (by decide) ?_
  refine wq_aload_n X dX1_advice_2 rfl (lv_at hl 0 rfl) ?_
  refine wq_gA X S hv ccX1 in_X1 (k := 2) (by decide) q229 dX1_advice_3 (fun x3 hv => ?_)
  refine wq_cV_I X S hv q269 q270 q271 q63 ⟨by decide +kernel, by decide +kernel⟩ (nA := 0) (As := []) (by decide +kernel) rfl rfl (by simp [wv_rfc, wv_kI, wv_kJ, wv_kF, wv_kD]) hl.1 dX1_advice_6 (fun x6 w6 H locs cells slots S hv => ?_) (wq_kx X rfl)
  refine lv_iconst (v := (1 : Int32)) X.hx X.hb dX1_advice_9 (by decide) ?_
  refine lv_isub X.hx X.hb dX1_advice_10 ?_
  refine wq_cS_I X S hv q1243 q1244 q60 ⟨by decide +kernel, by decide +kernel⟩ (nA := 3) (As := [.int v1, .int (0 : Int32), .int (x6 - (1 : Int32))]) (by decide +kernel) rfl rfl (by simp [wv_rfc, wv_kI, wv_kJ, wv_kF, wv_kD]) hl.1 dX1_advice_11 (fun x11 w11 H locs cells slots S hv => ?_) (wq_kx X rfl)
  refine wq_cS_V X S hv q1437 q1438 q60 ⟨by decide +kernel, by decide +kernel⟩ (nA := 1) (As := [.int x11]) (by decide +kernel) rfl rfl (by simp [wv_rfc, wv_kI, wv_kJ, wv_kF, wv_kD]) hl.1 dX1_advice_14 (fun w14 H locs cells slots S hv => ?_) (wq_kx X rfl)
  refine wq_aload_n X dX1_advice_17 rfl (lv_at hl 0 rfl) ?_
  refine wq_gA X S hv ccX1 in_X1 (k := 2) (by decide) q229 dX1_advice_18 (fun x18 hv => ?_)
  refine lv_iload_n X.hx X.hb dX1_advice_21 rfl (lv_at hl 1 rfl) ?_
  refine wq_cV_A X S hv q273 q274 q275 q63 ⟨by decide +kernel, by decide +kernel⟩ (nA := 1) (As := [.int v1]) (by decide +kernel) rfl rfl (by simp [wv_rfc, wv_kI, wv_kJ, wv_kF, wv_kD]) hl.1 dX1_advice_22 (fun x22 w22 H locs cells slots S hv => ?_) (wq_kx X rfl)
  refine wq_cc X S hv q829 dX1_advice_25 (fun hv => ?_)
  exact wr_aret X S (Or.inl ⟨_, rfl⟩) hv dX1_advice_28
theorem wk_X1_advice {G : wv_G} (hG : wv_G0 G) {v0 : Option Nat} {v1 : Int32} {h : wv_H} {fr kc ks : Nat} {P : wv_R → wv_H → Prop} (hv : vc_X1_advice_0 G fr P v0 v1 (h, kc, ks)) : wv_C G yX1_advice [va_rf v0, .int v1] h fr kc ks P := by
  refine wv_enter (lv := [(0, va_rf v0), (1, .int v1)]) hG (by decide +kernel) q1579 (by decide) (by simp [lg_sl, wv_rfc, wv_kI, wv_kJ, wv_kF, wv_kD]) (by simp [lv_args, wv_rfc, wv_kI, wv_kJ, wv_kF, wv_kD]) ?_
  intro p e R s m args below meth c X H locs cells slots ls S hl
  exact wk_X1_advice_0 X hv H locs cells slots ls S (lv_sub hl [0, 1] rfl)

def vc_X1_asked_0 (G : wv_G) (fr : Nat) (P : wv_R → wv_H → Prop) (v0 : Option Nat) (w : wv_W) : Prop :=
  wv_gA w v0 ciX1 4 (fun x1 => wv_gI w x1 ciX2 5 (fun x4 => P (.inl (some (.int x4))) w.1))
set_option maxHeartbeats 4000000 in
theorem wk_X1_asked_0 {G : wv_G} {p : Program} {e : Env} {R : Room} {s : State} {m : MethodId} {args : Array Value} {below : List Frame} {meth : Method} {c : Code} {fr : Nat} {P : wv_R → wv_H → Prop} (X : wv_ok G p R s m args meth c fr "Weaversgate" cX1_asked 1 (Option.some Jvm.ClassFile.FieldType.int) "asked" []) {v0 : Option Nat} {w : wv_W} (hv : vc_X1_asked_0 G fr P v0 w) : wv_J G p e R s m args below meth c 1 P w 0 [(0, va_rf v0)] [] := by
  intro H locs cells slots ls S hl
  unfold vc_X1_asked_0 at hv
  refine wq_aload_n X dX1_asked_0 rfl (lv_at hl 0 rfl) ?_
  refine wq_gA X S hv ccX1 in_X1 (k := 4) (by decide) q231 dX1_asked_1 (fun x1 hv => ?_)
  refine wq_gIN X S hv ccX2 in_X2 (k := 5) (by decide) q201 dX1_asked_4 (fun x4 hv => ?_)
  exact wr_iret X S rfl hv dX1_asked_7
theorem wk_X1_asked {G : wv_G} (hG : wv_G0 G) {v0 : Option Nat} {h : wv_H} {fr kc ks : Nat} {P : wv_R → wv_H → Prop} (hv : vc_X1_asked_0 G fr P v0 (h, kc, ks)) : wv_C G yX1_asked [va_rf v0] h fr kc ks P := by
  refine wv_enter (lv := [(0, va_rf v0)]) hG (by decide +kernel) q921 (by decide) (by simp [lg_sl, wv_rfc, wv_kI, wv_kJ, wv_kF, wv_kD]) (by simp [lv_args, wv_rfc, wv_kI, wv_kJ, wv_kF, wv_kD]) ?_
  intro p e R s m args below meth c X H locs cells slots ls S hl
  exact wk_X1_asked_0 X hv H locs cells slots ls S (lv_sub hl [0] rfl)

def vc_X1_aspectAt_21 (G : wv_G) (fr : Nat) (P : wv_R → wv_H → Prop) (v0 : Option Nat) (v1 : Int32) (s0 : Int32) (w : wv_W) : Prop :=
  wv_c0 G fr yX1_checkState [.int s0] w (wv_rV (fun w21 => wv_cV G fr yX1_aspectOf v0 [.int v1] w21 (wv_rI (fun x26 w26 => P (.inl (some (.int x26))) w26.1) (wv_pr P))) (wv_pr P))
def vc_X1_aspectAt_0 (G : wv_G) (fr : Nat) (P : wv_R → wv_H → Prop) (v0 : Option Nat) (v1 : Int32) (w : wv_W) : Prop :=
  wv_c0 G fr yX1_inRange [.int v1, .int (0 : Int32), .int (3 : Int32)] w (wv_rI (fun x3 w3 => wv_c0 G fr yX1_checkArgument [.int x3] w3 (wv_rV (fun w6 => wv_cV G fr yX1_hasRing v0 [] w6 (wv_rI (fun x10 w10 => (¬ x10 = 0 → vc_X1_aspectAt_21 G fr P v0 v1 (0 : Int32) w10) ∧ (x10 = 0 → vc_X1_aspectAt_21 G fr P v0 v1 (1 : Int32) w10)) (wv_pr P))) (wv_pr P))) (wv_pr P))
set_option maxHeartbeats 4000000 in
theorem wk_X1_aspectAt_21 {G : wv_G} {p : Program} {e : Env} {R : Room} {s : State} {m : MethodId} {args : Array Value} {below : List Frame} {meth : Method} {c : Code} {fr : Nat} {P : wv_R → wv_H → Prop} (X : wv_ok G p R s m args meth c fr "Weaversgate" cX1_aspectAt 2 (Option.some Jvm.ClassFile.FieldType.int) "aspectAt" []) {v0 : Option Nat} {v1 : Int32} {s0 : Int32} {w : wv_W} (hv : vc_X1_aspectAt_21 G fr P v0 v1 s0 w) : wv_J G p e R s m args below meth c 2 P w 21 [(0, va_rf v0), (1, .int v1)] [.int s0] := by
  intro H locs cells slots ls S hl
  unfold vc_X1_aspectAt_21 at hv
  refine wq_cS_V X S hv q1264 q1265 q60 ⟨by decide +kernel, by decide +kernel⟩ (nA := 1) (As := [.int s0]) (by decide +kernel) rfl rfl (by simp [wv_rfc, wv_kI, wv_kJ, wv_kF, wv_kD]) hl.1 dX1_aspectAt_21 (fun w21 H locs cells slots S hv => ?_) (wq_kx X rfl)
  refine wq_aload_n X dX1_aspectAt_24 rfl (lv_at hl 0 rfl) ?_
  refine lv_iload_n X.hx X.hb dX1_aspectAt_25 rfl (lv_at hl 1 rfl) ?_
  refine wq_cV_I X S hv q257 q259 qs1 q60 ⟨by decide +kernel, by decide +kernel⟩ (nA := 1) (As := [.int v1]) (by decide +kernel) rfl rfl (by simp [wv_rfc, wv_kI, wv_kJ, wv_kF, wv_kD]) hl.1 dX1_aspectAt_26 (fun x26 w26 H locs cells slots S hv => ?_) (wq_kx X rfl)
  exact wr_iret X S rfl hv dX1_aspectAt_29
set_option maxHeartbeats 4000000 in
theorem wk_X1_aspectAt_0 {G : wv_G} {p : Program} {e : Env} {R : Room} {s : State} {m : MethodId} {args : Array Value} {below : List Frame} {meth : Method} {c : Code} {fr : Nat} {P : wv_R → wv_H → Prop} (X : wv_ok G p R s m args meth c fr "Weaversgate" cX1_aspectAt 2 (Option.some Jvm.ClassFile.FieldType.int) "aspectAt" []) {v0 : Option Nat} {v1 : Int32} {w : wv_W} (hv : vc_X1_aspectAt_0 G fr P v0 v1 w) : wv_J G p e R s m args below meth c 2 P w 0 [(0, va_rf v0), (1, .int v1)] [] := by
  intro H locs cells slots ls S hl
  unfold vc_X1_aspectAt_0 at hv
  refine lv_iload_n X.hx X.hb dX1_aspectAt_0 rfl (lv_at hl 1 rfl) ?_
  refine lv_iconst (v := (0 : Int32)) X.hx X.hb dX1_aspectAt_1 (by decide) ?_
  refine lv_iconst (v := (3 : Int32)) X.hx X.hb dX1_aspectAt_2 (by decide) ?_
  refine wq_cS_I X S hv q1243 q1244 q60 ⟨by decide +kernel, by decide +kernel⟩ (nA := 3) (As := [.int v1, .int (0 : Int32), .int (3 : Int32)]) (by decide +kernel) rfl rfl (by simp [wv_rfc, wv_kI, wv_kJ, wv_kF, wv_kD]) hl.1 dX1_aspectAt_3 (fun x3 w3 H locs cells slots S hv => ?_) (wq_kx X rfl)
  refine wq_cS_V X S hv q1326 q1327 q60 ⟨by decide +kernel, by decide +kernel⟩ (nA := 1) (As := [.int x3]) (by decide +kernel) rfl rfl (by simp [wv_rfc, wv_kI, wv_kJ, wv_kF, wv_kD]) hl.1 dX1_aspectAt_6 (fun w6 H locs cells slots S hv => ?_) (wq_kx X rfl)
  refine wq_aload_n X dX1_aspectAt_9 rfl (lv_at hl 0 rfl) ?_
  refine wq_cV_I X S hv q253 q255 qs0 q60 ⟨by decide +kernel, by decide +kernel⟩ (nA := 0) (As := []) (by decide +kernel) rfl rfl (by simp [wv_rfc, wv_kI, wv_kJ, wv_kF, wv_kD]) hl.1 dX1_aspectAt_10 (fun x10 w10 H locs cells slots S hv => ?_) (wq_kx X rfl)
  refine lv_if_ne (tgt := 20) X.hx X.hb dX1_aspectAt_13 (by decide) (fun c13 => ?_) (fun c13 => ?_)
  · have hv := hv.1 c13
    refine lv_iconst (v := (0 : Int32)) X.hx X.hb dX1_aspectAt_20 (by decide) ?_
    exact wk_X1_aspectAt_21 X  hv H locs cells slots ls S (lv_sub hl [0, 1] rfl)
  · have hv := hv.2 c13
    refine lv_iconst (v := (1 : Int32)) X.hx X.hb dX1_aspectAt_16 (by decide) ?_
    refine lv_goto (tgt := 21) X.hx X.hb dX1_aspectAt_17 (by decide) ?_
    exact wk_X1_aspectAt_21 X  hv H locs cells slots ls S (lv_sub hl [0, 1] rfl)
theorem wk_X1_aspectAt {G : wv_G} (hG : wv_G0 G) {v0 : Option Nat} {v1 : Int32} {h : wv_H} {fr kc ks : Nat} {P : wv_R → wv_H → Prop} (hv : vc_X1_aspectAt_0 G fr P v0 v1 (h, kc, ks)) : wv_C G yX1_aspectAt [va_rf v0, .int v1] h fr kc ks P := by
  refine wv_enter (lv := [(0, va_rf v0), (1, .int v1)]) hG (by decide +kernel) q1593 (by decide) (by simp [lg_sl, wv_rfc, wv_kI, wv_kJ, wv_kF, wv_kD]) (by simp [lv_args, wv_rfc, wv_kI, wv_kJ, wv_kF, wv_kD]) ?_
  intro p e R s m args below meth c X H locs cells slots ls S hl
  exact wk_X1_aspectAt_0 X hv H locs cells slots ls S (lv_sub hl [0, 1] rfl)

def vc_X1_aspectOf_95 (G : wv_G) (fr : Nat) (P : wv_R → wv_H → Prop) (K9 : ((Option Nat) × Int32 × (Option Nat) × Int32 × Int32) → wv_W → Prop) (K20 : ((Option Nat) × Int32 × (Option Nat) × Int32 × Int32 × Int32) → wv_W → Prop) (v0 : Option Nat) (v1 : Int32) (v2 : Option Nat) (v4 : Int32) (v5 : Int32) (s0 : Int32) (w : wv_W) : Prop :=
  K20 (v0, v1, v2, s0, v4, (v5 + (-1 : Int32))) w
def vc_X1_aspectOf_75 (G : wv_G) (fr : Nat) (P : wv_R → wv_H → Prop) (K9 : ((Option Nat) × Int32 × (Option Nat) × Int32 × Int32) → wv_W → Prop) (K20 : ((Option Nat) × Int32 × (Option Nat) × Int32 × Int32 × Int32) → wv_W → Prop) (K42 : ((Option Nat) × Int32 × (Option Nat) × Int32 × Int32 × Int32 × Int32 × Int32) → wv_W → Prop) (v0 : Option Nat) (v1 : Int32) (v2 : Option Nat) (v3 : Int32) (v4 : Int32) (v5 : Int32) (v7 : Int32) (s0 : Int32) (s1 : Int32) (w : wv_W) : Prop :=
  K42 (v0, v1, v2, v3, v4, v5, (s1 &&& s0), (v7 + (1 : Int32))) w
def vc_X1_aspectOf_42 (G : wv_G) (fr : Nat) (P : wv_R → wv_H → Prop) (K9 : ((Option Nat) × Int32 × (Option Nat) × Int32 × Int32) → wv_W → Prop) (K20 : ((Option Nat) × Int32 × (Option Nat) × Int32 × Int32 × Int32) → wv_W → Prop) (K42 : ((Option Nat) × Int32 × (Option Nat) × Int32 × Int32 × Int32 × Int32 × Int32) → wv_W → Prop) (v0 : Option Nat) (v1 : Int32) (v2 : Option Nat) (v3 : Int32) (v4 : Int32) (v5 : Int32) (v6 : Int32) (v7 : Int32) (w : wv_W) : Prop :=
  ((4 : Int32) ≤ v7 → (v6 = 0 → vc_X1_aspectOf_95 G fr P K9 K20 v0 v1 v2 v4 v5 v3 w) ∧ (¬ v6 = 0 → vc_X1_aspectOf_95 G fr P K9 K20 v0 v1 v2 v4 v5 v5 w)) ∧ (¬ (4 : Int32) ≤ v7 → wv_li G 2 w v2 v7 (fun x53 => (¬ x53 = 0 → vc_X1_aspectOf_75 G fr P K9 K20 K42 v0 v1 v2 v3 v4 v5 v7 (1 : Int32) v6 w) ∧ (x53 = 0 → wv_gA w v0 ciX1 3 (fun x58 => wv_lq G 8 w x58 v7 (fun x63 => wv_li G 2 w x63 v5 (fun x66 => (¬ x66 = 0 → vc_X1_aspectOf_75 G fr P K9 K20 K42 v0 v1 v2 v3 v4 v5 v7 (0 : Int32) v6 w) ∧ (x66 = 0 → vc_X1_aspectOf_75 G fr P K9 K20 K42 v0 v1 v2 v3 v4 v5 v7 (1 : Int32) v6 w)))))))
def vc_X1_aspectOf_37 (G : wv_G) (fr : Nat) (P : wv_R → wv_H → Prop) (K9 : ((Option Nat) × Int32 × (Option Nat) × Int32 × Int32) → wv_W → Prop) (K20 : ((Option Nat) × Int32 × (Option Nat) × Int32 × Int32 × Int32) → wv_W → Prop) (v0 : Option Nat) (v1 : Int32) (v2 : Option Nat) (v3 : Int32) (v4 : Int32) (v5 : Int32) (s0 : Int32) (w : wv_W) : Prop :=
  wv_L (fun K42 a w => vc_X1_aspectOf_42 G fr P K9 K20 K42 a.1 a.2.1 a.2.2.1 a.2.2.2.1 a.2.2.2.2.1 a.2.2.2.2.2.1 a.2.2.2.2.2.2.1 a.2.2.2.2.2.2.2 w) (v0, v1, v2, v3, v4, v5, s0, (0 : Int32)) w
def vc_X1_aspectOf_20 (G : wv_G) (fr : Nat) (P : wv_R → wv_H → Prop) (K9 : ((Option Nat) × Int32 × (Option Nat) × Int32 × Int32) → wv_W → Prop) (K20 : ((Option Nat) × Int32 × (Option Nat) × Int32 × Int32 × Int32) → wv_W → Prop) (v0 : Option Nat) (v1 : Int32) (v2 : Option Nat) (v3 : Int32) (v4 : Int32) (v5 : Int32) (w : wv_W) : Prop :=
  (v5 < 0 → (¬ v3 = (-1 : Int32) → wv_si G 2 w v2 v3 (vp_nar .boolean (1 : Int32)) (fun w112 => K9 (v0, v1, v2, v3, (v4 + (1 : Int32))) w112)) ∧ (v3 = (-1 : Int32) → P (.inl (some (.int (-1 : Int32)))) w.1)) ∧ (¬ v5 < 0 → wv_li G 2 w v2 v5 (fun x28 => (¬ x28 = 0 → vc_X1_aspectOf_37 G fr P K9 K20 v0 v1 v2 v3 v4 v5 (0 : Int32) w) ∧ (x28 = 0 → vc_X1_aspectOf_37 G fr P K9 K20 v0 v1 v2 v3 v4 v5 (1 : Int32) w)))
def vc_X1_aspectOf_9 (G : wv_G) (fr : Nat) (P : wv_R → wv_H → Prop) (K9 : ((Option Nat) × Int32 × (Option Nat) × Int32 × Int32) → wv_W → Prop) (v0 : Option Nat) (v1 : Int32) (v2 : Option Nat) (v3 : Int32) (v4 : Int32) (w : wv_W) : Prop :=
  (v1 < v4 → P (.inl (some (.int v3))) w.1) ∧ (¬ v1 < v4 → wv_L (fun K20 a w => vc_X1_aspectOf_20 G fr P K9 K20 a.1 a.2.1 a.2.2.1 a.2.2.2.1 a.2.2.2.2.1 a.2.2.2.2.2 w) (v0, v1, v2, (-1 : Int32), v4, (3 : Int32)) w)
def vc_X1_aspectOf_0 (G : wv_G) (fr : Nat) (P : wv_R → wv_H → Prop) (v0 : Option Nat) (v1 : Int32) (w : wv_W) : Prop :=
  wv_na G w (4 : Int32) (fun N => wo_i (wv_A G 2) N (fun _ => 0)) (fun a1 w1 => wv_L (fun K9 a w => vc_X1_aspectOf_9 G fr P K9 a.1 a.2.1 a.2.2.1 a.2.2.2.1 a.2.2.2.2 w) (v0, v1, (some a1), (-1 : Int32), (0 : Int32)) w1)
set_option maxHeartbeats 4000000 in
theorem wk_X1_aspectOf_95 {G : wv_G} {p : Program} {e : Env} {R : Room} {s : State} {m : MethodId} {args : Array Value} {below : List Frame} {meth : Method} {c : Code} {fr : Nat} {P : wv_R → wv_H → Prop} (X : wv_ok G p R s m args meth c fr "Weaversgate" cX1_aspectOf 8 (Option.some Jvm.ClassFile.FieldType.int) "aspectOf" []) {K9 : ((Option Nat) × Int32 × (Option Nat) × Int32 × Int32) → wv_W → Prop} (hK9 : ∀ a w, K9 a w → wv_J G p e R s m args below meth c 8 P w 9 [(0, va_rf a.1), (1, .int a.2.1), (2, va_rf a.2.2.1), (3, .int a.2.2.2.1), (4, .int a.2.2.2.2)] []) {K20 : ((Option Nat) × Int32 × (Option Nat) × Int32 × Int32 × Int32) → wv_W → Prop} (hK20 : ∀ a w, K20 a w → wv_J G p e R s m args below meth c 8 P w 20 [(0, va_rf a.1), (1, .int a.2.1), (2, va_rf a.2.2.1), (3, .int a.2.2.2.1), (4, .int a.2.2.2.2.1), (5, .int a.2.2.2.2.2)] []) {v0 : Option Nat} {v1 : Int32} {v2 : Option Nat} {v4 : Int32} {v5 : Int32} {s0 : Int32} {w : wv_W} (hv : vc_X1_aspectOf_95 G fr P K9 K20 v0 v1 v2 v4 v5 s0 w) : wv_J G p e R s m args below meth c 8 P w 95 [(0, va_rf v0), (1, .int v1), (2, va_rf v2), (4, .int v4), (5, .int v5)] [.int s0] := by
  intro H locs cells slots ls S hl
  unfold vc_X1_aspectOf_95 at hv
  refine lv_istore_n X.hx X.hb (i := 3) (lv' := [(3, .int s0), (0, va_rf v0), (1, .int v1), (2, va_rf v2), (4, .int v4), (5, .int v5)]) dX1_aspectOf_95 rfl hl (by decide) (by simp [wv_rfc, wv_kI, wv_kJ, wv_kF, wv_kD]) (fun ls hl => ?_)
  refine lv_iinc (v := (v5 + (-1 : Int32))) (lv' := [(5, .int (v5 + (-1 : Int32))), (3, .int s0), (0, va_rf v0), (1, .int v1), (2, va_rf v2), (4, .int v4)]) X.hx X.hb dX1_aspectOf_96 hl (k := 5) rfl (by rfl) (by decide) (by simp [wv_rfc, wv_kI, wv_kJ, wv_kF, wv_kD]) (fun ls hl => ?_)
  refine lv_goto (tgt := 20) X.hx X.hb dX1_aspectOf_99 (by decide) ?_
  exact hK20 _ _ hv H locs cells slots ls S (lv_sub hl [2, 3, 4, 1, 5, 0] rfl)
set_option maxHeartbeats 4000000 in
theorem wk_X1_aspectOf_75 {G : wv_G} {p : Program} {e : Env} {R : Room} {s : State} {m : MethodId} {args : Array Value} {below : List Frame} {meth : Method} {c : Code} {fr : Nat} {P : wv_R → wv_H → Prop} (X : wv_ok G p R s m args meth c fr "Weaversgate" cX1_aspectOf 8 (Option.some Jvm.ClassFile.FieldType.int) "aspectOf" []) {K9 : ((Option Nat) × Int32 × (Option Nat) × Int32 × Int32) → wv_W → Prop} (hK9 : ∀ a w, K9 a w → wv_J G p e R s m args below meth c 8 P w 9 [(0, va_rf a.1), (1, .int a.2.1), (2, va_rf a.2.2.1), (3, .int a.2.2.2.1), (4, .int a.2.2.2.2)] []) {K20 : ((Option Nat) × Int32 × (Option Nat) × Int32 × Int32 × Int32) → wv_W → Prop} (hK20 : ∀ a w, K20 a w → wv_J G p e R s m args below meth c 8 P w 20 [(0, va_rf a.1), (1, .int a.2.1), (2, va_rf a.2.2.1), (3, .int a.2.2.2.1), (4, .int a.2.2.2.2.1), (5, .int a.2.2.2.2.2)] []) {K42 : ((Option Nat) × Int32 × (Option Nat) × Int32 × Int32 × Int32 × Int32 × Int32) → wv_W → Prop} (hK42 : ∀ a w, K42 a w → wv_J G p e R s m args below meth c 8 P w 42 [(0, va_rf a.1), (1, .int a.2.1), (2, va_rf a.2.2.1), (3, .int a.2.2.2.1), (4, .int a.2.2.2.2.1), (5, .int a.2.2.2.2.2.1), (6, .int a.2.2.2.2.2.2.1), (7, .int a.2.2.2.2.2.2.2)] []) {v0 : Option Nat} {v1 : Int32} {v2 : Option Nat} {v3 : Int32} {v4 : Int32} {v5 : Int32} {v7 : Int32} {s0 : Int32} {s1 : Int32} {w : wv_W} (hv : vc_X1_aspectOf_75 G fr P K9 K20 K42 v0 v1 v2 v3 v4 v5 v7 s0 s1 w) : wv_J G p e R s m args below meth c 8 P w 75 [(0, va_rf v0), (1, .int v1), (2, va_rf v2), (3, .int v3), (4, .int v4), (5, .int v5), (7, .int v7)] [.int s0, .int s1] := by
  intro H locs cells slots ls S hl
  unfold vc_X1_aspectOf_75 at hv
  refine lv_iand X.hx X.hb dX1_aspectOf_75 ?_
  refine lv_istore X.hx X.hb (i := 6) (lv' := [(6, .int (s1 &&& s0)), (0, va_rf v0), (1, .int v1), (2, va_rf v2), (3, .int v3), (4, .int v4), (5, .int v5), (7, .int v7)]) dX1_aspectOf_76 hl (by decide) (by simp [wv_rfc, wv_kI, wv_kJ, wv_kF, wv_kD]) (fun ls hl => ?_)
  refine lv_iinc (v := (v7 + (1 : Int32))) (lv' := [(7, .int (v7 + (1 : Int32))), (6, .int (s1 &&& s0)), (0, va_rf v0), (1, .int v1), (2, va_rf v2), (3, .int v3), (4, .int v4), (5, .int v5)]) X.hx X.hb dX1_aspectOf_78 hl (k := 7) rfl (by rfl) (by decide) (by simp [wv_rfc, wv_kI, wv_kJ, wv_kF, wv_kD]) (fun ls hl => ?_)
  refine lv_goto (tgt := 42) X.hx X.hb dX1_aspectOf_81 (by decide) ?_
  exact hK42 _ _ hv H locs cells slots ls S (lv_sub hl [2, 3, 4, 5, 6, 7, 1, 0] rfl)
set_option maxHeartbeats 4000000 in
theorem wk_X1_aspectOf_42 {G : wv_G} {p : Program} {e : Env} {R : Room} {s : State} {m : MethodId} {args : Array Value} {below : List Frame} {meth : Method} {c : Code} {fr : Nat} {P : wv_R → wv_H → Prop} (X : wv_ok G p R s m args meth c fr "Weaversgate" cX1_aspectOf 8 (Option.some Jvm.ClassFile.FieldType.int) "aspectOf" []) {K9 : ((Option Nat) × Int32 × (Option Nat) × Int32 × Int32) → wv_W → Prop} (hK9 : ∀ a w, K9 a w → wv_J G p e R s m args below meth c 8 P w 9 [(0, va_rf a.1), (1, .int a.2.1), (2, va_rf a.2.2.1), (3, .int a.2.2.2.1), (4, .int a.2.2.2.2)] []) {K20 : ((Option Nat) × Int32 × (Option Nat) × Int32 × Int32 × Int32) → wv_W → Prop} (hK20 : ∀ a w, K20 a w → wv_J G p e R s m args below meth c 8 P w 20 [(0, va_rf a.1), (1, .int a.2.1), (2, va_rf a.2.2.1), (3, .int a.2.2.2.1), (4, .int a.2.2.2.2.1), (5, .int a.2.2.2.2.2)] []) {K42 : ((Option Nat) × Int32 × (Option Nat) × Int32 × Int32 × Int32 × Int32 × Int32) → wv_W → Prop} (hK42 : ∀ a w, K42 a w → wv_J G p e R s m args below meth c 8 P w 42 [(0, va_rf a.1), (1, .int a.2.1), (2, va_rf a.2.2.1), (3, .int a.2.2.2.1), (4, .int a.2.2.2.2.1), (5, .int a.2.2.2.2.2.1), (6, .int a.2.2.2.2.2.2.1), (7, .int a.2.2.2.2.2.2.2)] []) {v0 : Option Nat} {v1 : Int32} {v2 : Option Nat} {v3 : Int32} {v4 : Int32} {v5 : Int32} {v6 : Int32} {v7 : Int32} {w : wv_W} (hv : vc_X1_aspectOf_42 G fr P K9 K20 K42 v0 v1 v2 v3 v4 v5 v6 v7 w) : wv_J G p e R s m args below meth c 8 P w 42 [(0, va_rf v0), (1, .int v1), (2, va_rf v2), (3, .int v3), (4, .int v4), (5, .int v5), (6, .int v6), (7, .int v7)] [] := by
  intro H locs cells slots ls S hl
  unfold vc_X1_aspectOf_42 at hv
  refine lv_iload X.hx X.hb dX1_aspectOf_42 (lv_at hl 7 rfl) ?_
  refine lv_iconst (v := (4 : Int32)) X.hx X.hb dX1_aspectOf_44 (by decide) ?_
  refine lv_icmp_ge (tgt := 84) X.hx X.hb dX1_aspectOf_45 (by decide) (fun c45 => ?_) (fun c45 => ?_)
  · have hv := hv.1 c45
    refine lv_iload X.hx X.hb dX1_aspectOf_84 (lv_at hl 6 rfl) ?_
    refine lv_if_eq (tgt := 94) X.hx X.hb dX1_aspectOf_86 (by decide) (fun c86 => ?_) (fun c86 => ?_)
    · have hv := hv.1 c86
      refine lv_iload_n X.hx X.hb dX1_aspectOf_94 rfl (lv_at hl 3 rfl) ?_
      exact wk_X1_aspectOf_95 X hK9 hK20 hv H locs cells slots ls S (lv_sub hl [0, 1, 2, 4, 5] rfl)
    · have hv := hv.2 c86
      refine lv_iload X.hx X.hb dX1_aspectOf_89 (lv_at hl 5 rfl) ?_
      refine lv_goto (tgt := 95) X.hx X.hb dX1_aspectOf_91 (by decide) ?_
      exact wk_X1_aspectOf_95 X hK9 hK20 hv H locs cells slots ls S (lv_sub hl [0, 1, 2, 4, 5] rfl)
  · have hv := hv.2 c45
    refine lv_iload X.hx X.hb dX1_aspectOf_48 (lv_at hl 6 rfl) ?_
    refine wq_aload_n X dX1_aspectOf_50 rfl (lv_at hl 2 rfl) ?_
    refine lv_iload X.hx X.hb dX1_aspectOf_51 (lv_at hl 7 rfl) ?_
    refine wq_li2 X S hv dX1_aspectOf_53 (fun x53 hv => ?_)
    refine lv_if_ne (tgt := 70) X.hx X.hb dX1_aspectOf_54 (by decide) (fun c54 => ?_) (fun c54 => ?_)
    · have hv := hv.1 c54
      refine lv_iconst (v := (1 : Int32)) X.hx X.hb dX1_aspectOf_70 (by decide) ?_
      refine lv_goto (tgt := 75) X.hx X.hb dX1_aspectOf_71 (by decide) ?_
      exact wk_X1_aspectOf_75 X hK9 hK20 hK42 hv H locs cells slots ls S (lv_sub hl [0, 1, 2, 3, 4, 5, 7] rfl)
    · have hv := hv.2 c54
      refine wq_aload_n X dX1_aspectOf_57 rfl (lv_at hl 0 rfl) ?_
      refine wq_gA X S hv ccX1 in_X1 (k := 3) (by decide) q230 dX1_aspectOf_58 (fun x58 hv => ?_)
      refine lv_iload X.hx X.hb dX1_aspectOf_61 (lv_at hl 7 rfl) ?_
      refine wq_lq8 X S hv dX1_aspectOf_63 (fun x63 hv => ?_)
      refine lv_iload X.hx X.hb dX1_aspectOf_64 (lv_at hl 5 rfl) ?_
      refine wq_li2 X S hv dX1_aspectOf_66 (fun x66 hv => ?_)
      refine lv_if_ne (tgt := 74) X.hx X.hb dX1_aspectOf_67 (by decide) (fun c67 => ?_) (fun c67 => ?_)
      · have hv := hv.1 c67
        refine lv_iconst (v := (0 : Int32)) X.hx X.hb dX1_aspectOf_74 (by decide) ?_
        exact wk_X1_aspectOf_75 X hK9 hK20 hK42 hv H locs cells slots ls S (lv_sub hl [0, 1, 2, 3, 4, 5, 7] rfl)
      · have hv := hv.2 c67
        refine lv_iconst (v := (1 : Int32)) X.hx X.hb dX1_aspectOf_70 (by decide) ?_
        refine lv_goto (tgt := 75) X.hx X.hb dX1_aspectOf_71 (by decide) ?_
        exact wk_X1_aspectOf_75 X hK9 hK20 hK42 hv H locs cells slots ls S (lv_sub hl [0, 1, 2, 3, 4, 5, 7] rfl)
set_option maxHeartbeats 4000000 in
theorem wk_X1_aspectOf_37 {G : wv_G} {p : Program} {e : Env} {R : Room} {s : State} {m : MethodId} {args : Array Value} {below : List Frame} {meth : Method} {c : Code} {fr : Nat} {P : wv_R → wv_H → Prop} (X : wv_ok G p R s m args meth c fr "Weaversgate" cX1_aspectOf 8 (Option.some Jvm.ClassFile.FieldType.int) "aspectOf" []) {K9 : ((Option Nat) × Int32 × (Option Nat) × Int32 × Int32) → wv_W → Prop} (hK9 : ∀ a w, K9 a w → wv_J G p e R s m args below meth c 8 P w 9 [(0, va_rf a.1), (1, .int a.2.1), (2, va_rf a.2.2.1), (3, .int a.2.2.2.1), (4, .int a.2.2.2.2)] []) {K20 : ((Option Nat) × Int32 × (Option Nat) × Int32 × Int32 × Int32) → wv_W → Prop} (hK20 : ∀ a w, K20 a w → wv_J G p e R s m args below meth c 8 P w 20 [(0, va_rf a.1), (1, .int a.2.1), (2, va_rf a.2.2.1), (3, .int a.2.2.2.1), (4, .int a.2.2.2.2.1), (5, .int a.2.2.2.2.2)] []) {v0 : Option Nat} {v1 : Int32} {v2 : Option Nat} {v3 : Int32} {v4 : Int32} {v5 : Int32} {s0 : Int32} {w : wv_W} (hv : vc_X1_aspectOf_37 G fr P K9 K20 v0 v1 v2 v3 v4 v5 s0 w) : wv_J G p e R s m args below meth c 8 P w 37 [(0, va_rf v0), (1, .int v1), (2, va_rf v2), (3, .int v3), (4, .int v4), (5, .int v5)] [.int s0] := by
  intro H locs cells slots ls S hl
  unfold vc_X1_aspectOf_37 at hv
  refine lv_istore X.hx X.hb (i := 6) (lv' := [(6, .int s0), (0, va_rf v0), (1, .int v1), (2, va_rf v2), (3, .int v3), (4, .int v4), (5, .int v5)]) dX1_aspectOf_37 hl (by decide) (by simp [wv_rfc, wv_kI, wv_kJ, wv_kF, wv_kD]) (fun ls hl => ?_)
  refine lv_iconst (v := (0 : Int32)) X.hx X.hb dX1_aspectOf_39 (by decide) ?_
  refine lv_istore X.hx X.hb (i := 7) (lv' := [(7, .int (0 : Int32)), (6, .int s0), (0, va_rf v0), (1, .int v1), (2, va_rf v2), (3, .int v3), (4, .int v4), (5, .int v5)]) dX1_aspectOf_40 hl (by decide) (by simp [wv_rfc, wv_kI, wv_kJ, wv_kF, wv_kD]) (fun ls hl => ?_)
  exact wv_loop (A := (Option Nat) × Int32 × (Option Nat) × Int32 × Int32 × Int32 × Int32 × Int32) (fun a w => wv_J G p e R s m args below meth c 8 P w 42 [(0, va_rf a.1), (1, .int a.2.1), (2, va_rf a.2.2.1), (3, .int a.2.2.2.1), (4, .int a.2.2.2.2.1), (5, .int a.2.2.2.2.2.1), (6, .int a.2.2.2.2.2.2.1), (7, .int a.2.2.2.2.2.2.2)] []) (fun K42 hK42 a w hv => wk_X1_aspectOf_42 X hK9 hK20 hK42 hv) hv H locs cells slots ls S (lv_sub hl [2, 3, 4, 5, 6, 7, 1, 0] rfl)
set_option maxHeartbeats 4000000 in
theorem wk_X1_aspectOf_20 {G : wv_G} {p : Program} {e : Env} {R : Room} {s : State} {m : MethodId} {args : Array Value} {below : List Frame} {meth : Method} {c : Code} {fr : Nat} {P : wv_R → wv_H → Prop} (X : wv_ok G p R s m args meth c fr "Weaversgate" cX1_aspectOf 8 (Option.some Jvm.ClassFile.FieldType.int) "aspectOf" []) {K9 : ((Option Nat) × Int32 × (Option Nat) × Int32 × Int32) → wv_W → Prop} (hK9 : ∀ a w, K9 a w → wv_J G p e R s m args below meth c 8 P w 9 [(0, va_rf a.1), (1, .int a.2.1), (2, va_rf a.2.2.1), (3, .int a.2.2.2.1), (4, .int a.2.2.2.2)] []) {K20 : ((Option Nat) × Int32 × (Option Nat) × Int32 × Int32 × Int32) → wv_W → Prop} (hK20 : ∀ a w, K20 a w → wv_J G p e R s m args below meth c 8 P w 20 [(0, va_rf a.1), (1, .int a.2.1), (2, va_rf a.2.2.1), (3, .int a.2.2.2.1), (4, .int a.2.2.2.2.1), (5, .int a.2.2.2.2.2)] []) {v0 : Option Nat} {v1 : Int32} {v2 : Option Nat} {v3 : Int32} {v4 : Int32} {v5 : Int32} {w : wv_W} (hv : vc_X1_aspectOf_20 G fr P K9 K20 v0 v1 v2 v3 v4 v5 w) : wv_J G p e R s m args below meth c 8 P w 20 [(0, va_rf v0), (1, .int v1), (2, va_rf v2), (3, .int v3), (4, .int v4), (5, .int v5)] [] := by
  intro H locs cells slots ls S hl
  unfold vc_X1_aspectOf_20 at hv
  refine lv_iload X.hx X.hb dX1_aspectOf_20 (lv_at hl 5 rfl) ?_
  refine lv_if_lt (tgt := 102) X.hx X.hb dX1_aspectOf_22 (by decide) (fun c22 => ?_) (fun c22 => ?_)
  · have hv := hv.1 c22
    refine lv_iload_n X.hx X.hb dX1_aspectOf_102 rfl (lv_at hl 3 rfl) ?_
    refine lv_iconst (v := (-1 : Int32)) X.hx X.hb dX1_aspectOf_103 (by decide) ?_
    refine lv_icmp_ne (tgt := 109) X.hx X.hb dX1_aspectOf_104 (by decide) (fun c104 => ?_) (fun c104 => ?_)
    · have hv := hv.1 c104
      refine wq_aload_n X dX1_aspectOf_109 rfl (lv_at hl 2 rfl) ?_
      refine lv_iload_n X.hx X.hb dX1_aspectOf_110 rfl (lv_at hl 3 rfl) ?_
      refine lv_iconst (v := (1 : Int32)) X.hx X.hb dX1_aspectOf_111 (by decide) ?_
      refine wq_si2 X S hv dX1_aspectOf_112 (fun w112 H locs S hv => ?_)
      refine lv_iinc (v := (v4 + (1 : Int32))) (lv' := [(4, .int (v4 + (1 : Int32))), (0, va_rf v0), (1, .int v1), (2, va_rf v2), (3, .int v3), (5, .int v5)]) X.hx X.hb dX1_aspectOf_113 hl (k := 4) rfl (by rfl) (by decide) (by simp [wv_rfc, wv_kI, wv_kJ, wv_kF, wv_kD]) (fun ls hl => ?_)
      refine lv_goto (tgt := 9) X.hx X.hb dX1_aspectOf_116 (by decide) ?_
      exact hK9 _ _ hv H locs cells slots ls S (lv_sub hl [1, 2, 3, 4, 0] rfl)
    · have hv := hv.2 c104
      refine lv_iconst (v := (-1 : Int32)) X.hx X.hb dX1_aspectOf_107 (by decide) ?_
      exact wr_iret X S rfl hv dX1_aspectOf_108
  · have hv := hv.2 c22
    refine wq_aload_n X dX1_aspectOf_25 rfl (lv_at hl 2 rfl) ?_
    refine lv_iload X.hx X.hb dX1_aspectOf_26 (lv_at hl 5 rfl) ?_
    refine wq_li2 X S hv dX1_aspectOf_28 (fun x28 hv => ?_)
    refine lv_if_ne (tgt := 36) X.hx X.hb dX1_aspectOf_29 (by decide) (fun c29 => ?_) (fun c29 => ?_)
    · have hv := hv.1 c29
      refine lv_iconst (v := (0 : Int32)) X.hx X.hb dX1_aspectOf_36 (by decide) ?_
      exact wk_X1_aspectOf_37 X hK9 hK20 hv H locs cells slots ls S (lv_sub hl [0, 1, 2, 3, 4, 5] rfl)
    · have hv := hv.2 c29
      refine lv_iconst (v := (1 : Int32)) X.hx X.hb dX1_aspectOf_32 (by decide) ?_
      refine lv_goto (tgt := 37) X.hx X.hb dX1_aspectOf_33 (by decide) ?_
      exact wk_X1_aspectOf_37 X hK9 hK20 hv H locs cells slots ls S (lv_sub hl [0, 1, 2, 3, 4, 5] rfl)
set_option maxHeartbeats 4000000 in
theorem wk_X1_aspectOf_9 {G : wv_G} {p : Program} {e : Env} {R : Room} {s : State} {m : MethodId} {args : Array Value} {below : List Frame} {meth : Method} {c : Code} {fr : Nat} {P : wv_R → wv_H → Prop} (X : wv_ok G p R s m args meth c fr "Weaversgate" cX1_aspectOf 8 (Option.some Jvm.ClassFile.FieldType.int) "aspectOf" []) {K9 : ((Option Nat) × Int32 × (Option Nat) × Int32 × Int32) → wv_W → Prop} (hK9 : ∀ a w, K9 a w → wv_J G p e R s m args below meth c 8 P w 9 [(0, va_rf a.1), (1, .int a.2.1), (2, va_rf a.2.2.1), (3, .int a.2.2.2.1), (4, .int a.2.2.2.2)] []) {v0 : Option Nat} {v1 : Int32} {v2 : Option Nat} {v3 : Int32} {v4 : Int32} {w : wv_W} (hv : vc_X1_aspectOf_9 G fr P K9 v0 v1 v2 v3 v4 w) : wv_J G p e R s m args below meth c 8 P w 9 [(0, va_rf v0), (1, .int v1), (2, va_rf v2), (3, .int v3), (4, .int v4)] [] := by
  intro H locs cells slots ls S hl
  unfold vc_X1_aspectOf_9 at hv
  refine lv_iload X.hx X.hb dX1_aspectOf_9 (lv_at hl 4 rfl) ?_
  refine lv_iload_n X.hx X.hb dX1_aspectOf_11 rfl (lv_at hl 1 rfl) ?_
  refine lv_icmp_gt (tgt := 119) X.hx X.hb dX1_aspectOf_12 (by decide) (fun c12 => ?_) (fun c12 => ?_)
  · have hv := hv.1 c12
    refine lv_iload_n X.hx X.hb dX1_aspectOf_119 rfl (lv_at hl 3 rfl) ?_
    exact wr_iret X S rfl hv dX1_aspectOf_120
  · have hv := hv.2 c12
    refine lv_iconst (v := (-1 : Int32)) X.hx X.hb dX1_aspectOf_15 (by decide) ?_
    refine lv_istore_n X.hx X.hb (i := 3) (lv' := [(3, .int (-1 : Int32)), (0, va_rf v0), (1, .int v1), (2, va_rf v2), (4, .int v4)]) dX1_aspectOf_16 rfl hl (by decide) (by simp [wv_rfc, wv_kI, wv_kJ, wv_kF, wv_kD]) (fun ls hl => ?_)
    refine lv_iconst (v := (3 : Int32)) X.hx X.hb dX1_aspectOf_17 (by decide) ?_
    refine lv_istore X.hx X.hb (i := 5) (lv' := [(5, .int (3 : Int32)), (3, .int (-1 : Int32)), (0, va_rf v0), (1, .int v1), (2, va_rf v2), (4, .int v4)]) dX1_aspectOf_18 hl (by decide) (by simp [wv_rfc, wv_kI, wv_kJ, wv_kF, wv_kD]) (fun ls hl => ?_)
    exact wv_loop (A := (Option Nat) × Int32 × (Option Nat) × Int32 × Int32 × Int32) (fun a w => wv_J G p e R s m args below meth c 8 P w 20 [(0, va_rf a.1), (1, .int a.2.1), (2, va_rf a.2.2.1), (3, .int a.2.2.2.1), (4, .int a.2.2.2.2.1), (5, .int a.2.2.2.2.2)] []) (fun K20 hK20 a w hv => wk_X1_aspectOf_20 X hK9 hK20 hv) hv H locs cells slots ls S (lv_sub hl [2, 3, 4, 1, 5, 0] rfl)
set_option maxHeartbeats 4000000 in
theorem wk_X1_aspectOf_0 {G : wv_G} {p : Program} {e : Env} {R : Room} {s : State} {m : MethodId} {args : Array Value} {below : List Frame} {meth : Method} {c : Code} {fr : Nat} {P : wv_R → wv_H → Prop} (X : wv_ok G p R s m args meth c fr "Weaversgate" cX1_aspectOf 8 (Option.some Jvm.ClassFile.FieldType.int) "aspectOf" []) {v0 : Option Nat} {v1 : Int32} {w : wv_W} (hv : vc_X1_aspectOf_0 G fr P v0 v1 w) : wv_J G p e R s m args below meth c 8 P w 0 [(0, va_rf v0), (1, .int v1)] [] := by
  intro H locs cells slots ls S hl
  unfold vc_X1_aspectOf_0 at hv
  refine lv_iconst (v := (4 : Int32)) X.hx X.hb dX1_aspectOf_0 (by decide) ?_
  refine wq_nwz X S hv q186 dX1_aspectOf_1 (fun a1 w1 H cells slots S hv => ?_)
  refine wq_astore_n X (i := 2) (lv' := [(2, va_rf (some a1)), (0, va_rf v0), (1, .int v1)]) dX1_aspectOf_3 rfl hl (by decide) (by simp [wv_rfc, wv_kI, wv_kJ, wv_kF, wv_kD]) (fun ls hl => ?_)
  refine lv_iconst (v := (-1 : Int32)) X.hx X.hb dX1_aspectOf_4 (by decide) ?_
  refine lv_istore_n X.hx X.hb (i := 3) (lv' := [(3, .int (-1 : Int32)), (2, va_rf (some a1)), (0, va_rf v0), (1, .int v1)]) dX1_aspectOf_5 rfl hl (by decide) (by simp [wv_rfc, wv_kI, wv_kJ, wv_kF, wv_kD]) (fun ls hl => ?_)
  refine lv_iconst (v := (0 : Int32)) X.hx X.hb dX1_aspectOf_6 (by decide) ?_
  refine lv_istore X.hx X.hb (i := 4) (lv' := [(4, .int (0 : Int32)), (3, .int (-1 : Int32)), (2, va_rf (some a1)), (0, va_rf v0), (1, .int v1)]) dX1_aspectOf_7 hl (by decide) (by simp [wv_rfc, wv_kI, wv_kJ, wv_kF, wv_kD]) (fun ls hl => ?_)
  exact wv_loop (A := (Option Nat) × Int32 × (Option Nat) × Int32 × Int32) (fun a w => wv_J G p e R s m args below meth c 8 P w 9 [(0, va_rf a.1), (1, .int a.2.1), (2, va_rf a.2.2.1), (3, .int a.2.2.2.1), (4, .int a.2.2.2.2)] []) (fun K9 hK9 a w hv => wk_X1_aspectOf_9 X hK9 hv) hv H locs cells slots ls S (lv_sub hl [3, 4, 2, 1, 0] rfl)
theorem wk_X1_aspectOf {G : wv_G} (hG : wv_G0 G) {v0 : Option Nat} {v1 : Int32} {h : wv_H} {fr kc ks : Nat} {P : wv_R → wv_H → Prop} (hv : vc_X1_aspectOf_0 G fr P v0 v1 (h, kc, ks)) : wv_C G yX1_aspectOf [va_rf v0, .int v1] h fr kc ks P := by
  refine wv_enter (lv := [(0, va_rf v0), (1, .int v1)]) hG (by decide +kernel) q260 (by decide) (by simp [lg_sl, wv_rfc, wv_kI, wv_kJ, wv_kF, wv_kD]) (by simp [lv_args, wv_rfc, wv_kI, wv_kJ, wv_kF, wv_kD]) ?_
  intro p e R s m args below meth c X H locs cells slots ls S hl
  exact wk_X1_aspectOf_0 X hv H locs cells slots ls S (lv_sub hl [0, 1] rfl)

def vc_X1_checkArgument_0 (G : wv_G) (fr : Nat) (P : wv_R → wv_H → Prop) (v0 : Int32) (w : wv_W) : Prop :=
  (¬ v0 = 0 → P (.inl none) w.1) ∧ (v0 = 0 → wv_no G w (wo_o ciJ15 [va_rf none, va_rf none, va_rf none, va_rf none, va_rf none, .int 0]) 6 (fun a4 w4 => wv_cI G fr yJ15_init_2 (some a4) [] w4 (wv_rV (fun w8 => wv_at w8 (some a4) (wv_pr P)) (wv_pr P))))
set_option maxHeartbeats 4000000 in
theorem wk_X1_checkArgument_0 {G : wv_G} {p : Program} {e : Env} {R : Room} {s : State} {m : MethodId} {args : Array Value} {below : List Frame} {meth : Method} {c : Code} {fr : Nat} {P : wv_R → wv_H → Prop} (X : wv_ok G p R s m args meth c fr "Weaversgate" cX1_checkArgument 1 (Option.none : Option Jvm.ClassFile.FieldType) "checkArgument" []) {v0 : Int32} {w : wv_W} (hv : vc_X1_checkArgument_0 G fr P v0 w) : wv_J G p e R s m args below meth c 1 P w 0 [(0, .int v0)] [] := by
  intro H locs cells slots ls S hl
  unfold vc_X1_checkArgument_0 at hv
  refine lv_iload_n X.hx X.hb dX1_checkArgument_0 rfl (lv_at hl 0 rfl) ?_
  refine lv_if_ne (tgt := 12) X.hx X.hb dX1_checkArgument_1 (by decide) (fun c1 => ?_) (fun c1 => ?_)
  · have hv := hv.1 c1
    exact wr_vret X S hv dX1_checkArgument_12
  · have hv := hv.2 c1
    refine wq_new X S hv tyJ15 tyJ15_ok ccJ15 in_J15 q1329 q381 q82 (fun j hj => by have hj : j < 6 := hj; rcases (show j = 0 ∨ j = 1 ∨ j = 2 ∨ j = 3 ∨ j = 4 ∨ j = 5 by omega) with rfl | rfl | rfl | rfl | rfl | rfl <;> rfl) dX1_checkArgument_4 (fun a4 w4 H cells slots S hv => ?_)
    refine lv_dup X.hx X.hb dX1_checkArgument_7 (wv_rfc _) ?_
    refine wq_cI_V X S hv rfl q1330 q1331 q1332 q82 ⟨by decide +kernel, by decide +kernel⟩ (nA := 0) (As := []) (by decide +kernel) rfl rfl (by simp [wv_rfc, wv_kI, wv_kJ, wv_kF, wv_kD]) hl.1 dX1_checkArgument_8 (fun w8 H locs cells slots S hv => ?_) (wq_kx X rfl)
    exact wq_athrow X S hv dX1_checkArgument_11 (wq_kx X rfl)
theorem wk_X1_checkArgument {G : wv_G} (hG : wv_G0 G) {v0 : Int32} {h : wv_H} {fr kc ks : Nat} {P : wv_R → wv_H → Prop} (hv : vc_X1_checkArgument_0 G fr P v0 (h, kc, ks)) : wv_C G yX1_checkArgument [.int v0] h fr kc ks P := by
  refine wv_enter (lv := [(0, .int v0)]) hG (by decide +kernel) q1328 (by decide) (by simp [lg_sl, wv_rfc, wv_kI, wv_kJ, wv_kF, wv_kD]) (by simp [lv_args, wv_rfc, wv_kI, wv_kJ, wv_kF, wv_kD]) ?_
  intro p e R s m args below meth c X H locs cells slots ls S hl
  exact wk_X1_checkArgument_0 X hv H locs cells slots ls S (lv_sub hl [0] rfl)

def vc_X1_checkFound_0 (G : wv_G) (fr : Nat) (P : wv_R → wv_H → Prop) (v0 : Int32) (w : wv_W) : Prop :=
  (¬ v0 = 0 → P (.inl none) w.1) ∧ (v0 = 0 → wv_no G w (wo_o ciJ16 [va_rf none, va_rf none, va_rf none, va_rf none, va_rf none, .int 0]) 6 (fun a4 w4 => wv_cI G fr yJ16_init (some a4) [] w4 (wv_rV (fun w8 => wv_at w8 (some a4) (wv_pr P)) (wv_pr P))))
set_option maxHeartbeats 4000000 in
theorem wk_X1_checkFound_0 {G : wv_G} {p : Program} {e : Env} {R : Room} {s : State} {m : MethodId} {args : Array Value} {below : List Frame} {meth : Method} {c : Code} {fr : Nat} {P : wv_R → wv_H → Prop} (X : wv_ok G p R s m args meth c fr "Weaversgate" cX1_checkFound 1 (Option.none : Option Jvm.ClassFile.FieldType) "checkFound" []) {v0 : Int32} {w : wv_W} (hv : vc_X1_checkFound_0 G fr P v0 w) : wv_J G p e R s m args below meth c 1 P w 0 [(0, .int v0)] [] := by
  intro H locs cells slots ls S hl
  unfold vc_X1_checkFound_0 at hv
  refine lv_iload_n X.hx X.hb dX1_checkFound_0 rfl (lv_at hl 0 rfl) ?_
  refine lv_if_ne (tgt := 12) X.hx X.hb dX1_checkFound_1 (by decide) (fun c1 => ?_) (fun c1 => ?_)
  · have hv := hv.1 c1
    exact wr_vret X S hv dX1_checkFound_12
  · have hv := hv.2 c1
    refine wq_new X S hv tyJ16 tyJ16_ok ccJ16 in_J16 q1440 q1441 q90 (fun j hj => by have hj : j < 6 := hj; rcases (show j = 0 ∨ j = 1 ∨ j = 2 ∨ j = 3 ∨ j = 4 ∨ j = 5 by omega) with rfl | rfl | rfl | rfl | rfl | rfl <;> rfl) dX1_checkFound_4 (fun a4 w4 H cells slots S hv => ?_)
    refine lv_dup X.hx X.hb dX1_checkFound_7 (wv_rfc _) ?_
    refine wq_cI_V X S hv rfl q1449 q1450 q1451 q90 ⟨by decide +kernel, by decide +kernel⟩ (nA := 0) (As := []) (by decide +kernel) rfl rfl (by simp [wv_rfc, wv_kI, wv_kJ, wv_kF, wv_kD]) hl.1 dX1_checkFound_8 (fun w8 H locs cells slots S hv => ?_) (wq_kx X rfl)
    exact wq_athrow X S hv dX1_checkFound_11 (wq_kx X rfl)
theorem wk_X1_checkFound {G : wv_G} (hG : wv_G0 G) {v0 : Int32} {h : wv_H} {fr kc ks : Nat} {P : wv_R → wv_H → Prop} (hv : vc_X1_checkFound_0 G fr P v0 (h, kc, ks)) : wv_C G yX1_checkFound [.int v0] h fr kc ks P := by
  refine wv_enter (lv := [(0, .int v0)]) hG (by decide +kernel) q1439 (by decide) (by simp [lg_sl, wv_rfc, wv_kI, wv_kJ, wv_kF, wv_kD]) (by simp [lv_args, wv_rfc, wv_kI, wv_kJ, wv_kF, wv_kD]) ?_
  intro p e R s m args below meth c X H locs cells slots ls S hl
  exact wk_X1_checkFound_0 X hv H locs cells slots ls S (lv_sub hl [0] rfl)

def vc_X1_checkIndex_0 (G : wv_G) (fr : Nat) (P : wv_R → wv_H → Prop) (v0 : Option Nat) (v1 : Int32) (w : wv_W) : Prop :=
  wv_gA w v0 ciX1 4 (fun x3 => wv_gA w x3 ciX2 0 (fun x6 => wv_cV G fr yX3_length x6 [] w (wv_rI (fun x9 w9 => wv_c0 G fr yX1_inRange [.int v1, .int (0 : Int32), .int (x9 - (1 : Int32))] w9 (wv_rI (fun x14 w14 => wv_c0 G fr yX1_checkPlace [.int x14] w14 (wv_rV (fun w17 => P (.inl none) w17.1) (wv_pr P))) (wv_pr P))) (wv_pr P))))
set_option maxHeartbeats 4000000 in
theorem wk_X1_checkIndex_0 {G : wv_G} {p : Program} {e : Env} {R : Room} {s : State} {m : MethodId} {args : Array Value} {below : List Frame} {meth : Method} {c : Code} {fr : Nat} {P : wv_R → wv_H → Prop} (X : wv_ok G p R s m args meth c fr "Weaversgate" cX1_checkIndex 2 (Option.none : Option Jvm.ClassFile.FieldType) "checkIndex" []) {v0 : Option Nat} {v1 : Int32} {w : wv_W} (hv : vc_X1_checkIndex_0 G fr P v0 v1 w) : wv_J G p e R s m args below meth c 2 P w 0 [(0, va_rf v0), (1, .int v1)] [] := by
  intro H locs cells slots ls S hl
  unfold vc_X1_checkIndex_0 at hv
  refine lv_iload_n X.hx X.hb dX1_checkIndex_0 rfl (lv_at hl 1 rfl) ?_
  refine lv_iconst (v := (0 : Int32)) X.hx X.hb dX1_checkIndex_1 (by decide) ?_
  refine wq_aload_n X dX1_checkIndex_2 rfl (lv_at hl 0 rfl) ?_
  refine wq_gA X S hv ccX1 in_X1 (k := 4) (by decide) q231 dX1_checkIndex_3 (fun x3 hv => ?_)
  refine wq_gAN X S hv ccX2 in_X2 (k := 0) (by decide) q192 dX1_checkIndex_6 (fun x6 hv => ?_)
  refine wq_cV_I X S hv q926 q927 q928 q65 ⟨by decide +kernel, by decide +kernel⟩ (nA := 0) (As := []) (by decide +kernel) rfl rfl (by simp [wv_rfc, wv_kI, wv_kJ, wv_kF, wv_kD]) hl.1 dX1_checkIndex_9 (fun x9 w9 H locs cells slots S hv => ?_) (wq_kx X rfl)
  refine lv_iconst (v := (1 : Int32)) X.hx X.hb dX1_checkIndex_12 (by decide) ?_
  refine lv_isub X.hx X.hb dX1_checkIndex_13 ?_
  refine wq_cS_I X S hv q1243 q1244 q60 ⟨by decide +kernel, by decide +kernel⟩ (nA := 3) (As := [.int v1, .int (0 : Int32), .int (x9 - (1 : Int32))]) (by decide +kernel) rfl rfl (by simp [wv_rfc, wv_kI, wv_kJ, wv_kF, wv_kD]) hl.1 dX1_checkIndex_14 (fun x14 w14 H locs cells slots S hv => ?_) (wq_kx X rfl)
  refine wq_cS_V X S hv q1246 q1247 q60 ⟨by decide +kernel, by decide +kernel⟩ (nA := 1) (As := [.int x14]) (by decide +kernel) rfl rfl (by simp [wv_rfc, wv_kI, wv_kJ, wv_kF, wv_kD]) hl.1 dX1_checkIndex_17 (fun w17 H locs cells slots S hv => ?_) (wq_kx X rfl)
  exact wr_vret X S hv dX1_checkIndex_20
theorem wk_X1_checkIndex {G : wv_G} (hG : wv_G0 G) {v0 : Option Nat} {v1 : Int32} {h : wv_H} {fr kc ks : Nat} {P : wv_R → wv_H → Prop} (hv : vc_X1_checkIndex_0 G fr P v0 v1 (h, kc, ks)) : wv_C G yX1_checkIndex [va_rf v0, .int v1] h fr kc ks P := by
  refine wv_enter (lv := [(0, va_rf v0), (1, .int v1)]) hG (by decide +kernel) q1643 (by decide) (by simp [lg_sl, wv_rfc, wv_kI, wv_kJ, wv_kF, wv_kD]) (by simp [lv_args, wv_rfc, wv_kI, wv_kJ, wv_kF, wv_kD]) ?_
  intro p e R s m args below meth c X H locs cells slots ls S hl
  exact wk_X1_checkIndex_0 X hv H locs cells slots ls S (lv_sub hl [0, 1] rfl)

def vc_X1_checkMethod_0 (G : wv_G) (fr : Nat) (P : wv_R → wv_H → Prop) (v0 : Int32) (w : wv_W) : Prop :=
  wv_c0 G fr yX1_inRange [.int v0, .int (0 : Int32), .int (5 : Int32)] w (wv_rI (fun x3 w3 => wv_c0 G fr yX1_checkArgument [.int x3] w3 (wv_rV (fun w6 => P (.inl none) w6.1) (wv_pr P))) (wv_pr P))
set_option maxHeartbeats 4000000 in
theorem wk_X1_checkMethod_0 {G : wv_G} {p : Program} {e : Env} {R : Room} {s : State} {m : MethodId} {args : Array Value} {below : List Frame} {meth : Method} {c : Code} {fr : Nat} {P : wv_R → wv_H → Prop} (X : wv_ok G p R s m args meth c fr "Weaversgate" cX1_checkMethod 1 (Option.none : Option Jvm.ClassFile.FieldType) "checkMethod" []) {v0 : Int32} {w : wv_W} (hv : vc_X1_checkMethod_0 G fr P v0 w) : wv_J G p e R s m args below meth c 1 P w 0 [(0, .int v0)] [] := by
  intro H locs cells slots ls S hl
  unfold vc_X1_checkMethod_0 at hv
  refine lv_iload_n X.hx X.hb dX1_checkMethod_0 rfl (lv_at hl 0 rfl) ?_
  refine lv_iconst (v := (0 : Int32)) X.hx X.hb dX1_checkMethod_1 (by decide) ?_
  refine lv_iconst (v := (5 : Int32)) X.hx X.hb dX1_checkMethod_2 (by decide) ?_
  refine wq_cS_I X S hv q1243 q1244 q60 ⟨by decide +kernel, by decide +kernel⟩ (nA := 3) (As := [.int v0, .int (0 : Int32), .int (5 : Int32)]) (by decide +kernel) rfl rfl (by simp [wv_rfc, wv_kI, wv_kJ, wv_kF, wv_kD]) hl.1 dX1_checkMethod_3 (fun x3 w3 H locs cells slots S hv => ?_) (wq_kx X rfl)
  refine wq_cS_V X S hv q1326 q1327 q60 ⟨by decide +kernel, by decide +kernel⟩ (nA := 1) (As := [.int x3]) (by decide +kernel) rfl rfl (by simp [wv_rfc, wv_kI, wv_kJ, wv_kF, wv_kD]) hl.1 dX1_checkMethod_6 (fun w6 H locs cells slots S hv => ?_) (wq_kx X rfl)
  exact wr_vret X S hv dX1_checkMethod_9
theorem wk_X1_checkMethod {G : wv_G} (hG : wv_G0 G) {v0 : Int32} {h : wv_H} {fr kc ks : Nat} {P : wv_R → wv_H → Prop} (hv : vc_X1_checkMethod_0 G fr P v0 (h, kc, ks)) : wv_C G yX1_checkMethod [.int v0] h fr kc ks P := by
  refine wv_enter (lv := [(0, .int v0)]) hG (by decide +kernel) q1325 (by decide) (by simp [lg_sl, wv_rfc, wv_kI, wv_kJ, wv_kF, wv_kD]) (by simp [lv_args, wv_rfc, wv_kI, wv_kJ, wv_kF, wv_kD]) ?_
  intro p e R s m args below meth c X H locs cells slots ls S hl
  exact wk_X1_checkMethod_0 X hv H locs cells slots ls S (lv_sub hl [0] rfl)

def vc_X1_checkPlace_0 (G : wv_G) (fr : Nat) (P : wv_R → wv_H → Prop) (v0 : Int32) (w : wv_W) : Prop :=
  (¬ v0 = 0 → P (.inl none) w.1) ∧ (v0 = 0 → wv_no G w (wo_o ciJ6 [va_rf none, va_rf none, va_rf none, va_rf none, va_rf none, .int 0]) 6 (fun a4 w4 => wv_cI G fr yJ6_init_2 (some a4) [] w4 (wv_rV (fun w8 => wv_at w8 (some a4) (wv_pr P)) (wv_pr P))))
set_option maxHeartbeats 4000000 in
theorem wk_X1_checkPlace_0 {G : wv_G} {p : Program} {e : Env} {R : Room} {s : State} {m : MethodId} {args : Array Value} {below : List Frame} {meth : Method} {c : Code} {fr : Nat} {P : wv_R → wv_H → Prop} (X : wv_ok G p R s m args meth c fr "Weaversgate" cX1_checkPlace 1 (Option.none : Option Jvm.ClassFile.FieldType) "checkPlace" []) {v0 : Int32} {w : wv_W} (hv : vc_X1_checkPlace_0 G fr P v0 w) : wv_J G p e R s m args below meth c 1 P w 0 [(0, .int v0)] [] := by
  intro H locs cells slots ls S hl
  unfold vc_X1_checkPlace_0 at hv
  refine lv_iload_n X.hx X.hb dX1_checkPlace_0 rfl (lv_at hl 0 rfl) ?_
  refine lv_if_ne (tgt := 12) X.hx X.hb dX1_checkPlace_1 (by decide) (fun c1 => ?_) (fun c1 => ?_)
  · have hv := hv.1 c1
    exact wr_vret X S hv dX1_checkPlace_12
  · have hv := hv.2 c1
    refine wq_new X S hv tyJ6 tyJ6_ok ccJ6 in_J6 q1249 q1250 q71 (fun j hj => by have hj : j < 6 := hj; rcases (show j = 0 ∨ j = 1 ∨ j = 2 ∨ j = 3 ∨ j = 4 ∨ j = 5 by omega) with rfl | rfl | rfl | rfl | rfl | rfl <;> rfl) dX1_checkPlace_4 (fun a4 w4 H cells slots S hv => ?_)
    refine lv_dup X.hx X.hb dX1_checkPlace_7 (wv_rfc _) ?_
    refine wq_cI_V X S hv rfl q1258 q1259 q1260 q71 ⟨by decide +kernel, by decide +kernel⟩ (nA := 0) (As := []) (by decide +kernel) rfl rfl (by simp [wv_rfc, wv_kI, wv_kJ, wv_kF, wv_kD]) hl.1 dX1_checkPlace_8 (fun w8 H locs cells slots S hv => ?_) (wq_kx X rfl)
    exact wq_athrow X S hv dX1_checkPlace_11 (wq_kx X rfl)
theorem wk_X1_checkPlace {G : wv_G} (hG : wv_G0 G) {v0 : Int32} {h : wv_H} {fr kc ks : Nat} {P : wv_R → wv_H → Prop} (hv : vc_X1_checkPlace_0 G fr P v0 (h, kc, ks)) : wv_C G yX1_checkPlace [.int v0] h fr kc ks P := by
  refine wv_enter (lv := [(0, .int v0)]) hG (by decide +kernel) q1248 (by decide) (by simp [lg_sl, wv_rfc, wv_kI, wv_kJ, wv_kF, wv_kD]) (by simp [lv_args, wv_rfc, wv_kI, wv_kJ, wv_kF, wv_kD]) ?_
  intro p e R s m args below meth c X H locs cells slots ls S hl
  exact wk_X1_checkPlace_0 X hv H locs cells slots ls S (lv_sub hl [0] rfl)

def vc_X1_checkState_0 (G : wv_G) (fr : Nat) (P : wv_R → wv_H → Prop) (v0 : Int32) (w : wv_W) : Prop :=
  (¬ v0 = 0 → P (.inl none) w.1) ∧ (v0 = 0 → wv_no G w (wo_o ciJ11 [va_rf none, va_rf none, va_rf none, va_rf none, va_rf none, .int 0]) 6 (fun a4 w4 => wv_cI G fr yJ11_init (some a4) [] w4 (wv_rV (fun w8 => wv_at w8 (some a4) (wv_pr P)) (wv_pr P))))
set_option maxHeartbeats 4000000 in
theorem wk_X1_checkState_0 {G : wv_G} {p : Program} {e : Env} {R : Room} {s : State} {m : MethodId} {args : Array Value} {below : List Frame} {meth : Method} {c : Code} {fr : Nat} {P : wv_R → wv_H → Prop} (X : wv_ok G p R s m args meth c fr "Weaversgate" cX1_checkState 1 (Option.none : Option Jvm.ClassFile.FieldType) "checkState" []) {v0 : Int32} {w : wv_W} (hv : vc_X1_checkState_0 G fr P v0 w) : wv_J G p e R s m args below meth c 1 P w 0 [(0, .int v0)] [] := by
  intro H locs cells slots ls S hl
  unfold vc_X1_checkState_0 at hv
  refine lv_iload_n X.hx X.hb dX1_checkState_0 rfl (lv_at hl 0 rfl) ?_
  refine lv_if_ne (tgt := 12) X.hx X.hb dX1_checkState_1 (by decide) (fun c1 => ?_) (fun c1 => ?_)
  · have hv := hv.1 c1
    exact wr_vret X S hv dX1_checkState_12
  · have hv := hv.2 c1
    refine wq_new X S hv tyJ11 tyJ11_ok ccJ11 in_J11 q1267 q1268 q76 (fun j hj => by have hj : j < 6 := hj; rcases (show j = 0 ∨ j = 1 ∨ j = 2 ∨ j = 3 ∨ j = 4 ∨ j = 5 by omega) with rfl | rfl | rfl | rfl | rfl | rfl <;> rfl) dX1_checkState_4 (fun a4 w4 H cells slots S hv => ?_)
    refine lv_dup X.hx X.hb dX1_checkState_7 (wv_rfc _) ?_
    refine wq_cI_V X S hv rfl q1276 q1277 q1278 q76 ⟨by decide +kernel, by decide +kernel⟩ (nA := 0) (As := []) (by decide +kernel) rfl rfl (by simp [wv_rfc, wv_kI, wv_kJ, wv_kF, wv_kD]) hl.1 dX1_checkState_8 (fun w8 H locs cells slots S hv => ?_) (wq_kx X rfl)
    exact wq_athrow X S hv dX1_checkState_11 (wq_kx X rfl)
theorem wk_X1_checkState {G : wv_G} (hG : wv_G0 G) {v0 : Int32} {h : wv_H} {fr kc ks : Nat} {P : wv_R → wv_H → Prop} (hv : vc_X1_checkState_0 G fr P v0 (h, kc, ks)) : wv_C G yX1_checkState [.int v0] h fr kc ks P := by
  refine wv_enter (lv := [(0, .int v0)]) hG (by decide +kernel) q1266 (by decide) (by simp [lg_sl, wv_rfc, wv_kI, wv_kJ, wv_kF, wv_kD]) (by simp [lv_args, wv_rfc, wv_kI, wv_kJ, wv_kF, wv_kD]) ?_
  intro p e R s m args below meth c X H locs cells slots ls S hl
  exact wk_X1_checkState_0 X hv H locs cells slots ls S (lv_sub hl [0] rfl)

def vc_X1_count_31 (G : wv_G) (fr : Nat) (P : wv_R → wv_H → Prop) (K4 : ((Option Nat) × Int32 × Int32 × Int32) → wv_W → Prop) (v0 : Option Nat) (v1 : Int32) (v3 : Int32) (s0 : Int32) (s1 : Int32) (w : wv_W) : Prop :=
  K4 (v0, v1, (s1 + s0), (v3 + (1 : Int32))) w
def vc_X1_count_4 (G : wv_G) (fr : Nat) (P : wv_R → wv_H → Prop) (K4 : ((Option Nat) × Int32 × Int32 × Int32) → wv_W → Prop) (v0 : Option Nat) (v1 : Int32) (v2 : Int32) (v3 : Int32) (w : wv_W) : Prop :=
  wv_cF G fr (⟨"java/lang/CharSequence", "length", "()I"⟩ : MethodName) v0 [] w (wv_rI (fun x6 w6 => (x6 ≤ v3 → P (.inl (some (.int v2))) w6.1) ∧ (¬ x6 ≤ v3 → wv_cF G fr (⟨"java/lang/CharSequence", "charAt", "(I)C"⟩ : MethodName) v0 [.int v3] w6 (wv_rI (fun x17 w17 => (¬ x17 = v1 → vc_X1_count_31 G fr P K4 v0 v1 v3 (0 : Int32) v2 w17) ∧ (x17 = v1 → vc_X1_count_31 G fr P K4 v0 v1 v3 (1 : Int32) v2 w17)) (wv_pr P)))) (wv_pr P))
def vc_X1_count_0 (G : wv_G) (fr : Nat) (P : wv_R → wv_H → Prop) (v0 : Option Nat) (v1 : Int32) (w : wv_W) : Prop :=
  wv_L (fun K4 a w => vc_X1_count_4 G fr P K4 a.1 a.2.1 a.2.2.1 a.2.2.2 w) (v0, v1, (0 : Int32), (0 : Int32)) w
set_option maxHeartbeats 4000000 in
theorem wk_X1_count_31 {G : wv_G} {p : Program} {e : Env} {R : Room} {s : State} {m : MethodId} {args : Array Value} {below : List Frame} {meth : Method} {c : Code} {fr : Nat} {P : wv_R → wv_H → Prop} (X : wv_ok G p R s m args meth c fr "Weaversgate" cX1_count 4 (Option.some Jvm.ClassFile.FieldType.int) "count" []) {K4 : ((Option Nat) × Int32 × Int32 × Int32) → wv_W → Prop} (hK4 : ∀ a w, K4 a w → wv_J G p e R s m args below meth c 4 P w 4 [(0, va_rf a.1), (1, .int a.2.1), (2, .int a.2.2.1), (3, .int a.2.2.2)] []) {v0 : Option Nat} {v1 : Int32} {v3 : Int32} {s0 : Int32} {s1 : Int32} {w : wv_W} (hv : vc_X1_count_31 G fr P K4 v0 v1 v3 s0 s1 w) : wv_J G p e R s m args below meth c 4 P w 31 [(0, va_rf v0), (1, .int v1), (3, .int v3)] [.int s0, .int s1] := by
  intro H locs cells slots ls S hl
  unfold vc_X1_count_31 at hv
  refine lv_iadd X.hx X.hb dX1_count_31 ?_
  refine lv_istore_n X.hx X.hb (i := 2) (lv' := [(2, .int (s1 + s0)), (0, va_rf v0), (1, .int v1), (3, .int v3)]) dX1_count_32 rfl hl (by decide) (by simp [wv_rfc, wv_kI, wv_kJ, wv_kF, wv_kD]) (fun ls hl => ?_)
  refine lv_iinc (v := (v3 + (1 : Int32))) (lv' := [(3, .int (v3 + (1 : Int32))), (2, .int (s1 + s0)), (0, va_rf v0), (1, .int v1)]) X.hx X.hb dX1_count_33 hl (k := 3) rfl (by rfl) (by decide) (by simp [wv_rfc, wv_kI, wv_kJ, wv_kF, wv_kD]) (fun ls hl => ?_)
  refine lv_goto (tgt := 4) X.hx X.hb dX1_count_36 (by decide) ?_
  exact hK4 _ _ hv H locs cells slots ls S (lv_sub hl [2, 3, 1, 0] rfl)
set_option maxHeartbeats 4000000 in
theorem wk_X1_count_4 {G : wv_G} {p : Program} {e : Env} {R : Room} {s : State} {m : MethodId} {args : Array Value} {below : List Frame} {meth : Method} {c : Code} {fr : Nat} {P : wv_R → wv_H → Prop} (X : wv_ok G p R s m args meth c fr "Weaversgate" cX1_count 4 (Option.some Jvm.ClassFile.FieldType.int) "count" []) {K4 : ((Option Nat) × Int32 × Int32 × Int32) → wv_W → Prop} (hK4 : ∀ a w, K4 a w → wv_J G p e R s m args below meth c 4 P w 4 [(0, va_rf a.1), (1, .int a.2.1), (2, .int a.2.2.1), (3, .int a.2.2.2)] []) {v0 : Option Nat} {v1 : Int32} {v2 : Int32} {v3 : Int32} {w : wv_W} (hv : vc_X1_count_4 G fr P K4 v0 v1 v2 v3 w) : wv_J G p e R s m args below meth c 4 P w 4 [(0, va_rf v0), (1, .int v1), (2, .int v2), (3, .int v3)] [] := by
  intro H locs cells slots ls S hl
  unfold vc_X1_count_4 at hv
  refine lv_iload_n X.hx X.hb dX1_count_4 rfl (lv_at hl 3 rfl) ?_
  refine wq_aload_n X dX1_count_5 rfl (lv_at hl 0 rfl) ?_
  refine wq_cF_I X S hv q1673 ⟨by decide +kernel, by decide +kernel⟩ (nA := 0) (As := []) (by decide +kernel) rfl rfl (by simp [wv_rfc, wv_kI, wv_kJ, wv_kF, wv_kD]) hl.1 dX1_count_6 (fun x6 w6 H locs cells slots S hv => ?_) (wq_kx X rfl)
  refine lv_icmp_ge (tgt := 39) X.hx X.hb dX1_count_11 (by decide) (fun c11 => ?_) (fun c11 => ?_)
  · have hv := hv.1 c11
    refine lv_iload_n X.hx X.hb dX1_count_39 rfl (lv_at hl 2 rfl) ?_
    exact wr_iret X S rfl hv dX1_count_40
  · have hv := hv.2 c11
    refine lv_iload_n X.hx X.hb dX1_count_14 rfl (lv_at hl 2 rfl) ?_
    refine wq_aload_n X dX1_count_15 rfl (lv_at hl 0 rfl) ?_
    refine lv_iload_n X.hx X.hb dX1_count_16 rfl (lv_at hl 3 rfl) ?_
    refine wq_cF_I X S hv q1689 ⟨by decide +kernel, by decide +kernel⟩ (nA := 1) (As := [.int v3]) (by decide +kernel) rfl rfl (by simp [wv_rfc, wv_kI, wv_kJ, wv_kF, wv_kD]) hl.1 dX1_count_17 (fun x17 w17 H locs cells slots S hv => ?_) (wq_kx X rfl)
    refine lv_iload_n X.hx X.hb dX1_count_22 rfl (lv_at hl 1 rfl) ?_
    refine lv_icmp_ne (tgt := 30) X.hx X.hb dX1_count_23 (by decide) (fun c23 => ?_) (fun c23 => ?_)
    · have hv := hv.1 c23
      refine lv_iconst (v := (0 : Int32)) X.hx X.hb dX1_count_30 (by decide) ?_
      exact wk_X1_count_31 X hK4 hv H locs cells slots ls S (lv_sub hl [0, 1, 3] rfl)
    · have hv := hv.2 c23
      refine lv_iconst (v := (1 : Int32)) X.hx X.hb dX1_count_26 (by decide) ?_
      refine lv_goto (tgt := 31) X.hx X.hb dX1_count_27 (by decide) ?_
      exact wk_X1_count_31 X hK4 hv H locs cells slots ls S (lv_sub hl [0, 1, 3] rfl)
set_option maxHeartbeats 4000000 in
theorem wk_X1_count_0 {G : wv_G} {p : Program} {e : Env} {R : Room} {s : State} {m : MethodId} {args : Array Value} {below : List Frame} {meth : Method} {c : Code} {fr : Nat} {P : wv_R → wv_H → Prop} (X : wv_ok G p R s m args meth c fr "Weaversgate" cX1_count 4 (Option.some Jvm.ClassFile.FieldType.int) "count" []) {v0 : Option Nat} {v1 : Int32} {w : wv_W} (hv : vc_X1_count_0 G fr P v0 v1 w) : wv_J G p e R s m args below meth c 4 P w 0 [(0, va_rf v0), (1, .int v1)] [] := by
  intro H locs cells slots ls S hl
  unfold vc_X1_count_0 at hv
  refine lv_iconst (v := (0 : Int32)) X.hx X.hb dX1_count_0 (by decide) ?_
  refine lv_istore_n X.hx X.hb (i := 2) (lv' := [(2, .int (0 : Int32)), (0, va_rf v0), (1, .int v1)]) dX1_count_1 rfl hl (by decide) (by simp [wv_rfc, wv_kI, wv_kJ, wv_kF, wv_kD]) (fun ls hl => ?_)
  refine lv_iconst (v := (0 : Int32)) X.hx X.hb dX1_count_2 (by decide) ?_
  refine lv_istore_n X.hx X.hb (i := 3) (lv' := [(3, .int (0 : Int32)), (2, .int (0 : Int32)), (0, va_rf v0), (1, .int v1)]) dX1_count_3 rfl hl (by decide) (by simp [wv_rfc, wv_kI, wv_kJ, wv_kF, wv_kD]) (fun ls hl => ?_)
  exact wv_loop (A := (Option Nat) × Int32 × Int32 × Int32) (fun a w => wv_J G p e R s m args below meth c 4 P w 4 [(0, va_rf a.1), (1, .int a.2.1), (2, .int a.2.2.1), (3, .int a.2.2.2)] []) (fun K4 hK4 a w hv => wk_X1_count_4 X hK4 hv) hv H locs cells slots ls S (lv_sub hl [2, 3, 1, 0] rfl)
theorem wk_X1_count {G : wv_G} (hG : wv_G0 G) {v0 : Option Nat} {v1 : Int32} {h : wv_H} {fr kc ks : Nat} {P : wv_R → wv_H → Prop} (hv : vc_X1_count_0 G fr P v0 v1 (h, kc, ks)) : wv_C G yX1_count [va_rf v0, .int v1] h fr kc ks P := by
  refine wv_enter (lv := [(0, va_rf v0), (1, .int v1)]) hG (by decide +kernel) q1671 (by decide) (by simp [lg_sl, wv_rfc, wv_kI, wv_kJ, wv_kF, wv_kD]) (by simp [lv_args, wv_rfc, wv_kI, wv_kJ, wv_kF, wv_kD]) ?_
  intro p e R s m args below meth c X H locs cells slots ls S hl
  exact wk_X1_count_0 X hv H locs cells slots ls S (lv_sub hl [0, 1] rfl)

def vc_X1_countAt_60 (G : wv_G) (fr : Nat) (P : wv_R → wv_H → Prop) (K5 : ((Option Nat) × (Option Nat) × Int32 × Int32 × Int32) → wv_W → Prop) (v0 : Option Nat) (v1 : Option Nat) (v2 : Int32) (v4 : Int32) (s0 : Int32) (s1 : Int32) (w : wv_W) : Prop :=
  K5 (v0, v1, v2, (s1 + s0), (v4 + (1 : Int32))) w
def vc_X1_countAt_5 (G : wv_G) (fr : Nat) (P : wv_R → wv_H → Prop) (K5 : ((Option Nat) × (Option Nat) × Int32 × Int32 × Int32) → wv_W → Prop) (v0 : Option Nat) (v1 : Option Nat) (v2 : Int32) (v3 : Int32) (v4 : Int32) (w : wv_W) : Prop :=
  wv_gA w v0 ciX1 2 (fun x8 => wv_cV G fr yJ2_size x8 [] w (wv_rI (fun x11 w11 => (x11 ≤ v4 → P (.inl (some (.int v3))) w11.1) ∧ (¬ x11 ≤ v4 → wv_gA w11 v0 ciX1 2 (fun x18 => wv_cV G fr yJ2_get x18 [.int v4] w11 (wv_rA (fun x23 w23 => wv_cc G w23 x23 "Weaversgate$Advice" (wv_gI w23 x23 ciX19 6 (fun x34 => (x34 = 0 → vc_X1_countAt_60 G fr P K5 v0 v1 v2 v4 (0 : Int32) v3 w23) ∧ (¬ x34 = 0 → wv_gA w23 x23 ciX19 3 (fun x42 => wv_cF G fr (⟨"Weaversgate$Pattern", "at", "(LWeaversgate$Place;)C"⟩ : MethodName) x42 [va_rf v1] w23 (wv_rI (fun x46 w46 => (¬ x46 = v2 → vc_X1_countAt_60 G fr P K5 v0 v1 v2 v4 (0 : Int32) v3 w46) ∧ (x46 = v2 → vc_X1_countAt_60 G fr P K5 v0 v1 v2 v4 (1 : Int32) v3 w46)) (wv_pr P))))))) (wv_pr P))))) (wv_pr P)))
def vc_X1_countAt_0 (G : wv_G) (fr : Nat) (P : wv_R → wv_H → Prop) (v0 : Option Nat) (v1 : Option Nat) (v2 : Int32) (w : wv_W) : Prop :=
  wv_L (fun K5 a w => vc_X1_countAt_5 G fr P K5 a.1 a.2.1 a.2.2.1 a.2.2.2.1 a.2.2.2.2 w) (v0, v1, v2, (0 : Int32), (0 : Int32)) w
set_option maxHeartbeats 4000000 in
theorem wk_X1_countAt_60 {G : wv_G} {p : Program} {e : Env} {R : Room} {s : State} {m : MethodId} {args : Array Value} {below : List Frame} {meth : Method} {c : Code} {fr : Nat} {P : wv_R → wv_H → Prop} (X : wv_ok G p R s m args meth c fr "Weaversgate" cX1_countAt 6 (Option.some Jvm.ClassFile.FieldType.int) "countAt" []) {K5 : ((Option Nat) × (Option Nat) × Int32 × Int32 × Int32) → wv_W → Prop} (hK5 : ∀ a w, K5 a w → wv_J G p e R s m args below meth c 6 P w 5 [(0, va_rf a.1), (1, va_rf a.2.1), (2, .int a.2.2.1), (3, .int a.2.2.2.1), (4, .int a.2.2.2.2)] []) {v0 : Option Nat} {v1 : Option Nat} {v2 : Int32} {v4 : Int32} {s0 : Int32} {s1 : Int32} {w : wv_W} (hv : vc_X1_countAt_60 G fr P K5 v0 v1 v2 v4 s0 s1 w) : wv_J G p e R s m args below meth c 6 P w 60 [(0, va_rf v0), (1, va_rf v1), (2, .int v2), (4, .int v4)] [.int s0, .int s1] := by
  intro H locs cells slots ls S hl
  unfold vc_X1_countAt_60 at hv
  refine lv_iadd X.hx X.hb dX1_countAt_60 ?_
  refine lv_istore_n X.hx X.hb (i := 3) (lv' := [(3, .int (s1 + s0)), (0, va_rf v0), (1, va_rf v1), (2, .int v2), (4, .int v4)]) dX1_countAt_61 rfl hl (by decide) (by simp [wv_rfc, wv_kI, wv_kJ, wv_kF, wv_kD]) (fun ls hl => ?_)
  refine lv_iinc (v := (v4 + (1 : Int32))) (lv' := [(4, .int (v4 + (1 : Int32))), (3, .int (s1 + s0)), (0, va_rf v0), (1, va_rf v1), (2, .int v2)]) X.hx X.hb dX1_countAt_62 hl (k := 4) rfl (by rfl) (by decide) (by simp [wv_rfc, wv_kI, wv_kJ, wv_kF, wv_kD]) (fun ls hl => ?_)
  refine lv_goto (tgt := 5) X.hx X.hb dX1_countAt_65 (by decide) ?_
  exact hK5 _ _ hv H locs cells slots ls S (lv_sub hl [2, 3, 4, 1, 0] rfl)
set_option maxHeartbeats 4000000 in
theorem wk_X1_countAt_5 {G : wv_G} {p : Program} {e : Env} {R : Room} {s : State} {m : MethodId} {args : Array Value} {below : List Frame} {meth : Method} {c : Code} {fr : Nat} {P : wv_R → wv_H → Prop} (X : wv_ok G p R s m args meth c fr "Weaversgate" cX1_countAt 6 (Option.some Jvm.ClassFile.FieldType.int) "countAt" []) {K5 : ((Option Nat) × (Option Nat) × Int32 × Int32 × Int32) → wv_W → Prop} (hK5 : ∀ a w, K5 a w → wv_J G p e R s m args below meth c 6 P w 5 [(0, va_rf a.1), (1, va_rf a.2.1), (2, .int a.2.2.1), (3, .int a.2.2.2.1), (4, .int a.2.2.2.2)] []) {v0 : Option Nat} {v1 : Option Nat} {v2 : Int32} {v3 : Int32} {v4 : Int32} {w : wv_W} (hv : vc_X1_countAt_5 G fr P K5 v0 v1 v2 v3 v4 w) : wv_J G p e R s m args below meth c 6 P w 5 [(0, va_rf v0), (1, va_rf v1), (2, .int v2), (3, .int v3), (4, .int v4)] [] := by
  intro H locs cells slots ls S hl
  unfold vc_X1_countAt_5 at hv
  refine lv_iload X.hx X.hb dX1_countAt_5 (lv_at hl 4 rfl) ?_
  refine wq_aload_n X dX1_countAt_7 rfl (lv_at hl 0 rfl) ?_
  refine wq_gA X S hv ccX1 in_X1 (k := 2) (by decide) q229 dX1_countAt_8 (fun x8 hv => ?_)
  refine wq_cV_I X S hv q269 q270 q271 q63 ⟨by decide +kernel, by decide +kernel⟩ (nA := 0) (As := []) (by decide +kernel) rfl rfl (by simp [wv_rfc, wv_kI, wv_kJ, wv_kF, wv_kD]) hl.1 dX1_countAt_11 (fun x11 w11 H locs cells slots S hv => ?_) (wq_kx X rfl)
  refine lv_icmp_ge (tgt := 68) X.hx X.hb dX1_countAt_14 (by decide) (fun c14 => ?_) (fun c14 => ?_)
  · have hv := hv.1 c14
    refine lv_iload_n X.hx X.hb dX1_countAt_68 rfl (lv_at hl 3 rfl) ?_
    exact wr_iret X S rfl hv dX1_countAt_69
  · have hv := hv.2 c14
    refine wq_aload_n X dX1_countAt_17 rfl (lv_at hl 0 rfl) ?_
    refine wq_gA X S hv ccX1 in_X1 (k := 2) (by decide) q229 dX1_countAt_18 (fun x18 hv => ?_)
    refine lv_iload X.hx X.hb dX1_countAt_21 (lv_at hl 4 rfl) ?_
    refine wq_cV_A X S hv q273 q274 q275 q63 ⟨by decide +kernel, by decide +kernel⟩ (nA := 1) (As := [.int v4]) (by decide +kernel) rfl rfl (by simp [wv_rfc, wv_kI, wv_kJ, wv_kF, wv_kD]) hl.1 dX1_countAt_23 (fun x23 w23 H locs cells slots S hv => ?_) (wq_kx X rfl)
    refine wq_cc X S hv q829 dX1_countAt_26 (fun hv => ?_)
    refine wq_astore X (i := 5) (lv' := [(5, va_rf x23), (0, va_rf v0), (1, va_rf v1), (2, .int v2), (3, .int v3), (4, .int v4)]) dX1_countAt_29 hl (by decide) (by simp [wv_rfc, wv_kI, wv_kJ, wv_kF, wv_kD]) (fun ls hl => ?_)
    refine lv_iload_n X.hx X.hb dX1_countAt_31 rfl (lv_at hl 4 rfl) ?_
    refine wq_aload X dX1_countAt_32 (lv_at hl 0 rfl) ?_
    refine wq_gIN X S hv ccX19 in_X19 (k := 6) (by decide) q1553 dX1_countAt_34 (fun x34 hv => ?_)
    refine lv_if_eq (tgt := 59) X.hx X.hb dX1_countAt_37 (by decide) (fun c37 => ?_) (fun c37 => ?_)
    · have hv := hv.1 c37
      refine lv_iconst (v := (0 : Int32)) X.hx X.hb dX1_countAt_59 (by decide) ?_
      exact wk_X1_countAt_60 X hK5 hv H locs cells slots ls S (lv_sub hl [1, 2, 3, 5] rfl)
    · have hv := hv.2 c37
      refine wq_aload X dX1_countAt_40 (lv_at hl 0 rfl) ?_
      refine wq_gAN X S hv ccX19 in_X19 (k := 3) (by decide) q1546 dX1_countAt_42 (fun x42 hv => ?_)
      refine wq_aload_n X dX1_countAt_45 rfl (lv_at hl 2 rfl) ?_
      refine wq_cF_I X S hv q831 ⟨by decide +kernel, by decide +kernel⟩ (nA := 1) (As := [va_rf v1]) (by decide +kernel) rfl rfl (by simp [wv_rfc, wv_kI, wv_kJ, wv_kF, wv_kD]) hl.1 dX1_countAt_46 (fun x46 w46 H locs cells slots S hv => ?_) (wq_kx X rfl)
      refine lv_iload_n X.hx X.hb dX1_countAt_51 rfl (lv_at hl 3 rfl) ?_
      refine lv_icmp_ne (tgt := 59) X.hx X.hb dX1_countAt_52 (by decide) (fun c52 => ?_) (fun c52 => ?_)
      · have hv := hv.1 c52
        refine lv_iconst (v := (0 : Int32)) X.hx X.hb dX1_countAt_59 (by decide) ?_
        exact wk_X1_countAt_60 X hK5 hv H locs cells slots ls S (lv_sub hl [1, 2, 3, 5] rfl)
      · have hv := hv.2 c52
        refine lv_iconst (v := (1 : Int32)) X.hx X.hb dX1_countAt_55 (by decide) ?_
        refine lv_goto (tgt := 60) X.hx X.hb dX1_countAt_56 (by decide) ?_
        exact wk_X1_countAt_60 X hK5 hv H locs cells slots ls S (lv_sub hl [1, 2, 3, 5] rfl)
set_option maxHeartbeats 4000000 in
theorem wk_X1_countAt_0 {G : wv_G} {p : Program} {e : Env} {R : Room} {s : State} {m : MethodId} {args : Array Value} {below : List Frame} {meth : Method} {c : Code} {fr : Nat} {P : wv_R → wv_H → Prop} (X : wv_ok G p R s m args meth c fr "Weaversgate" cX1_countAt 6 (Option.some Jvm.ClassFile.FieldType.int) "countAt" []) {v0 : Option Nat} {v1 : Option Nat} {v2 : Int32} {w : wv_W} (hv : vc_X1_countAt_0 G fr P v0 v1 v2 w) : wv_J G p e R s m args below meth c 6 P w 0 [(0, va_rf v0), (1, va_rf v1), (2, .int v2)] [] := by
  intro H locs cells slots ls S hl
  unfold vc_X1_countAt_0 at hv
  refine lv_iconst (v := (0 : Int32)) X.hx X.hb dX1_countAt_0 (by decide) ?_
  refine lv_istore_n X.hx X.hb (i := 3) (lv' := [(3, .int (0 : Int32)), (0, va_rf v0), (1, va_rf v1), (2, .int v2)]) dX1_countAt_1 rfl hl (by decide) (by simp [wv_rfc, wv_kI, wv_kJ, wv_kF, wv_kD]) (fun ls hl => ?_)
  refine lv_iconst (v := (0 : Int32)) X.hx X.hb dX1_countAt_2 (by decide) ?_
  refine lv_istore X.hx X.hb (i := 4) (lv' := [(4, .int (0 : Int32)), (3, .int (0 : Int32)), (0, va_rf v0), (1, va_rf v1), (2, .int v2)]) dX1_countAt_3 hl (by decide) (by simp [wv_rfc, wv_kI, wv_kJ, wv_kF, wv_kD]) (fun ls hl => ?_)
  exact wv_loop (A := (Option Nat) × (Option Nat) × Int32 × Int32 × Int32) (fun a w => wv_J G p e R s m args below meth c 6 P w 5 [(0, va_rf a.1), (1, va_rf a.2.1), (2, .int a.2.2.1), (3, .int a.2.2.2.1), (4, .int a.2.2.2.2)] []) (fun K5 hK5 a w hv => wk_X1_countAt_5 X hK5 hv) hv H locs cells slots ls S (lv_sub hl [2, 3, 4, 1, 0] rfl)
theorem wk_X1_countAt {G : wv_G} (hG : wv_G0 G) {v0 : Option Nat} {v1 : Option Nat} {v2 : Int32} {h : wv_H} {fr kc ks : Nat} {P : wv_R → wv_H → Prop} (hv : vc_X1_countAt_0 G fr P v0 v1 v2 (h, kc, ks)) : wv_C G yX1_countAt [va_rf v0, va_rf v1, .int v2] h fr kc ks P := by
  refine wv_enter (lv := [(0, va_rf v0), (1, va_rf v1), (2, .int v2)]) hG (by decide +kernel) q828 (by decide) (by simp [lg_sl, wv_rfc, wv_kI, wv_kJ, wv_kF, wv_kD]) (by simp [lv_args, wv_rfc, wv_kI, wv_kJ, wv_kF, wv_kD]) ?_
  intro p e R s m args below meth c X H locs cells slots ls S hl
  exact wk_X1_countAt_0 X hv H locs cells slots ls S (lv_sub hl [0, 1, 2] rfl)

def vc_X1_countPairs_28 (G : wv_G) (fr : Nat) (P : wv_R → wv_H → Prop) (K4 : ((Option Nat) × Int32 × Int32 × Int32) → wv_W → Prop) (K18 : ((Option Nat) × Int32 × Int32 × Int32 × Int32) → wv_W → Prop) (K28 : ((Option Nat) × Int32 × Int32 × Int32 × Int32 × Int32) → wv_W → Prop) (v0 : Option Nat) (v1 : Int32) (v2 : Int32) (v3 : Int32) (v4 : Int32) (v5 : Int32) (w : wv_W) : Prop :=
  wv_gA w v0 ciX1 0 (fun x32 => wv_cV G fr yJ2_get x32 [.int v3] w (wv_rA (fun x36 w36 => wv_cc G w36 x36 "Weaversgate$Type" (wv_cV G fr yX1_placesOf v0 [va_rf x36, .int v4] w36 (wv_rI (fun x44 w44 => (x44 ≤ v5 → K18 (v0, v1, v2, v3, (v4 + (1 : Int32))) w44) ∧ (¬ x44 ≤ v5 → wv_gA w44 v0 ciX1 0 (fun x54 => wv_cV G fr yJ2_get x54 [.int v3] w44 (wv_rA (fun x58 w58 => wv_cc G w58 x58 "Weaversgate$Type" (wv_cV G fr yX1_placeOf v0 [va_rf x58, .int v4, .int v5] w58 (wv_rA (fun x68 w68 => wv_cV G fr yX1_countAt v0 [va_rf x68, .int v1] w68 (wv_rI (fun x72 w72 => K28 (v0, v1, (v2 + x72), v3, v4, (v5 + (1 : Int32))) w72) (wv_pr P))) (wv_pr P)))) (wv_pr P))))) (wv_pr P)))) (wv_pr P)))
def vc_X1_countPairs_18 (G : wv_G) (fr : Nat) (P : wv_R → wv_H → Prop) (K4 : ((Option Nat) × Int32 × Int32 × Int32) → wv_W → Prop) (K18 : ((Option Nat) × Int32 × Int32 × Int32 × Int32) → wv_W → Prop) (v0 : Option Nat) (v1 : Int32) (v2 : Int32) (v3 : Int32) (v4 : Int32) (w : wv_W) : Prop :=
  ((6 : Int32) ≤ v4 → K4 (v0, v1, v2, (v3 + (1 : Int32))) w) ∧ (¬ (6 : Int32) ≤ v4 → wv_L (fun K28 a w => vc_X1_countPairs_28 G fr P K4 K18 K28 a.1 a.2.1 a.2.2.1 a.2.2.2.1 a.2.2.2.2.1 a.2.2.2.2.2 w) (v0, v1, v2, v3, v4, (0 : Int32)) w)
def vc_X1_countPairs_4 (G : wv_G) (fr : Nat) (P : wv_R → wv_H → Prop) (K4 : ((Option Nat) × Int32 × Int32 × Int32) → wv_W → Prop) (v0 : Option Nat) (v1 : Int32) (v2 : Int32) (v3 : Int32) (w : wv_W) : Prop :=
  wv_gA w v0 ciX1 0 (fun x6 => wv_cV G fr yJ2_size x6 [] w (wv_rI (fun x9 w9 => (x9 ≤ v3 → P (.inl (some (.int v2))) w9.1) ∧ (¬ x9 ≤ v3 → wv_L (fun K18 a w => vc_X1_countPairs_18 G fr P K4 K18 a.1 a.2.1 a.2.2.1 a.2.2.2.1 a.2.2.2.2 w) (v0, v1, v2, v3, (0 : Int32)) w9)) (wv_pr P)))
def vc_X1_countPairs_0 (G : wv_G) (fr : Nat) (P : wv_R → wv_H → Prop) (v0 : Option Nat) (v1 : Int32) (w : wv_W) : Prop :=
  wv_L (fun K4 a w => vc_X1_countPairs_4 G fr P K4 a.1 a.2.1 a.2.2.1 a.2.2.2 w) (v0, v1, (0 : Int32), (0 : Int32)) w
set_option maxHeartbeats 4000000 in
theorem wk_X1_countPairs_28 {G : wv_G} {p : Program} {e : Env} {R : Room} {s : State} {m : MethodId} {args : Array Value} {below : List Frame} {meth : Method} {c : Code} {fr : Nat} {P : wv_R → wv_H → Prop} (X : wv_ok G p R s m args meth c fr "Weaversgate" cX1_countPairs 6 (Option.some Jvm.ClassFile.FieldType.int) "countPairs" []) {K4 : ((Option Nat) × Int32 × Int32 × Int32) → wv_W → Prop} (hK4 : ∀ a w, K4 a w → wv_J G p e R s m args below meth c 6 P w 4 [(0, va_rf a.1), (1, .int a.2.1), (2, .int a.2.2.1), (3, .int a.2.2.2)] []) {K18 : ((Option Nat) × Int32 × Int32 × Int32 × Int32) → wv_W → Prop} (hK18 : ∀ a w, K18 a w → wv_J G p e R s m args below meth c 6 P w 18 [(0, va_rf a.1), (1, .int a.2.1), (2, .int a.2.2.1), (3, .int a.2.2.2.1), (4, .int a.2.2.2.2)] []) {K28 : ((Option Nat) × Int32 × Int32 × Int32 × Int32 × Int32) → wv_W → Prop} (hK28 : ∀ a w, K28 a w → wv_J G p e R s m args below meth c 6 P w 28 [(0, va_rf a.1), (1, .int a.2.1), (2, .int a.2.2.1), (3, .int a.2.2.2.1), (4, .int a.2.2.2.2.1), (5, .int a.2.2.2.2.2)] []) {v0 : Option Nat} {v1 : Int32} {v2 : Int32} {v3 : Int32} {v4 : Int32} {v5 : Int32} {w : wv_W} (hv : vc_X1_countPairs_28 G fr P K4 K18 K28 v0 v1 v2 v3 v4 v5 w) : wv_J G p e R s m args below meth c 6 P w 28 [(0, va_rf v0), (1, .int v1), (2, .int v2), (3, .int v3), (4, .int v4), (5, .int v5)] [] := by
  intro H locs cells slots ls S hl
  unfold vc_X1_countPairs_28 at hv
  refine lv_iload X.hx X.hb dX1_countPairs_28 (lv_at hl 5 rfl) ?_
  refine wq_aload_n X dX1_countPairs_30 rfl (lv_at hl 0 rfl) ?_
  refine wq_aload_n X dX1_countPairs_31 rfl (lv_at hl 0 rfl) ?_
  refine wq_gA X S hv ccX1 in_X1 (k := 0) (by decide) q225 dX1_countPairs_32 (fun x32 hv => ?_)
  refine lv_iload_n X.hx X.hb dX1_countPairs_35 rfl (lv_at hl 3 rfl) ?_
  refine wq_cV_A X S hv q273 q274 q275 q63 ⟨by decide +kernel, by decide +kernel⟩ (nA := 1) (As := [.int v3]) (by decide +kernel) rfl rfl (by simp [wv_rfc, wv_kI, wv_kJ, wv_kF, wv_kD]) hl.1 dX1_countPairs_36 (fun x36 w36 H locs cells slots S hv => ?_) (wq_kx X rfl)
  refine wq_cc X S hv q287 dX1_countPairs_39 (fun hv => ?_)
  refine lv_iload X.hx X.hb dX1_countPairs_42 (lv_at hl 4 rfl) ?_
  refine wq_cV_I X S hv q288 q290 qs3 q60 ⟨by decide +kernel, by decide +kernel⟩ (nA := 2) (As := [va_rf x36, .int v4]) (by decide +kernel) rfl rfl (by simp [wv_rfc, wv_kI, wv_kJ, wv_kF, wv_kD]) hl.1 dX1_countPairs_44 (fun x44 w44 H locs cells slots S hv => ?_) (wq_kx X rfl)
  refine lv_icmp_ge (tgt := 83) X.hx X.hb dX1_countPairs_47 (by decide) (fun c47 => ?_) (fun c47 => ?_)
  · have hv := hv.1 c47
    refine lv_iinc (v := (v4 + (1 : Int32))) (lv' := [(4, .int (v4 + (1 : Int32))), (0, va_rf v0), (1, .int v1), (2, .int v2), (3, .int v3), (5, .int v5)]) X.hx X.hb dX1_countPairs_83 hl (k := 4) rfl (by rfl) (by decide) (by simp [wv_rfc, wv_kI, wv_kJ, wv_kF, wv_kD]) (fun ls hl => ?_)
    refine lv_goto (tgt := 18) X.hx X.hb dX1_countPairs_86 (by decide) ?_
    exact hK18 _ _ hv H locs cells slots ls S (lv_sub hl [1, 2, 3, 4, 0] rfl)
  · have hv := hv.2 c47
    refine lv_iload_n X.hx X.hb dX1_countPairs_50 rfl (lv_at hl 2 rfl) ?_
    refine wq_aload_n X dX1_countPairs_51 rfl (lv_at hl 0 rfl) ?_
    refine wq_aload_n X dX1_countPairs_52 rfl (lv_at hl 0 rfl) ?_
    refine wq_aload_n X dX1_countPairs_53 rfl (lv_at hl 0 rfl) ?_
    refine wq_gA X S hv ccX1 in_X1 (k := 0) (by decide) q225 dX1_countPairs_54 (fun x54 hv => ?_)
    refine lv_iload_n X.hx X.hb dX1_countPairs_57 rfl (lv_at hl 3 rfl) ?_
    refine wq_cV_A X S hv q273 q274 q275 q63 ⟨by decide +kernel, by decide +kernel⟩ (nA := 1) (As := [.int v3]) (by decide +kernel) rfl rfl (by simp [wv_rfc, wv_kI, wv_kJ, wv_kF, wv_kD]) hl.1 dX1_countPairs_58 (fun x58 w58 H locs cells slots S hv => ?_) (wq_kx X rfl)
    refine wq_cc X S hv q287 dX1_countPairs_61 (fun hv => ?_)
    refine lv_iload X.hx X.hb dX1_countPairs_64 (lv_at hl 4 rfl) ?_
    refine lv_iload X.hx X.hb dX1_countPairs_66 (lv_at hl 5 rfl) ?_
    refine wq_cV_A X S hv q700 q702 qs5 q60 ⟨by decide +kernel, by decide +kernel⟩ (nA := 3) (As := [va_rf x58, .int v4, .int v5]) (by decide +kernel) rfl rfl (by simp [wv_rfc, wv_kI, wv_kJ, wv_kF, wv_kD]) hl.1 dX1_countPairs_68 (fun x68 w68 H locs cells slots S hv => ?_) (wq_kx X rfl)
    refine lv_iload_n X.hx X.hb dX1_countPairs_71 rfl (lv_at hl 1 rfl) ?_
    refine wq_cV_I X S hv q825 q827 qs11 q60 ⟨by decide +kernel, by decide +kernel⟩ (nA := 2) (As := [va_rf x68, .int v1]) (by decide +kernel) rfl rfl (by simp [wv_rfc, wv_kI, wv_kJ, wv_kF, wv_kD]) hl.1 dX1_countPairs_72 (fun x72 w72 H locs cells slots S hv => ?_) (wq_kx X rfl)
    refine lv_iadd X.hx X.hb dX1_countPairs_75 ?_
    refine lv_istore_n X.hx X.hb (i := 2) (lv' := [(2, .int (v2 + x72)), (0, va_rf v0), (1, .int v1), (3, .int v3), (4, .int v4), (5, .int v5)]) dX1_countPairs_76 rfl hl (by decide) (by simp [wv_rfc, wv_kI, wv_kJ, wv_kF, wv_kD]) (fun ls hl => ?_)
    refine lv_iinc (v := (v5 + (1 : Int32))) (lv' := [(5, .int (v5 + (1 : Int32))), (2, .int (v2 + x72)), (0, va_rf v0), (1, .int v1), (3, .int v3), (4, .int v4)]) X.hx X.hb dX1_countPairs_77 hl (k := 5) rfl (by rfl) (by decide) (by simp [wv_rfc, wv_kI, wv_kJ, wv_kF, wv_kD]) (fun ls hl => ?_)
    refine lv_goto (tgt := 28) X.hx X.hb dX1_countPairs_80 (by decide) ?_
    exact hK28 _ _ hv H locs cells slots ls S (lv_sub hl [2, 3, 1, 4, 5, 0] rfl)
set_option maxHeartbeats 4000000 in
theorem wk_X1_countPairs_18 {G : wv_G} {p : Program} {e : Env} {R : Room} {s : State} {m : MethodId} {args : Array Value} {below : List Frame} {meth : Method} {c : Code} {fr : Nat} {P : wv_R → wv_H → Prop} (X : wv_ok G p R s m args meth c fr "Weaversgate" cX1_countPairs 6 (Option.some Jvm.ClassFile.FieldType.int) "countPairs" []) {K4 : ((Option Nat) × Int32 × Int32 × Int32) → wv_W → Prop} (hK4 : ∀ a w, K4 a w → wv_J G p e R s m args below meth c 6 P w 4 [(0, va_rf a.1), (1, .int a.2.1), (2, .int a.2.2.1), (3, .int a.2.2.2)] []) {K18 : ((Option Nat) × Int32 × Int32 × Int32 × Int32) → wv_W → Prop} (hK18 : ∀ a w, K18 a w → wv_J G p e R s m args below meth c 6 P w 18 [(0, va_rf a.1), (1, .int a.2.1), (2, .int a.2.2.1), (3, .int a.2.2.2.1), (4, .int a.2.2.2.2)] []) {v0 : Option Nat} {v1 : Int32} {v2 : Int32} {v3 : Int32} {v4 : Int32} {w : wv_W} (hv : vc_X1_countPairs_18 G fr P K4 K18 v0 v1 v2 v3 v4 w) : wv_J G p e R s m args below meth c 6 P w 18 [(0, va_rf v0), (1, .int v1), (2, .int v2), (3, .int v3), (4, .int v4)] [] := by
  intro H locs cells slots ls S hl
  unfold vc_X1_countPairs_18 at hv
  refine lv_iload X.hx X.hb dX1_countPairs_18 (lv_at hl 4 rfl) ?_
  refine lv_bipush (v := (6 : Int32)) X.hx X.hb dX1_countPairs_20 (by decide) ?_
  refine lv_icmp_ge (tgt := 89) X.hx X.hb dX1_countPairs_22 (by decide) (fun c22 => ?_) (fun c22 => ?_)
  · have hv := hv.1 c22
    refine lv_iinc (v := (v3 + (1 : Int32))) (lv' := [(3, .int (v3 + (1 : Int32))), (0, va_rf v0), (1, .int v1), (2, .int v2), (4, .int v4)]) X.hx X.hb dX1_countPairs_89 hl (k := 3) rfl (by rfl) (by decide) (by simp [wv_rfc, wv_kI, wv_kJ, wv_kF, wv_kD]) (fun ls hl => ?_)
    refine lv_goto (tgt := 4) X.hx X.hb dX1_countPairs_92 (by decide) ?_
    exact hK4 _ _ hv H locs cells slots ls S (lv_sub hl [1, 2, 3, 0] rfl)
  · have hv := hv.2 c22
    refine lv_iconst (v := (0 : Int32)) X.hx X.hb dX1_countPairs_25 (by decide) ?_
    refine lv_istore X.hx X.hb (i := 5) (lv' := [(5, .int (0 : Int32)), (0, va_rf v0), (1, .int v1), (2, .int v2), (3, .int v3), (4, .int v4)]) dX1_countPairs_26 hl (by decide) (by simp [wv_rfc, wv_kI, wv_kJ, wv_kF, wv_kD]) (fun ls hl => ?_)
    exact wv_loop (A := (Option Nat) × Int32 × Int32 × Int32 × Int32 × Int32) (fun a w => wv_J G p e R s m args below meth c 6 P w 28 [(0, va_rf a.1), (1, .int a.2.1), (2, .int a.2.2.1), (3, .int a.2.2.2.1), (4, .int a.2.2.2.2.1), (5, .int a.2.2.2.2.2)] []) (fun K28 hK28 a w hv => wk_X1_countPairs_28 X hK4 hK18 hK28 hv) hv H locs cells slots ls S (lv_sub hl [1, 2, 3, 4, 5, 0] rfl)
set_option maxHeartbeats 4000000 in
theorem wk_X1_countPairs_4 {G : wv_G} {p : Program} {e : Env} {R : Room} {s : State} {m : MethodId} {args : Array Value} {below : List Frame} {meth : Method} {c : Code} {fr : Nat} {P : wv_R → wv_H → Prop} (X : wv_ok G p R s m args meth c fr "Weaversgate" cX1_countPairs 6 (Option.some Jvm.ClassFile.FieldType.int) "countPairs" []) {K4 : ((Option Nat) × Int32 × Int32 × Int32) → wv_W → Prop} (hK4 : ∀ a w, K4 a w → wv_J G p e R s m args below meth c 6 P w 4 [(0, va_rf a.1), (1, .int a.2.1), (2, .int a.2.2.1), (3, .int a.2.2.2)] []) {v0 : Option Nat} {v1 : Int32} {v2 : Int32} {v3 : Int32} {w : wv_W} (hv : vc_X1_countPairs_4 G fr P K4 v0 v1 v2 v3 w) : wv_J G p e R s m args below meth c 6 P w 4 [(0, va_rf v0), (1, .int v1), (2, .int v2), (3, .int v3)] [] := by
  intro H locs cells slots ls S hl
  unfold vc_X1_countPairs_4 at hv
  refine lv_iload_n X.hx X.hb dX1_countPairs_4 rfl (lv_at hl 3 rfl) ?_
  refine wq_aload_n X dX1_countPairs_5 rfl (lv_at hl 0 rfl) ?_
  refine wq_gA X S hv ccX1 in_X1 (k := 0) (by decide) q225 dX1_countPairs_6 (fun x6 hv => ?_)
  refine wq_cV_I X S hv q269 q270 q271 q63 ⟨by decide +kernel, by decide +kernel⟩ (nA := 0) (As := []) (by decide +kernel) rfl rfl (by simp [wv_rfc, wv_kI, wv_kJ, wv_kF, wv_kD]) hl.1 dX1_countPairs_9 (fun x9 w9 H locs cells slots S hv => ?_) (wq_kx X rfl)
  refine lv_icmp_ge (tgt := 95) X.hx X.hb dX1_countPairs_12 (by decide) (fun c12 => ?_) (fun c12 => ?_)
  · have hv := hv.1 c12
    refine lv_iload_n X.hx X.hb dX1_countPairs_95 rfl (lv_at hl 2 rfl) ?_
    exact wr_iret X S rfl hv dX1_countPairs_96
  · have hv := hv.2 c12
    refine lv_iconst (v := (0 : Int32)) X.hx X.hb dX1_countPairs_15 (by decide) ?_
    refine lv_istore X.hx X.hb (i := 4) (lv' := [(4, .int (0 : Int32)), (0, va_rf v0), (1, .int v1), (2, .int v2), (3, .int v3)]) dX1_countPairs_16 hl (by decide) (by simp [wv_rfc, wv_kI, wv_kJ, wv_kF, wv_kD]) (fun ls hl => ?_)
    exact wv_loop (A := (Option Nat) × Int32 × Int32 × Int32 × Int32) (fun a w => wv_J G p e R s m args below meth c 6 P w 18 [(0, va_rf a.1), (1, .int a.2.1), (2, .int a.2.2.1), (3, .int a.2.2.2.1), (4, .int a.2.2.2.2)] []) (fun K18 hK18 a w hv => wk_X1_countPairs_18 X hK4 hK18 hv) hv H locs cells slots ls S (lv_sub hl [1, 2, 3, 4, 0] rfl)
set_option maxHeartbeats 4000000 in
theorem wk_X1_countPairs_0 {G : wv_G} {p : Program} {e : Env} {R : Room} {s : State} {m : MethodId} {args : Array Value} {below : List Frame} {meth : Method} {c : Code} {fr : Nat} {P : wv_R → wv_H → Prop} (X : wv_ok G p R s m args meth c fr "Weaversgate" cX1_countPairs 6 (Option.some Jvm.ClassFile.FieldType.int) "countPairs" []) {v0 : Option Nat} {v1 : Int32} {w : wv_W} (hv : vc_X1_countPairs_0 G fr P v0 v1 w) : wv_J G p e R s m args below meth c 6 P w 0 [(0, va_rf v0), (1, .int v1)] [] := by
  intro H locs cells slots ls S hl
  unfold vc_X1_countPairs_0 at hv
  refine lv_iconst (v := (0 : Int32)) X.hx X.hb dX1_countPairs_0 (by decide) ?_
  refine lv_istore_n X.hx X.hb (i := 2) (lv' := [(2, .int (0 : Int32)), (0, va_rf v0), (1, .int v1)]) dX1_countPairs_1 rfl hl (by decide) (by simp [wv_rfc, wv_kI, wv_kJ, wv_kF, wv_kD]) (fun ls hl => ?_)
  refine lv_iconst (v := (0 : Int32)) X.hx X.hb dX1_countPairs_2 (by decide) ?_
  refine lv_istore_n X.hx X.hb (i := 3) (lv' := [(3, .int (0 : Int32)), (2, .int (0 : Int32)), (0, va_rf v0), (1, .int v1)]) dX1_countPairs_3 rfl hl (by decide) (by simp [wv_rfc, wv_kI, wv_kJ, wv_kF, wv_kD]) (fun ls hl => ?_)
  exact wv_loop (A := (Option Nat) × Int32 × Int32 × Int32) (fun a w => wv_J G p e R s m args below meth c 6 P w 4 [(0, va_rf a.1), (1, .int a.2.1), (2, .int a.2.2.1), (3, .int a.2.2.2)] []) (fun K4 hK4 a w hv => wk_X1_countPairs_4 X hK4 hv) hv H locs cells slots ls S (lv_sub hl [2, 3, 1, 0] rfl)
theorem wk_X1_countPairs {G : wv_G} (hG : wv_G0 G) {v0 : Option Nat} {v1 : Int32} {h : wv_H} {fr kc ks : Nat} {P : wv_R → wv_H → Prop} (hv : vc_X1_countPairs_0 G fr P v0 v1 (h, kc, ks)) : wv_C G yX1_countPairs [va_rf v0, .int v1] h fr kc ks P := by
  refine wv_enter (lv := [(0, va_rf v0), (1, .int v1)]) hG (by decide +kernel) q268 (by decide) (by simp [lg_sl, wv_rfc, wv_kI, wv_kJ, wv_kF, wv_kD]) (by simp [lv_args, wv_rfc, wv_kI, wv_kJ, wv_kF, wv_kD]) ?_
  intro p e R s m args below meth c X H locs cells slots ls S hl
  exact wk_X1_countPairs_0 X hv H locs cells slots ls S (lv_sub hl [0, 1] rfl)

def vc_X1_dropBody_0 (G : wv_G) (fr : Nat) (P : wv_R → wv_H → Prop) (v0 : Option Nat) (v1 : Int32) (v2 : Int32) (w : wv_W) : Prop :=
  wv_cV G fr yX1_type v0 [.int v1] w (wv_rA (fun x2 w2 => wv_c0 G fr yX1_checkMethod [.int v2] w2 (wv_rV (fun w7 => wv_gA w7 x2 ciX6 2 (fun x11 => wv_cV G fr yJ2_get x11 [.int v2] w7 (wv_rA (fun x15 w15 => wv_cc G w15 x15 "java/util/ArrayList" (wv_cV G fr yJ2_size x15 [] w15 (wv_rI (fun x21 w21 => wv_gA w21 x2 ciX6 2 (fun x27 => wv_cV G fr yJ2_get x27 [.int v2] w21 (wv_rA (fun x31 w31 => wv_cc G w31 x31 "java/util/ArrayList" (wv_cV G fr yJ2_clear x31 [] w31 (wv_rV (fun w37 => wv_cV G fr yX1_forgetPlaces v0 [] w37 (wv_rV (fun w41 => P (.inl (some (.int x21))) w41.1) (wv_pr P))) (wv_pr P)))) (wv_pr P)))) (wv_pr P)))) (wv_pr P)))) (wv_pr P))) (wv_pr P))
set_option maxHeartbeats 4000000 in
theorem wk_X1_dropBody_0 {G : wv_G} {p : Program} {e : Env} {R : Room} {s : State} {m : MethodId} {args : Array Value} {below : List Frame} {meth : Method} {c : Code} {fr : Nat} {P : wv_R → wv_H → Prop} (X : wv_ok G p R s m args meth c fr "Weaversgate" cX1_dropBody 5 (Option.some Jvm.ClassFile.FieldType.int) "dropBody" []) {v0 : Option Nat} {v1 : Int32} {v2 : Int32} {w : wv_W} (hv : vc_X1_dropBody_0 G fr P v0 v1 v2 w) : wv_J G p e R s m args below meth c 5 P w 0 [(0, va_rf v0), (1, .int v1), (2, .int v2)] [] := by
  intro H locs cells slots ls S hl
  unfold vc_X1_dropBody_0 at hv
  refine wq_aload_n X dX1_dropBody_0 rfl (lv_at hl 0 rfl) ?_
  refine lv_iload_n X.hx X.hb dX1_dropBody_1 rfl (lv_at hl 1 rfl) ?_
  refine wq_cV_A X S hv q1239 q1241 qs27 q60 ⟨by decide +kernel, by decide +kernel⟩ (nA := 1) (As := [.int v1]) (by decide +kernel) rfl rfl (by simp [wv_rfc, wv_kI, wv_kJ, wv_kF, wv_kD]) hl.1 dX1_dropBody_2 (fun x2 w2 H locs cells slots S hv => ?_) (wq_kx X rfl)
  refine wq_astore_n X (i := 3) (lv' := [(3, va_rf x2), (0, va_rf v0), (1, .int v1), (2, .int v2)]) dX1_dropBody_5 rfl hl (by decide) (by simp [wv_rfc, wv_kI, wv_kJ, wv_kF, wv_kD]) (fun ls hl => ?_)
  refine lv_iload_n X.hx X.hb dX1_dropBody_6 rfl (lv_at hl 3 rfl) ?_
  refine wq_cS_V X S hv q1323 q1324 q60 ⟨by decide +kernel, by decide +kernel⟩ (nA := 1) (As := [.int v2]) (by decide +kernel) rfl rfl (by simp [wv_rfc, wv_kI, wv_kJ, wv_kF, wv_kD]) hl.1 dX1_dropBody_7 (fun w7 H locs cells slots S hv => ?_) (wq_kx X rfl)
  refine wq_aload_n X dX1_dropBody_10 rfl (lv_at hl 0 rfl) ?_
  refine wq_gAN X S hv ccX6 in_X6 (k := 2) (by decide) q1295 dX1_dropBody_11 (fun x11 hv => ?_)
  refine lv_iload_n X.hx X.hb dX1_dropBody_14 rfl (lv_at hl 3 rfl) ?_
  refine wq_cV_A X S hv q273 q274 q275 q63 ⟨by decide +kernel, by decide +kernel⟩ (nA := 1) (As := [.int v2]) (by decide +kernel) rfl rfl (by simp [wv_rfc, wv_kI, wv_kJ, wv_kF, wv_kD]) hl.1 dX1_dropBody_15 (fun x15 w15 H locs cells slots S hv => ?_) (wq_kx X rfl)
  refine wq_cc X S hv q127 dX1_dropBody_18 (fun hv => ?_)
  refine wq_cV_I X S hv q269 q270 q271 q63 ⟨by decide +kernel, by decide +kernel⟩ (nA := 0) (As := []) (by decide +kernel) rfl rfl (by simp [wv_rfc, wv_kI, wv_kJ, wv_kF, wv_kD]) hl.1 dX1_dropBody_21 (fun x21 w21 H locs cells slots S hv => ?_) (wq_kx X rfl)
  refine lv_istore X.hx X.hb (i := 4) (lv' := [(4, .int x21), (3, va_rf x2), (0, va_rf v0), (1, .int v1), (2, .int v2)]) dX1_dropBody_24 hl (by decide) (by simp [wv_rfc, wv_kI, wv_kJ, wv_kF, wv_kD]) (fun ls hl => ?_)
  refine wq_aload_n X dX1_dropBody_26 rfl (lv_at hl 1 rfl) ?_
  refine wq_gAN X S hv ccX6 in_X6 (k := 2) (by decide) q1295 dX1_dropBody_27 (fun x27 hv => ?_)
  refine lv_iload_n X.hx X.hb dX1_dropBody_30 rfl (lv_at hl 4 rfl) ?_
  refine wq_cV_A X S hv q273 q274 q275 q63 ⟨by decide +kernel, by decide +kernel⟩ (nA := 1) (As := [.int v2]) (by decide +kernel) rfl rfl (by simp [wv_rfc, wv_kI, wv_kJ, wv_kF, wv_kD]) hl.1 dX1_dropBody_31 (fun x31 w31 H locs cells slots S hv => ?_) (wq_kx X rfl)
  refine wq_cc X S hv q127 dX1_dropBody_34 (fun hv => ?_)
  refine wq_cV_V X S hv q1311 q1312 q1313 q63 ⟨by decide +kernel, by decide +kernel⟩ (nA := 0) (As := []) (by decide +kernel) rfl rfl (by simp [wv_rfc, wv_kI, wv_kJ, wv_kF, wv_kD]) hl.1 dX1_dropBody_37 (fun w37 H locs cells slots S hv => ?_) (wq_kx X rfl)
  refine wq_aload_n X dX1_dropBody_40 rfl (lv_at hl 2 rfl) ?_
  refine wq_cV_V X S hv q1307 q1309 qs28 q60 ⟨by decide +kernel, by decide +kernel⟩ (nA := 0) (As := []) (by decide +kernel) rfl rfl (by simp [wv_rfc, wv_kI, wv_kJ, wv_kF, wv_kD]) hl.1 dX1_dropBody_41 (fun w41 H locs cells slots S hv => ?_) (wq_kx X rfl)
  refine lv_iload X.hx X.hb dX1_dropBody_44 (lv_at hl 0 rfl) ?_
  exact wr_iret X S rfl hv dX1_dropBody_46
theorem wk_X1_dropBody {G : wv_G} (hG : wv_G0 G) {v0 : Option Nat} {v1 : Int32} {v2 : Int32} {h : wv_H} {fr kc ks : Nat} {P : wv_R → wv_H → Prop} (hv : vc_X1_dropBody_0 G fr P v0 v1 v2 (h, kc, ks)) : wv_C G yX1_dropBody [va_rf v0, .int v1, .int v2] h fr kc ks P := by
  refine wv_enter (lv := [(0, va_rf v0), (1, .int v1), (2, .int v2)]) hG (by decide +kernel) q1365 (by decide) (by simp [lg_sl, wv_rfc, wv_kI, wv_kJ, wv_kF, wv_kD]) (by simp [lv_args, wv_rfc, wv_kI, wv_kJ, wv_kF, wv_kD]) ?_
  intro p e R s m args below meth c X H locs cells slots ls S hl
  exact wk_X1_dropBody_0 X hv H locs cells slots ls S (lv_sub hl [0, 1, 2] rfl)

def vc_X1_finds_0 (G : wv_G) (fr : Nat) (P : wv_R → wv_H → Prop) (v0 : Option Nat) (v1 : Int32) (v2 : Int32) (w : wv_W) : Prop :=
  wv_cV G fr yX1_type v0 [.int v1] w (wv_rA (fun x2 w2 => wv_c0 G fr yX1_checkMethod [.int v2] w2 (wv_rV (fun w7 => wv_cV G fr yX6_finder x2 [.int v2] w7 (wv_rA (fun x12 w12 => (¬ x12 = none → wv_gI w12 x12 ciX6 0 (fun x28 => P (.inl (some (.int x28))) w12.1)) ∧ (x12 = none → P (.inl (some (.int (-1 : Int32)))) w12.1)) (wv_pr P))) (wv_pr P))) (wv_pr P))
set_option maxHeartbeats 4000000 in
theorem wk_X1_finds_0 {G : wv_G} {p : Program} {e : Env} {R : Room} {s : State} {m : MethodId} {args : Array Value} {below : List Frame} {meth : Method} {c : Code} {fr : Nat} {P : wv_R → wv_H → Prop} (X : wv_ok G p R s m args meth c fr "Weaversgate" cX1_finds 5 (Option.some Jvm.ClassFile.FieldType.int) "finds" []) {v0 : Option Nat} {v1 : Int32} {v2 : Int32} {w : wv_W} (hv : vc_X1_finds_0 G fr P v0 v1 v2 w) : wv_J G p e R s m args below meth c 5 P w 0 [(0, va_rf v0), (1, .int v1), (2, .int v2)] [] := by
  intro H locs cells slots ls S hl
  unfold vc_X1_finds_0 at hv
  refine wq_aload_n X dX1_finds_0 rfl (lv_at hl 0 rfl) ?_
  refine lv_iload_n X.hx X.hb dX1_finds_1 rfl (lv_at hl 1 rfl) ?_
  refine wq_cV_A X S hv q1239 q1241 qs27 q60 ⟨by decide +kernel, by decide +kernel⟩ (nA := 1) (As := [.int v1]) (by decide +kernel) rfl rfl (by simp [wv_rfc, wv_kI, wv_kJ, wv_kF, wv_kD]) hl.1 dX1_finds_2 (fun x2 w2 H locs cells slots S hv => ?_) (wq_kx X rfl)
  refine wq_astore_n X (i := 3) (lv' := [(3, va_rf x2), (0, va_rf v0), (1, .int v1), (2, .int v2)]) dX1_finds_5 rfl hl (by decide) (by simp [wv_rfc, wv_kI, wv_kJ, wv_kF, wv_kD]) (fun ls hl => ?_)
  refine lv_iload_n X.hx X.hb dX1_finds_6 rfl (lv_at hl 3 rfl) ?_
  refine wq_cS_V X S hv q1323 q1324 q60 ⟨by decide +kernel, by decide +kernel⟩ (nA := 1) (As := [.int v2]) (by decide +kernel) rfl rfl (by simp [wv_rfc, wv_kI, wv_kJ, wv_kF, wv_kD]) hl.1 dX1_finds_7 (fun w7 H locs cells slots S hv => ?_) (wq_kx X rfl)
  refine wq_aload_n X dX1_finds_10 rfl (lv_at hl 0 rfl) ?_
  refine lv_iload_n X.hx X.hb dX1_finds_11 rfl (lv_at hl 3 rfl) ?_
  refine wq_cV_A X S hv q712 q713 q714 q77 ⟨by decide +kernel, by decide +kernel⟩ (nA := 1) (As := [.int v2]) (by decide +kernel) rfl rfl (by simp [wv_rfc, wv_kI, wv_kJ, wv_kF, wv_kD]) hl.1 dX1_finds_12 (fun x12 w12 H locs cells slots S hv => ?_) (wq_kx X rfl)
  refine wq_astore X (i := 4) (lv' := [(4, va_rf x12), (3, va_rf x2), (0, va_rf v0), (1, .int v1), (2, .int v2)]) dX1_finds_15 hl (by decide) (by simp [wv_rfc, wv_kI, wv_kJ, wv_kF, wv_kD]) (fun ls hl => ?_)
  refine wq_aload X dX1_finds_17 (lv_at hl 0 rfl) ?_
  refine wq_ifnonnull (tgt := 26) X dX1_finds_19 (by decide) (fun c19 => ?_) (fun c19 => ?_)
  · have hv := hv.1 c19
    refine wq_aload X dX1_finds_26 (lv_at hl 0 rfl) ?_
    refine wq_gIN X S hv ccX6 in_X6 (k := 0) (by decide) q1291 dX1_finds_28 (fun x28 hv => ?_)
    exact wr_iret X S rfl hv dX1_finds_31
  · have hv := hv.2 c19
    refine lv_iconst (v := (-1 : Int32)) X.hx X.hb dX1_finds_22 (by decide) ?_
    refine lv_goto (tgt := 31) X.hx X.hb dX1_finds_23 (by decide) ?_
    exact wr_iret X S rfl hv dX1_finds_31
theorem wk_X1_finds {G : wv_G} (hG : wv_G0 G) {v0 : Option Nat} {v1 : Int32} {v2 : Int32} {h : wv_H} {fr kc ks : Nat} {P : wv_R → wv_H → Prop} (hv : vc_X1_finds_0 G fr P v0 v1 v2 (h, kc, ks)) : wv_C G yX1_finds [va_rf v0, .int v1, .int v2] h fr kc ks P := by
  refine wv_enter (lv := [(0, va_rf v0), (1, .int v1), (2, .int v2)]) hG (by decide +kernel) q1372 (by decide) (by simp [lg_sl, wv_rfc, wv_kI, wv_kJ, wv_kF, wv_kD]) (by simp [lv_args, wv_rfc, wv_kI, wv_kJ, wv_kF, wv_kD]) ?_
  intro p e R s m args below meth c X H locs cells slots ls S hl
  exact wk_X1_finds_0 X hv H locs cells slots ls S (lv_sub hl [0, 1, 2] rfl)

def vc_X1_forgetPlaces_15 (G : wv_G) (fr : Nat) (P : wv_R → wv_H → Prop) (K2 : ((Option Nat) × Int32) → wv_W → Prop) (K15 : ((Option Nat) × Int32 × Int32) → wv_W → Prop) (v0 : Option Nat) (v1 : Int32) (v2 : Int32) (w : wv_W) : Prop :=
  ((6 : Int32) ≤ v2 → K2 (v0, (v1 + (1 : Int32))) w) ∧ (¬ (6 : Int32) ≤ v2 → wv_gA w v0 ciX1 0 (fun x22 => wv_cV G fr yJ2_get x22 [.int v1] w (wv_rA (fun x26 w26 => wv_cc G w26 x26 "Weaversgate$Type" (wv_gA w26 x26 ciX6 3 (fun x32 => wv_cV G fr yJ2_get x32 [.int v2] w26 (wv_rA (fun x36 w36 => wv_cc G w36 x36 "java/util/ArrayList" (wv_cV G fr yJ2_clear x36 [] w36 (wv_rV (fun w42 => K15 (v0, v1, (v2 + (1 : Int32))) w42) (wv_pr P)))) (wv_pr P))))) (wv_pr P))))
def vc_X1_forgetPlaces_2 (G : wv_G) (fr : Nat) (P : wv_R → wv_H → Prop) (K2 : ((Option Nat) × Int32) → wv_W → Prop) (v0 : Option Nat) (v1 : Int32) (w : wv_W) : Prop :=
  wv_gA w v0 ciX1 0 (fun x4 => wv_cV G fr yJ2_size x4 [] w (wv_rI (fun x7 w7 => (x7 ≤ v1 → P (.inl none) w7.1) ∧ (¬ x7 ≤ v1 → wv_L (fun K15 a w => vc_X1_forgetPlaces_15 G fr P K2 K15 a.1 a.2.1 a.2.2 w) (v0, v1, (0 : Int32)) w7)) (wv_pr P)))
def vc_X1_forgetPlaces_0 (G : wv_G) (fr : Nat) (P : wv_R → wv_H → Prop) (v0 : Option Nat) (w : wv_W) : Prop :=
  wv_L (fun K2 a w => vc_X1_forgetPlaces_2 G fr P K2 a.1 a.2 w) (v0, (0 : Int32)) w
set_option maxHeartbeats 4000000 in
theorem wk_X1_forgetPlaces_15 {G : wv_G} {p : Program} {e : Env} {R : Room} {s : State} {m : MethodId} {args : Array Value} {below : List Frame} {meth : Method} {c : Code} {fr : Nat} {P : wv_R → wv_H → Prop} (X : wv_ok G p R s m args meth c fr "Weaversgate" cX1_forgetPlaces 3 (Option.none : Option Jvm.ClassFile.FieldType) "forgetPlaces" []) {K2 : ((Option Nat) × Int32) → wv_W → Prop} (hK2 : ∀ a w, K2 a w → wv_J G p e R s m args below meth c 3 P w 2 [(0, va_rf a.1), (1, .int a.2)] []) {K15 : ((Option Nat) × Int32 × Int32) → wv_W → Prop} (hK15 : ∀ a w, K15 a w → wv_J G p e R s m args below meth c 3 P w 15 [(0, va_rf a.1), (1, .int a.2.1), (2, .int a.2.2)] []) {v0 : Option Nat} {v1 : Int32} {v2 : Int32} {w : wv_W} (hv : vc_X1_forgetPlaces_15 G fr P K2 K15 v0 v1 v2 w) : wv_J G p e R s m args below meth c 3 P w 15 [(0, va_rf v0), (1, .int v1), (2, .int v2)] [] := by
  intro H locs cells slots ls S hl
  unfold vc_X1_forgetPlaces_15 at hv
  refine lv_iload_n X.hx X.hb dX1_forgetPlaces_15 rfl (lv_at hl 2 rfl) ?_
  refine lv_bipush (v := (6 : Int32)) X.hx X.hb dX1_forgetPlaces_16 (by decide) ?_
  refine lv_icmp_ge (tgt := 51) X.hx X.hb dX1_forgetPlaces_18 (by decide) (fun c18 => ?_) (fun c18 => ?_)
  · have hv := hv.1 c18
    refine lv_iinc (v := (v1 + (1 : Int32))) (lv' := [(1, .int (v1 + (1 : Int32))), (0, va_rf v0), (2, .int v2)]) X.hx X.hb dX1_forgetPlaces_51 hl (k := 1) rfl (by rfl) (by decide) (by simp [wv_rfc, wv_kI, wv_kJ, wv_kF, wv_kD]) (fun ls hl => ?_)
    refine lv_goto (tgt := 2) X.hx X.hb dX1_forgetPlaces_54 (by decide) ?_
    exact hK2 _ _ hv H locs cells slots ls S (lv_sub hl [1, 0] rfl)
  · have hv := hv.2 c18
    refine wq_aload_n X dX1_forgetPlaces_21 rfl (lv_at hl 0 rfl) ?_
    refine wq_gA X S hv ccX1 in_X1 (k := 0) (by decide) q225 dX1_forgetPlaces_22 (fun x22 hv => ?_)
    refine lv_iload_n X.hx X.hb dX1_forgetPlaces_25 rfl (lv_at hl 1 rfl) ?_
    refine wq_cV_A X S hv q273 q274 q275 q63 ⟨by decide +kernel, by decide +kernel⟩ (nA := 1) (As := [.int v1]) (by decide +kernel) rfl rfl (by simp [wv_rfc, wv_kI, wv_kJ, wv_kF, wv_kD]) hl.1 dX1_forgetPlaces_26 (fun x26 w26 H locs cells slots S hv => ?_) (wq_kx X rfl)
    refine wq_cc X S hv q287 dX1_forgetPlaces_29 (fun hv => ?_)
    refine wq_gAN X S hv ccX6 in_X6 (k := 3) (by decide) q1297 dX1_forgetPlaces_32 (fun x32 hv => ?_)
    refine lv_iload_n X.hx X.hb dX1_forgetPlaces_35 rfl (lv_at hl 2 rfl) ?_
    refine wq_cV_A X S hv q273 q274 q275 q63 ⟨by decide +kernel, by decide +kernel⟩ (nA := 1) (As := [.int v2]) (by decide +kernel) rfl rfl (by simp [wv_rfc, wv_kI, wv_kJ, wv_kF, wv_kD]) hl.1 dX1_forgetPlaces_36 (fun x36 w36 H locs cells slots S hv => ?_) (wq_kx X rfl)
    refine wq_cc X S hv q127 dX1_forgetPlaces_39 (fun hv => ?_)
    refine wq_cV_V X S hv q1311 q1312 q1313 q63 ⟨by decide +kernel, by decide +kernel⟩ (nA := 0) (As := []) (by decide +kernel) rfl rfl (by simp [wv_rfc, wv_kI, wv_kJ, wv_kF, wv_kD]) hl.1 dX1_forgetPlaces_42 (fun w42 H locs cells slots S hv => ?_) (wq_kx X rfl)
    refine lv_iinc (v := (v2 + (1 : Int32))) (lv' := [(2, .int (v2 + (1 : Int32))), (0, va_rf v0), (1, .int v1)]) X.hx X.hb dX1_forgetPlaces_45 hl (k := 2) rfl (by rfl) (by decide) (by simp [wv_rfc, wv_kI, wv_kJ, wv_kF, wv_kD]) (fun ls hl => ?_)
    refine lv_goto (tgt := 15) X.hx X.hb dX1_forgetPlaces_48 (by decide) ?_
    exact hK15 _ _ hv H locs cells slots ls S (lv_sub hl [1, 2, 0] rfl)
set_option maxHeartbeats 4000000 in
theorem wk_X1_forgetPlaces_2 {G : wv_G} {p : Program} {e : Env} {R : Room} {s : State} {m : MethodId} {args : Array Value} {below : List Frame} {meth : Method} {c : Code} {fr : Nat} {P : wv_R → wv_H → Prop} (X : wv_ok G p R s m args meth c fr "Weaversgate" cX1_forgetPlaces 3 (Option.none : Option Jvm.ClassFile.FieldType) "forgetPlaces" []) {K2 : ((Option Nat) × Int32) → wv_W → Prop} (hK2 : ∀ a w, K2 a w → wv_J G p e R s m args below meth c 3 P w 2 [(0, va_rf a.1), (1, .int a.2)] []) {v0 : Option Nat} {v1 : Int32} {w : wv_W} (hv : vc_X1_forgetPlaces_2 G fr P K2 v0 v1 w) : wv_J G p e R s m args below meth c 3 P w 2 [(0, va_rf v0), (1, .int v1)] [] := by
  intro H locs cells slots ls S hl
  unfold vc_X1_forgetPlaces_2 at hv
  refine lv_iload_n X.hx X.hb dX1_forgetPlaces_2 rfl (lv_at hl 1 rfl) ?_
  refine wq_aload_n X dX1_forgetPlaces_3 rfl (lv_at hl 0 rfl) ?_
  refine wq_gA X S hv ccX1 in_X1 (k := 0) (by decide) q225 dX1_forgetPlaces_4 (fun x4 hv => ?_)
  refine wq_cV_I X S hv q269 q270 q271 q63 ⟨by decide +kernel, by decide +kernel⟩ (nA := 0) (As := []) (by decide +kernel) rfl rfl (by simp [wv_rfc, wv_kI, wv_kJ, wv_kF, wv_kD]) hl.1 dX1_forgetPlaces_7 (fun x7 w7 H locs cells slots S hv => ?_) (wq_kx X rfl)
  refine lv_icmp_ge (tgt := 57) X.hx X.hb dX1_forgetPlaces_10 (by decide) (fun c10 => ?_) (fun c10 => ?_)
  · have hv := hv.1 c10
    exact wr_vret X S hv dX1_forgetPlaces_57
  · have hv := hv.2 c10
    refine lv_iconst (v := (0 : Int32)) X.hx X.hb dX1_forgetPlaces_13 (by decide) ?_
    refine lv_istore_n X.hx X.hb (i := 2) (lv' := [(2, .int (0 : Int32)), (0, va_rf v0), (1, .int v1)]) dX1_forgetPlaces_14 rfl hl (by decide) (by simp [wv_rfc, wv_kI, wv_kJ, wv_kF, wv_kD]) (fun ls hl => ?_)
    exact wv_loop (A := (Option Nat) × Int32 × Int32) (fun a w => wv_J G p e R s m args below meth c 3 P w 15 [(0, va_rf a.1), (1, .int a.2.1), (2, .int a.2.2)] []) (fun K15 hK15 a w hv => wk_X1_forgetPlaces_15 X hK2 hK15 hv) hv H locs cells slots ls S (lv_sub hl [1, 2, 0] rfl)
set_option maxHeartbeats 4000000 in
theorem wk_X1_forgetPlaces_0 {G : wv_G} {p : Program} {e : Env} {R : Room} {s : State} {m : MethodId} {args : Array Value} {below : List Frame} {meth : Method} {c : Code} {fr : Nat} {P : wv_R → wv_H → Prop} (X : wv_ok G p R s m args meth c fr "Weaversgate" cX1_forgetPlaces 3 (Option.none : Option Jvm.ClassFile.FieldType) "forgetPlaces" []) {v0 : Option Nat} {w : wv_W} (hv : vc_X1_forgetPlaces_0 G fr P v0 w) : wv_J G p e R s m args below meth c 3 P w 0 [(0, va_rf v0)] [] := by
  intro H locs cells slots ls S hl
  unfold vc_X1_forgetPlaces_0 at hv
  refine lv_iconst (v := (0 : Int32)) X.hx X.hb dX1_forgetPlaces_0 (by decide) ?_
  refine lv_istore_n X.hx X.hb (i := 1) (lv' := [(1, .int (0 : Int32)), (0, va_rf v0)]) dX1_forgetPlaces_1 rfl hl (by decide) (by simp [wv_rfc, wv_kI, wv_kJ, wv_kF, wv_kD]) (fun ls hl => ?_)
  exact wv_loop (A := (Option Nat) × Int32) (fun a w => wv_J G p e R s m args below meth c 3 P w 2 [(0, va_rf a.1), (1, .int a.2)] []) (fun K2 hK2 a w hv => wk_X1_forgetPlaces_2 X hK2 hv) hv H locs cells slots ls S (lv_sub hl [1, 0] rfl)
theorem wk_X1_forgetPlaces {G : wv_G} (hG : wv_G0 G) {v0 : Option Nat} {h : wv_H} {fr kc ks : Nat} {P : wv_R → wv_H → Prop} (hv : vc_X1_forgetPlaces_0 G fr P v0 (h, kc, ks)) : wv_C G yX1_forgetPlaces [va_rf v0] h fr kc ks P := by
  refine wv_enter (lv := [(0, va_rf v0)]) hG (by decide +kernel) q1310 (by decide) (by simp [lg_sl, wv_rfc, wv_kI, wv_kJ, wv_kF, wv_kD]) (by simp [lv_args, wv_rfc, wv_kI, wv_kJ, wv_kF, wv_kD]) ?_
  intro p e R s m args below meth c X H locs cells slots ls S hl
  exact wk_X1_forgetPlaces_0 X hv H locs cells slots ls S (lv_sub hl [0] rfl)

def vc_X1_hasRing_0 (G : wv_G) (fr : Nat) (P : wv_R → wv_H → Prop) (v0 : Option Nat) (w : wv_W) : Prop :=
  wv_cV G fr yX1_aspectOf v0 [.int (3 : Int32)] w (wv_rI (fun x2 w2 => (¬ x2 = (-1 : Int32) → narrow .boolean (.int (0 : Int32)) = .int (0 : Int32) ∧ P (.inl (some (.int (0 : Int32)))) w2.1) ∧ (x2 = (-1 : Int32) → narrow .boolean (.int (1 : Int32)) = .int (1 : Int32) ∧ P (.inl (some (.int (1 : Int32)))) w2.1)) (wv_pr P))
set_option maxHeartbeats 4000000 in
theorem wk_X1_hasRing_0 {G : wv_G} {p : Program} {e : Env} {R : Room} {s : State} {m : MethodId} {args : Array Value} {below : List Frame} {meth : Method} {c : Code} {fr : Nat} {P : wv_R → wv_H → Prop} (X : wv_ok G p R s m args meth c fr "Weaversgate" cX1_hasRing 1 (Option.some Jvm.ClassFile.FieldType.boolean) "hasRing" []) {v0 : Option Nat} {w : wv_W} (hv : vc_X1_hasRing_0 G fr P v0 w) : wv_J G p e R s m args below meth c 1 P w 0 [(0, va_rf v0)] [] := by
  intro H locs cells slots ls S hl
  unfold vc_X1_hasRing_0 at hv
  refine wq_aload_n X dX1_hasRing_0 rfl (lv_at hl 0 rfl) ?_
  refine lv_iconst (v := (3 : Int32)) X.hx X.hb dX1_hasRing_1 (by decide) ?_
  refine wq_cV_I X S hv q257 q259 qs1 q60 ⟨by decide +kernel, by decide +kernel⟩ (nA := 1) (As := [.int (3 : Int32)]) (by decide +kernel) rfl rfl (by simp [wv_rfc, wv_kI, wv_kJ, wv_kF, wv_kD]) hl.1 dX1_hasRing_2 (fun x2 w2 H locs cells slots S hv => ?_) (wq_kx X rfl)
  refine lv_iconst (v := (-1 : Int32)) X.hx X.hb dX1_hasRing_5 (by decide) ?_
  refine lv_icmp_ne (tgt := 13) X.hx X.hb dX1_hasRing_6 (by decide) (fun c6 => ?_) (fun c6 => ?_)
  · have hv := hv.1 c6
    refine lv_iconst (v := (0 : Int32)) X.hx X.hb dX1_hasRing_13 (by decide) ?_
    exact wr_iret X S hv.1 hv.2 dX1_hasRing_14
  · have hv := hv.2 c6
    refine lv_iconst (v := (1 : Int32)) X.hx X.hb dX1_hasRing_9 (by decide) ?_
    refine lv_goto (tgt := 14) X.hx X.hb dX1_hasRing_10 (by decide) ?_
    exact wr_iret X S hv.1 hv.2 dX1_hasRing_14
theorem wk_X1_hasRing {G : wv_G} (hG : wv_G0 G) {v0 : Option Nat} {h : wv_H} {fr kc ks : Nat} {P : wv_R → wv_H → Prop} (hv : vc_X1_hasRing_0 G fr P v0 (h, kc, ks)) : wv_C G yX1_hasRing [va_rf v0] h fr kc ks P := by
  refine wv_enter (lv := [(0, va_rf v0)]) hG (by decide +kernel) q256 (by decide) (by simp [lg_sl, wv_rfc, wv_kI, wv_kJ, wv_kF, wv_kD]) (by simp [lv_args, wv_rfc, wv_kI, wv_kJ, wv_kF, wv_kD]) ?_
  intro p e R s m args below meth c X H locs cells slots ls S hl
  exact wk_X1_hasRing_0 X hv H locs cells slots ls S (lv_sub hl [0] rfl)

def vc_X1_inRange_0 (G : wv_G) (fr : Nat) (P : wv_R → wv_H → Prop) (v0 : Int32) (v1 : Int32) (v2 : Int32) (w : wv_W) : Prop :=
  (v0 < v1 → narrow .boolean (.int (0 : Int32)) = .int (0 : Int32) ∧ P (.inl (some (.int (0 : Int32)))) w.1) ∧ (¬ v0 < v1 → (v2 < v0 → narrow .boolean (.int (0 : Int32)) = .int (0 : Int32) ∧ P (.inl (some (.int (0 : Int32)))) w.1) ∧ (¬ v2 < v0 → narrow .boolean (.int (1 : Int32)) = .int (1 : Int32) ∧ P (.inl (some (.int (1 : Int32)))) w.1))
set_option maxHeartbeats 4000000 in
theorem wk_X1_inRange_0 {G : wv_G} {p : Program} {e : Env} {R : Room} {s : State} {m : MethodId} {args : Array Value} {below : List Frame} {meth : Method} {c : Code} {fr : Nat} {P : wv_R → wv_H → Prop} (X : wv_ok G p R s m args meth c fr "Weaversgate" cX1_inRange 3 (Option.some Jvm.ClassFile.FieldType.boolean) "inRange" []) {v0 : Int32} {v1 : Int32} {v2 : Int32} {w : wv_W} (hv : vc_X1_inRange_0 G fr P v0 v1 v2 w) : wv_J G p e R s m args below meth c 3 P w 0 [(0, .int v0), (1, .int v1), (2, .int v2)] [] := by
  intro H locs cells slots ls S hl
  unfold vc_X1_inRange_0 at hv
  refine lv_iload_n X.hx X.hb dX1_inRange_0 rfl (lv_at hl 0 rfl) ?_
  refine lv_iload_n X.hx X.hb dX1_inRange_1 rfl (lv_at hl 1 rfl) ?_
  refine lv_icmp_lt (tgt := 14) X.hx X.hb dX1_inRange_2 (by decide) (fun c2 => ?_) (fun c2 => ?_)
  · have hv := hv.1 c2
    refine lv_iconst (v := (0 : Int32)) X.hx X.hb dX1_inRange_14 (by decide) ?_
    exact wr_iret X S hv.1 hv.2 dX1_inRange_15
  · have hv := hv.2 c2
    refine lv_iload_n X.hx X.hb dX1_inRange_5 rfl (lv_at hl 0 rfl) ?_
    refine lv_iload_n X.hx X.hb dX1_inRange_6 rfl (lv_at hl 2 rfl) ?_
    refine lv_icmp_gt (tgt := 14) X.hx X.hb dX1_inRange_7 (by decide) (fun c7 => ?_) (fun c7 => ?_)
    · have hv := hv.1 c7
      refine lv_iconst (v := (0 : Int32)) X.hx X.hb dX1_inRange_14 (by decide) ?_
      exact wr_iret X S hv.1 hv.2 dX1_inRange_15
    · have hv := hv.2 c7
      refine lv_iconst (v := (1 : Int32)) X.hx X.hb dX1_inRange_10 (by decide) ?_
      refine lv_goto (tgt := 15) X.hx X.hb dX1_inRange_11 (by decide) ?_
      exact wr_iret X S hv.1 hv.2 dX1_inRange_15
theorem wk_X1_inRange {G : wv_G} (hG : wv_G0 G) {v0 : Int32} {v1 : Int32} {v2 : Int32} {h : wv_H} {fr kc ks : Nat} {P : wv_R → wv_H → Prop} (hv : vc_X1_inRange_0 G fr P v0 v1 v2 (h, kc, ks)) : wv_C G yX1_inRange [.int v0, .int v1, .int v2] h fr kc ks P := by
  refine wv_enter (lv := [(0, .int v0), (1, .int v1), (2, .int v2)]) hG (by decide +kernel) q1245 (by decide) (by simp [lg_sl, wv_rfc, wv_kI, wv_kJ, wv_kF, wv_kD]) (by simp [lv_args, wv_rfc, wv_kI, wv_kJ, wv_kF, wv_kD]) ?_
  intro p e R s m args below meth c X H locs cells slots ls S hl
  exact wk_X1_inRange_0 X hv H locs cells slots ls S (lv_sub hl [0, 1, 2] rfl)

def vc_X1_isAdvice_0 (G : wv_G) (fr : Nat) (P : wv_R → wv_H → Prop) (v0 : Int32) (w : wv_W) : Prop :=
  (v0 = (98 : Int32) → narrow .boolean (.int (1 : Int32)) = .int (1 : Int32) ∧ P (.inl (some (.int (1 : Int32)))) w.1) ∧ (¬ v0 = (98 : Int32) → (v0 = (97 : Int32) → narrow .boolean (.int (1 : Int32)) = .int (1 : Int32) ∧ P (.inl (some (.int (1 : Int32)))) w.1) ∧ (¬ v0 = (97 : Int32) → (v0 = (120 : Int32) → narrow .boolean (.int (1 : Int32)) = .int (1 : Int32) ∧ P (.inl (some (.int (1 : Int32)))) w.1) ∧ (¬ v0 = (120 : Int32) → (v0 = (102 : Int32) → narrow .boolean (.int (1 : Int32)) = .int (1 : Int32) ∧ P (.inl (some (.int (1 : Int32)))) w.1) ∧ (¬ v0 = (102 : Int32) → (¬ v0 = (114 : Int32) → narrow .boolean (.int (0 : Int32)) = .int (0 : Int32) ∧ P (.inl (some (.int (0 : Int32)))) w.1) ∧ (v0 = (114 : Int32) → narrow .boolean (.int (1 : Int32)) = .int (1 : Int32) ∧ P (.inl (some (.int (1 : Int32)))) w.1)))))
set_option maxHeartbeats 4000000 in
theorem wk_X1_isAdvice_0 {G : wv_G} {p : Program} {e : Env} {R : Room} {s : State} {m : MethodId} {args : Array Value} {below : List Frame} {meth : Method} {c : Code} {fr : Nat} {P : wv_R → wv_H → Prop} (X : wv_ok G p R s m args meth c fr "Weaversgate" cX1_isAdvice 1 (Option.some Jvm.ClassFile.FieldType.boolean) "isAdvice" []) {v0 : Int32} {w : wv_W} (hv : vc_X1_isAdvice_0 G fr P v0 w) : wv_J G p e R s m args below meth c 1 P w 0 [(0, .int v0)] [] := by
  intro H locs cells slots ls S hl
  unfold vc_X1_isAdvice_0 at hv
  refine lv_iload_n X.hx X.hb dX1_isAdvice_0 rfl (lv_at hl 0 rfl) ?_
  refine lv_bipush (v := (98 : Int32)) X.hx X.hb dX1_isAdvice_1 (by decide) ?_
  refine lv_icmp_eq (tgt := 30) X.hx X.hb dX1_isAdvice_3 (by decide) (fun c3 => ?_) (fun c3 => ?_)
  · have hv := hv.1 c3
    refine lv_iconst (v := (1 : Int32)) X.hx X.hb dX1_isAdvice_30 (by decide) ?_
    refine lv_goto (tgt := 35) X.hx X.hb dX1_isAdvice_31 (by decide) ?_
    exact wr_iret X S hv.1 hv.2 dX1_isAdvice_35
  · have hv := hv.2 c3
    refine lv_iload_n X.hx X.hb dX1_isAdvice_6 rfl (lv_at hl 0 rfl) ?_
    refine lv_bipush (v := (97 : Int32)) X.hx X.hb dX1_isAdvice_7 (by decide) ?_
    refine lv_icmp_eq (tgt := 30) X.hx X.hb dX1_isAdvice_9 (by decide) (fun c9 => ?_) (fun c9 => ?_)
    · have hv := hv.1 c9
      refine lv_iconst (v := (1 : Int32)) X.hx X.hb dX1_isAdvice_30 (by decide) ?_
      refine lv_goto (tgt := 35) X.hx X.hb dX1_isAdvice_31 (by decide) ?_
      exact wr_iret X S hv.1 hv.2 dX1_isAdvice_35
    · have hv := hv.2 c9
      refine lv_iload_n X.hx X.hb dX1_isAdvice_12 rfl (lv_at hl 0 rfl) ?_
      refine lv_bipush (v := (120 : Int32)) X.hx X.hb dX1_isAdvice_13 (by decide) ?_
      refine lv_icmp_eq (tgt := 30) X.hx X.hb dX1_isAdvice_15 (by decide) (fun c15 => ?_) (fun c15 => ?_)
      · have hv := hv.1 c15
        refine lv_iconst (v := (1 : Int32)) X.hx X.hb dX1_isAdvice_30 (by decide) ?_
        refine lv_goto (tgt := 35) X.hx X.hb dX1_isAdvice_31 (by decide) ?_
        exact wr_iret X S hv.1 hv.2 dX1_isAdvice_35
      · have hv := hv.2 c15
        refine lv_iload_n X.hx X.hb dX1_isAdvice_18 rfl (lv_at hl 0 rfl) ?_
        refine lv_bipush (v := (102 : Int32)) X.hx X.hb dX1_isAdvice_19 (by decide) ?_
        refine lv_icmp_eq (tgt := 30) X.hx X.hb dX1_isAdvice_21 (by decide) (fun c21 => ?_) (fun c21 => ?_)
        · have hv := hv.1 c21
          refine lv_iconst (v := (1 : Int32)) X.hx X.hb dX1_isAdvice_30 (by decide) ?_
          refine lv_goto (tgt := 35) X.hx X.hb dX1_isAdvice_31 (by decide) ?_
          exact wr_iret X S hv.1 hv.2 dX1_isAdvice_35
        · have hv := hv.2 c21
          refine lv_iload_n X.hx X.hb dX1_isAdvice_24 rfl (lv_at hl 0 rfl) ?_
          refine lv_bipush (v := (114 : Int32)) X.hx X.hb dX1_isAdvice_25 (by decide) ?_
          refine lv_icmp_ne (tgt := 34) X.hx X.hb dX1_isAdvice_27 (by decide) (fun c27 => ?_) (fun c27 => ?_)
          · have hv := hv.1 c27
            refine lv_iconst (v := (0 : Int32)) X.hx X.hb dX1_isAdvice_34 (by decide) ?_
            exact wr_iret X S hv.1 hv.2 dX1_isAdvice_35
          · have hv := hv.2 c27
            refine lv_iconst (v := (1 : Int32)) X.hx X.hb dX1_isAdvice_30 (by decide) ?_
            refine lv_goto (tgt := 35) X.hx X.hb dX1_isAdvice_31 (by decide) ?_
            exact wr_iret X S hv.1 hv.2 dX1_isAdvice_35
theorem wk_X1_isAdvice {G : wv_G} (hG : wv_G0 G) {v0 : Int32} {h : wv_H} {fr kc ks : Nat} {P : wv_R → wv_H → Prop} (hv : vc_X1_isAdvice_0 G fr P v0 (h, kc, ks)) : wv_C G yX1_isAdvice [.int v0] h fr kc ks P := by
  refine wv_enter (lv := [(0, .int v0)]) hG (by decide +kernel) q1531 (by decide) (by simp [lg_sl, wv_rfc, wv_kI, wv_kJ, wv_kF, wv_kD]) (by simp [lv_args, wv_rfc, wv_kI, wv_kJ, wv_kF, wv_kD]) ?_
  intro p e R s m args below meth c X H locs cells slots ls S hl
  exact wk_X1_isAdvice_0 X hv H locs cells slots ls S (lv_sub hl [0] rfl)

def vc_X1_isPatternRight_124 (G : wv_G) (fr : Nat) (P : wv_R → wv_H → Prop) (v1 : Int32) (w : wv_W) : Prop :=
  wv_c0 G fr yX1_inRange [.int v1, .int (0 : Int32), .int (5 : Int32)] w (wv_rI (fun x127 w127 => narrow .boolean (.int x127) = .int x127 ∧ P (.inl (some (.int x127))) w127.1) (wv_pr P))
def vc_X1_isPatternRight_0 (G : wv_G) (fr : Nat) (P : wv_R → wv_H → Prop) (v0 : Int32) (v1 : Int32) (w : wv_W) : Prop :=
  (v0 = (33 : Int32) → narrow .boolean (.int (1 : Int32)) = .int (1 : Int32) ∧ P (.inl (some (.int (1 : Int32)))) w.1) ∧ (¬ v0 = (33 : Int32) → (v0 = (38 : Int32) → narrow .boolean (.int (1 : Int32)) = .int (1 : Int32) ∧ P (.inl (some (.int (1 : Int32)))) w.1) ∧ (¬ v0 = (38 : Int32) → (v0 = (99 : Int32) → narrow .boolean (.int (1 : Int32)) = .int (1 : Int32) ∧ P (.inl (some (.int (1 : Int32)))) w.1) ∧ (¬ v0 = (99 : Int32) → (v0 = (101 : Int32) → narrow .boolean (.int (1 : Int32)) = .int (1 : Int32) ∧ P (.inl (some (.int (1 : Int32)))) w.1) ∧ (¬ v0 = (101 : Int32) → (v0 = (102 : Int32) → narrow .boolean (.int (1 : Int32)) = .int (1 : Int32) ∧ P (.inl (some (.int (1 : Int32)))) w.1) ∧ (¬ v0 = (102 : Int32) → (v0 = (103 : Int32) → narrow .boolean (.int (1 : Int32)) = .int (1 : Int32) ∧ P (.inl (some (.int (1 : Int32)))) w.1) ∧ (¬ v0 = (103 : Int32) → (v0 = (104 : Int32) → narrow .boolean (.int (1 : Int32)) = .int (1 : Int32) ∧ P (.inl (some (.int (1 : Int32)))) w.1) ∧ (¬ v0 = (104 : Int32) → (v0 = (109 : Int32) → narrow .boolean (.int (1 : Int32)) = .int (1 : Int32) ∧ P (.inl (some (.int (1 : Int32)))) w.1) ∧ (¬ v0 = (109 : Int32) → (v0 = (110 : Int32) → vc_X1_isPatternRight_124 G fr P v1 w) ∧ (¬ v0 = (110 : Int32) → (v0 = (115 : Int32) → narrow .boolean (.int (1 : Int32)) = .int (1 : Int32) ∧ P (.inl (some (.int (1 : Int32)))) w.1) ∧ (¬ v0 = (115 : Int32) → (v0 = (116 : Int32) → vc_X1_isPatternRight_124 G fr P v1 w) ∧ (¬ v0 = (116 : Int32) → (v0 = (118 : Int32) → wv_c0 G fr yX1_inRange [.int v1, .int (-99 : Int32), .int (99 : Int32)] w (wv_rI (fun x138 w138 => narrow .boolean (.int x138) = .int x138 ∧ P (.inl (some (.int x138))) w138.1) (wv_pr P))) ∧ (¬ v0 = (118 : Int32) → (v0 = (119 : Int32) → vc_X1_isPatternRight_124 G fr P v1 w) ∧ (¬ v0 = (119 : Int32) → (v0 = (124 : Int32) → narrow .boolean (.int (1 : Int32)) = .int (1 : Int32) ∧ P (.inl (some (.int (1 : Int32)))) w.1) ∧ (¬ v0 = (124 : Int32) → narrow .boolean (.int (0 : Int32)) = .int (0 : Int32) ∧ P (.inl (some (.int (0 : Int32)))) w.1))))))))))))))
set_option maxHeartbeats 4000000 in
theorem wk_X1_isPatternRight_124 {G : wv_G} {p : Program} {e : Env} {R : Room} {s : State} {m : MethodId} {args : Array Value} {below : List Frame} {meth : Method} {c : Code} {fr : Nat} {P : wv_R → wv_H → Prop} (X : wv_ok G p R s m args meth c fr "Weaversgate" cX1_isPatternRight 2 (Option.some Jvm.ClassFile.FieldType.boolean) "isPatternRight" []) {v1 : Int32} {w : wv_W} (hv : vc_X1_isPatternRight_124 G fr P v1 w) : wv_J G p e R s m args below meth c 2 P w 124 [(1, .int v1)] [] := by
  intro H locs cells slots ls S hl
  unfold vc_X1_isPatternRight_124 at hv
  refine lv_iload_n X.hx X.hb dX1_isPatternRight_124 rfl (lv_at hl 0 rfl) ?_
  refine lv_iconst (v := (0 : Int32)) X.hx X.hb dX1_isPatternRight_125 (by decide) ?_
  refine lv_iconst (v := (5 : Int32)) X.hx X.hb dX1_isPatternRight_126 (by decide) ?_
  refine wq_cS_I X S hv q1243 q1244 q60 ⟨by decide +kernel, by decide +kernel⟩ (nA := 3) (As := [.int v1, .int (0 : Int32), .int (5 : Int32)]) (by decide +kernel) rfl rfl (by simp [wv_rfc, wv_kI, wv_kJ, wv_kF, wv_kD]) hl.1 dX1_isPatternRight_127 (fun x127 w127 H locs cells slots S hv => ?_) (wq_kx X rfl)
  refine lv_goto (tgt := 149) X.hx X.hb dX1_isPatternRight_130 (by decide) ?_
  exact wr_iret X S hv.1 hv.2 dX1_isPatternRight_149
set_option maxHeartbeats 4000000 in
theorem wk_X1_isPatternRight_0 {G : wv_G} {p : Program} {e : Env} {R : Room} {s : State} {m : MethodId} {args : Array Value} {below : List Frame} {meth : Method} {c : Code} {fr : Nat} {P : wv_R → wv_H → Prop} (X : wv_ok G p R s m args meth c fr "Weaversgate" cX1_isPatternRight 2 (Option.some Jvm.ClassFile.FieldType.boolean) "isPatternRight" []) {v0 : Int32} {v1 : Int32} {w : wv_W} (hv : vc_X1_isPatternRight_0 G fr P v0 v1 w) : wv_J G p e R s m args below meth c 2 P w 0 [(0, .int v0), (1, .int v1)] [] := by
  intro H locs cells slots ls S hl
  unfold vc_X1_isPatternRight_0 at hv
  refine lv_iload_n X.hx X.hb dX1_isPatternRight_0 rfl (lv_at hl 0 rfl) ?_
  by_cases h1_0 : v0 = (33 : Int32)
  · have hv := hv.1 h1_0
    refine lv_lookup (tgt := 144) (off := 143) X.hx X.hb dX1_isPatternRight_1 (by decide) (by rw [h1_0] <;> rfl) (by decide) ?_
    refine lv_iconst (v := (1 : Int32)) X.hx X.hb dX1_isPatternRight_144 (by decide) ?_
    refine lv_goto (tgt := 149) X.hx X.hb dX1_isPatternRight_145 (by decide) ?_
    exact wr_iret X S hv.1 hv.2 dX1_isPatternRight_149
  · have hv := hv.2 h1_0
    by_cases h1_1 : v0 = (38 : Int32)
    · have hv := hv.1 h1_1
      refine lv_lookup (tgt := 144) (off := 143) X.hx X.hb dX1_isPatternRight_1 (by decide) (by rw [h1_1] <;> rfl) (by decide) ?_
      refine lv_iconst (v := (1 : Int32)) X.hx X.hb dX1_isPatternRight_144 (by decide) ?_
      refine lv_goto (tgt := 149) X.hx X.hb dX1_isPatternRight_145 (by decide) ?_
      exact wr_iret X S hv.1 hv.2 dX1_isPatternRight_149
    · have hv := hv.2 h1_1
      by_cases h1_2 : v0 = (99 : Int32)
      · have hv := hv.1 h1_2
        refine lv_lookup (tgt := 144) (off := 143) X.hx X.hb dX1_isPatternRight_1 (by decide) (by rw [h1_2] <;> rfl) (by decide) ?_
        refine lv_iconst (v := (1 : Int32)) X.hx X.hb dX1_isPatternRight_144 (by decide) ?_
        refine lv_goto (tgt := 149) X.hx X.hb dX1_isPatternRight_145 (by decide) ?_
        exact wr_iret X S hv.1 hv.2 dX1_isPatternRight_149
      · have hv := hv.2 h1_2
        by_cases h1_3 : v0 = (101 : Int32)
        · have hv := hv.1 h1_3
          refine lv_lookup (tgt := 144) (off := 143) X.hx X.hb dX1_isPatternRight_1 (by decide) (by rw [h1_3] <;> rfl) (by decide) ?_
          refine lv_iconst (v := (1 : Int32)) X.hx X.hb dX1_isPatternRight_144 (by decide) ?_
          refine lv_goto (tgt := 149) X.hx X.hb dX1_isPatternRight_145 (by decide) ?_
          exact wr_iret X S hv.1 hv.2 dX1_isPatternRight_149
        · have hv := hv.2 h1_3
          by_cases h1_4 : v0 = (102 : Int32)
          · have hv := hv.1 h1_4
            refine lv_lookup (tgt := 144) (off := 143) X.hx X.hb dX1_isPatternRight_1 (by decide) (by rw [h1_4] <;> rfl) (by decide) ?_
            refine lv_iconst (v := (1 : Int32)) X.hx X.hb dX1_isPatternRight_144 (by decide) ?_
            refine lv_goto (tgt := 149) X.hx X.hb dX1_isPatternRight_145 (by decide) ?_
            exact wr_iret X S hv.1 hv.2 dX1_isPatternRight_149
          · have hv := hv.2 h1_4
            by_cases h1_5 : v0 = (103 : Int32)
            · have hv := hv.1 h1_5
              refine lv_lookup (tgt := 144) (off := 143) X.hx X.hb dX1_isPatternRight_1 (by decide) (by rw [h1_5] <;> rfl) (by decide) ?_
              refine lv_iconst (v := (1 : Int32)) X.hx X.hb dX1_isPatternRight_144 (by decide) ?_
              refine lv_goto (tgt := 149) X.hx X.hb dX1_isPatternRight_145 (by decide) ?_
              exact wr_iret X S hv.1 hv.2 dX1_isPatternRight_149
            · have hv := hv.2 h1_5
              by_cases h1_6 : v0 = (104 : Int32)
              · have hv := hv.1 h1_6
                refine lv_lookup (tgt := 144) (off := 143) X.hx X.hb dX1_isPatternRight_1 (by decide) (by rw [h1_6] <;> rfl) (by decide) ?_
                refine lv_iconst (v := (1 : Int32)) X.hx X.hb dX1_isPatternRight_144 (by decide) ?_
                refine lv_goto (tgt := 149) X.hx X.hb dX1_isPatternRight_145 (by decide) ?_
                exact wr_iret X S hv.1 hv.2 dX1_isPatternRight_149
              · have hv := hv.2 h1_6
                by_cases h1_7 : v0 = (109 : Int32)
                · have hv := hv.1 h1_7
                  refine lv_lookup (tgt := 144) (off := 143) X.hx X.hb dX1_isPatternRight_1 (by decide) (by rw [h1_7] <;> rfl) (by decide) ?_
                  refine lv_iconst (v := (1 : Int32)) X.hx X.hb dX1_isPatternRight_144 (by decide) ?_
                  refine lv_goto (tgt := 149) X.hx X.hb dX1_isPatternRight_145 (by decide) ?_
                  exact wr_iret X S hv.1 hv.2 dX1_isPatternRight_149
                · have hv := hv.2 h1_7
                  by_cases h1_8 : v0 = (110 : Int32)
                  · have hv := hv.1 h1_8
                    refine lv_lookup (tgt := 124) (off := 123) X.hx X.hb dX1_isPatternRight_1 (by decide) (by rw [h1_8] <;> rfl) (by decide) ?_
                    exact wk_X1_isPatternRight_124 X  hv H locs cells slots ls S (lv_sub hl [1] rfl)
                  · have hv := hv.2 h1_8
                    by_cases h1_9 : v0 = (115 : Int32)
                    · have hv := hv.1 h1_9
                      refine lv_lookup (tgt := 144) (off := 143) X.hx X.hb dX1_isPatternRight_1 (by decide) (by rw [h1_9] <;> rfl) (by decide) ?_
                      refine lv_iconst (v := (1 : Int32)) X.hx X.hb dX1_isPatternRight_144 (by decide) ?_
                      refine lv_goto (tgt := 149) X.hx X.hb dX1_isPatternRight_145 (by decide) ?_
                      exact wr_iret X S hv.1 hv.2 dX1_isPatternRight_149
                    · have hv := hv.2 h1_9
                      by_cases h1_10 : v0 = (116 : Int32)
                      · have hv := hv.1 h1_10
                        refine lv_lookup (tgt := 124) (off := 123) X.hx X.hb dX1_isPatternRight_1 (by decide) (by rw [h1_10] <;> rfl) (by decide) ?_
                        exact wk_X1_isPatternRight_124 X  hv H locs cells slots ls S (lv_sub hl [1] rfl)
                      · have hv := hv.2 h1_10
                        by_cases h1_11 : v0 = (118 : Int32)
                        · have hv := hv.1 h1_11
                          refine lv_lookup (tgt := 133) (off := 132) X.hx X.hb dX1_isPatternRight_1 (by decide) (by rw [h1_11] <;> rfl) (by decide) ?_
                          refine lv_iload_n X.hx X.hb dX1_isPatternRight_133 rfl (lv_at hl 1 rfl) ?_
                          refine lv_bipush (v := (-99 : Int32)) X.hx X.hb dX1_isPatternRight_134 (by decide) ?_
                          refine lv_bipush (v := (99 : Int32)) X.hx X.hb dX1_isPatternRight_136 (by decide) ?_
                          refine wq_cS_I X S hv q1243 q1244 q60 ⟨by decide +kernel, by decide +kernel⟩ (nA := 3) (As := [.int v1, .int (-99 : Int32), .int (99 : Int32)]) (by decide +kernel) rfl rfl (by simp [wv_rfc, wv_kI, wv_kJ, wv_kF, wv_kD]) hl.1 dX1_isPatternRight_138 (fun x138 w138 H locs cells slots S hv => ?_) (wq_kx X rfl)
                          refine lv_goto (tgt := 149) X.hx X.hb dX1_isPatternRight_141 (by decide) ?_
                          exact wr_iret X S hv.1 hv.2 dX1_isPatternRight_149
                        · have hv := hv.2 h1_11
                          by_cases h1_12 : v0 = (119 : Int32)
                          · have hv := hv.1 h1_12
                            refine lv_lookup (tgt := 124) (off := 123) X.hx X.hb dX1_isPatternRight_1 (by decide) (by rw [h1_12] <;> rfl) (by decide) ?_
                            exact wk_X1_isPatternRight_124 X  hv H locs cells slots ls S (lv_sub hl [1] rfl)
                          · have hv := hv.2 h1_12
                            by_cases h1_13 : v0 = (124 : Int32)
                            · have hv := hv.1 h1_13
                              refine lv_lookup (tgt := 144) (off := 143) X.hx X.hb dX1_isPatternRight_1 (by decide) (by rw [h1_13] <;> rfl) (by decide) ?_
                              refine lv_iconst (v := (1 : Int32)) X.hx X.hb dX1_isPatternRight_144 (by decide) ?_
                              refine lv_goto (tgt := 149) X.hx X.hb dX1_isPatternRight_145 (by decide) ?_
                              exact wr_iret X S hv.1 hv.2 dX1_isPatternRight_149
                            · have hv := hv.2 h1_13
                              refine lv_lookup (tgt := 148) (off := 147) X.hx X.hb dX1_isPatternRight_1 (by decide) (by rw [lv_osw h1_0 (by decide), lv_osw h1_1 (by decide), lv_osw h1_2 (by decide), lv_osw h1_3 (by decide), lv_osw h1_4 (by decide), lv_osw h1_5 (by decide), lv_osw h1_6 (by decide), lv_osw h1_7 (by decide), lv_osw h1_8 (by decide), lv_osw h1_9 (by decide), lv_osw h1_10 (by decide), lv_osw h1_11 (by decide), lv_osw h1_12 (by decide), lv_osw h1_13 (by decide)] <;> rfl) (by decide) ?_
                              refine lv_iconst (v := (0 : Int32)) X.hx X.hb dX1_isPatternRight_148 (by decide) ?_
                              exact wr_iret X S hv.1 hv.2 dX1_isPatternRight_149
theorem wk_X1_isPatternRight {G : wv_G} (hG : wv_G0 G) {v0 : Int32} {v1 : Int32} {h : wv_H} {fr kc ks : Nat} {P : wv_R → wv_H → Prop} (hv : vc_X1_isPatternRight_0 G fr P v0 v1 (h, kc, ks)) : wv_C G yX1_isPatternRight [.int v0, .int v1] h fr kc ks P := by
  refine wv_enter (lv := [(0, .int v0), (1, .int v1)]) hG (by decide +kernel) q1383 (by decide) (by simp [lg_sl, wv_rfc, wv_kI, wv_kJ, wv_kF, wv_kD]) (by simp [lv_args, wv_rfc, wv_kI, wv_kJ, wv_kF, wv_kD]) ?_
  intro p e R s m args below meth c X H locs cells slots ls S hl
  exact wk_X1_isPatternRight_0 X hv H locs cells slots ls S (lv_sub hl [0, 1] rfl)

def vc_X1_isRing_0 (G : wv_G) (fr : Nat) (P : wv_R → wv_H → Prop) (v0 : Option Nat) (w : wv_W) : Prop :=
  wv_cV G fr yX1_hasRing v0 [] w (wv_rI (fun x1 w1 => narrow .boolean (.int x1) = .int x1 ∧ P (.inl (some (.int x1))) w1.1) (wv_pr P))
set_option maxHeartbeats 4000000 in
theorem wk_X1_isRing_0 {G : wv_G} {p : Program} {e : Env} {R : Room} {s : State} {m : MethodId} {args : Array Value} {below : List Frame} {meth : Method} {c : Code} {fr : Nat} {P : wv_R → wv_H → Prop} (X : wv_ok G p R s m args meth c fr "Weaversgate" cX1_isRing 1 (Option.some Jvm.ClassFile.FieldType.boolean) "isRing" []) {v0 : Option Nat} {w : wv_W} (hv : vc_X1_isRing_0 G fr P v0 w) : wv_J G p e R s m args below meth c 1 P w 0 [(0, va_rf v0)] [] := by
  intro H locs cells slots ls S hl
  unfold vc_X1_isRing_0 at hv
  refine wq_aload_n X dX1_isRing_0 rfl (lv_at hl 0 rfl) ?_
  refine wq_cV_I X S hv q253 q255 qs0 q60 ⟨by decide +kernel, by decide +kernel⟩ (nA := 0) (As := []) (by decide +kernel) rfl rfl (by simp [wv_rfc, wv_kI, wv_kJ, wv_kF, wv_kD]) hl.1 dX1_isRing_1 (fun x1 w1 H locs cells slots S hv => ?_) (wq_kx X rfl)
  exact wr_iret X S hv.1 hv.2 dX1_isRing_4
theorem wk_X1_isRing {G : wv_G} (hG : wv_G0 G) {v0 : Option Nat} {h : wv_H} {fr kc ks : Nat} {P : wv_R → wv_H → Prop} (hv : vc_X1_isRing_0 G fr P v0 (h, kc, ks)) : wv_C G yX1_isRing [va_rf v0] h fr kc ks P := by
  refine wv_enter (lv := [(0, va_rf v0)]) hG (by decide +kernel) q252 (by decide) (by simp [lg_sl, wv_rfc, wv_kI, wv_kJ, wv_kF, wv_kD]) (by simp [lv_args, wv_rfc, wv_kI, wv_kJ, wv_kF, wv_kD]) ?_
  intro p e R s m args below meth c X H locs cells slots ls S hl
  exact wk_X1_isRing_0 X hv H locs cells slots ls S (lv_sub hl [0] rfl)

def vc_X1_isSound_37 (G : wv_G) (fr : Nat) (P : wv_R → wv_H → Prop) (v0 : Option Nat) (v1 : Int32) (w : wv_W) : Prop :=
  wv_gA w v0 ciX1 0 (fun x39 => wv_cV G fr yJ2_size x39 [] w (wv_rI (fun x42 w42 => (v1 = x42 → narrow .boolean (.int (1 : Int32)) = .int (1 : Int32) ∧ P (.inl (some (.int (1 : Int32)))) w42.1) ∧ (¬ v1 = x42 → wv_cV G fr yX1_hasRing v0 [] w42 (wv_rI (fun x49 w49 => (x49 = 0 → wv_gA w49 v0 ciX1 5 (fun x58 => wv_gA w49 v0 ciX1 0 (fun x62 => wv_cV G fr yJ2_get x62 [.int v1] w49 (wv_rA (fun x66 w66 => wv_cc G w66 x66 "Weaversgate$Type" (wv_cV G fr yX2_begin x58 [va_rf x66, .int (0 : Int32), .int (0 : Int32), .int (1 : Int32)] w66 (wv_rV (fun w75 => wv_gA w75 v0 ciX1 6 (fun x79 => wv_gA w75 v0 ciX1 0 (fun x83 => wv_cV G fr yJ2_get x83 [.int v1] w75 (wv_rA (fun x87 w87 => wv_cc G w87 x87 "Weaversgate$Type" (wv_cV G fr yX2_begin x79 [va_rf x87, .int (0 : Int32), .int (0 : Int32), .int (0 : Int32)] w87 (wv_rV (fun w96 => wv_gA w96 v0 ciX1 5 (fun x100 => wv_gI w96 x100 ciX2 2 (fun x103 => wv_gA w96 v0 ciX1 6 (fun x107 => wv_gI w96 x107 ciX2 2 (fun x110 => (¬ x103 = x110 → narrow .boolean (.int (0 : Int32)) = .int (0 : Int32) ∧ P (.inl (some (.int (0 : Int32)))) w96.1) ∧ (x103 = x110 → wv_gA w96 v0 ciX1 5 (fun x117 => wv_gI w96 x117 ciX2 3 (fun x120 => wv_gA w96 v0 ciX1 6 (fun x124 => wv_gI w96 x124 ciX2 3 (fun x127 => (¬ x120 = x127 → narrow .boolean (.int (0 : Int32)) = .int (0 : Int32) ∧ P (.inl (some (.int (0 : Int32)))) w96.1) ∧ (x120 = x127 → wv_gA w96 v0 ciX1 5 (fun x134 => wv_gA w96 x134 ciX2 0 (fun x137 => wv_gA w96 v0 ciX1 6 (fun x141 => wv_gA w96 x141 ciX2 0 (fun x144 => wv_cV G fr yX3_isLike x137 [va_rf x144] w96 (wv_rI (fun x147 w147 => (x147 = 0 → narrow .boolean (.int (0 : Int32)) = .int (0 : Int32) ∧ P (.inl (some (.int (0 : Int32)))) w147.1) ∧ (¬ x147 = 0 → narrow .boolean (.int (1 : Int32)) = .int (1 : Int32) ∧ P (.inl (some (.int (1 : Int32)))) w147.1)) (wv_pr P))))))))))))))))) (wv_pr P)))) (wv_pr P))))) (wv_pr P)))) (wv_pr P))))) ∧ (¬ x49 = 0 → narrow .boolean (.int (1 : Int32)) = .int (1 : Int32) ∧ P (.inl (some (.int (1 : Int32)))) w49.1)) (wv_pr P)))) (wv_pr P)))
def vc_X1_isSound_2 (G : wv_G) (fr : Nat) (P : wv_R → wv_H → Prop) (K2 : ((Option Nat) × Int32) → wv_W → Prop) (v0 : Option Nat) (v1 : Int32) (w : wv_W) : Prop :=
  wv_gA w v0 ciX1 0 (fun x4 => wv_cV G fr yJ2_size x4 [] w (wv_rI (fun x7 w7 => (x7 ≤ v1 → vc_X1_isSound_37 G fr P v0 v1 w7) ∧ (¬ x7 ≤ v1 → wv_gA w7 v0 ciX1 0 (fun x14 => wv_cV G fr yJ2_get x14 [.int v1] w7 (wv_rA (fun x18 w18 => wv_cc G w18 x18 "Weaversgate$Type" (wv_cV G fr yX6_hasBody x18 [.int (0 : Int32)] w18 (wv_rI (fun x25 w25 => (¬ x25 = 0 → vc_X1_isSound_37 G fr P v0 v1 w25) ∧ (x25 = 0 → K2 (v0, (v1 + (1 : Int32))) w25)) (wv_pr P)))) (wv_pr P))))) (wv_pr P)))
def vc_X1_isSound_0 (G : wv_G) (fr : Nat) (P : wv_R → wv_H → Prop) (v0 : Option Nat) (w : wv_W) : Prop :=
  wv_L (fun K2 a w => vc_X1_isSound_2 G fr P K2 a.1 a.2 w) (v0, (0 : Int32)) w
set_option maxHeartbeats 4000000 in
theorem wk_X1_isSound_37 {G : wv_G} {p : Program} {e : Env} {R : Room} {s : State} {m : MethodId} {args : Array Value} {below : List Frame} {meth : Method} {c : Code} {fr : Nat} {P : wv_R → wv_H → Prop} (X : wv_ok G p R s m args meth c fr "Weaversgate" cX1_isSound 2 (Option.some Jvm.ClassFile.FieldType.boolean) "isSound" []) {v0 : Option Nat} {v1 : Int32} {w : wv_W} (hv : vc_X1_isSound_37 G fr P v0 v1 w) : wv_J G p e R s m args below meth c 2 P w 37 [(0, va_rf v0), (1, .int v1)] [] := by
  intro H locs cells slots ls S hl
  unfold vc_X1_isSound_37 at hv
  refine lv_iload_n X.hx X.hb dX1_isSound_37 rfl (lv_at hl 1 rfl) ?_
  refine wq_aload_n X dX1_isSound_38 rfl (lv_at hl 0 rfl) ?_
  refine wq_gA X S hv ccX1 in_X1 (k := 0) (by decide) q225 dX1_isSound_39 (fun x39 hv => ?_)
  refine wq_cV_I X S hv q269 q270 q271 q63 ⟨by decide +kernel, by decide +kernel⟩ (nA := 0) (As := []) (by decide +kernel) rfl rfl (by simp [wv_rfc, wv_kI, wv_kJ, wv_kF, wv_kD]) hl.1 dX1_isSound_42 (fun x42 w42 H locs cells slots S hv => ?_) (wq_kx X rfl)
  refine lv_icmp_eq (tgt := 55) X.hx X.hb dX1_isSound_45 (by decide) (fun c45 => ?_) (fun c45 => ?_)
  · have hv := hv.1 c45
    refine lv_iconst (v := (1 : Int32)) X.hx X.hb dX1_isSound_55 (by decide) ?_
    exact wr_iret X S hv.1 hv.2 dX1_isSound_56
  · have hv := hv.2 c45
    refine wq_aload_n X dX1_isSound_48 rfl (lv_at hl 0 rfl) ?_
    refine wq_cV_I X S hv q253 q255 qs0 q60 ⟨by decide +kernel, by decide +kernel⟩ (nA := 0) (As := []) (by decide +kernel) rfl rfl (by simp [wv_rfc, wv_kI, wv_kJ, wv_kF, wv_kD]) hl.1 dX1_isSound_49 (fun x49 w49 H locs cells slots S hv => ?_) (wq_kx X rfl)
    refine lv_if_eq (tgt := 57) X.hx X.hb dX1_isSound_52 (by decide) (fun c52 => ?_) (fun c52 => ?_)
    · have hv := hv.1 c52
      refine wq_aload_n X dX1_isSound_57 rfl (lv_at hl 0 rfl) ?_
      refine wq_gA X S hv ccX1 in_X1 (k := 5) (by decide) q232 dX1_isSound_58 (fun x58 hv => ?_)
      refine wq_aload_n X dX1_isSound_61 rfl (lv_at hl 0 rfl) ?_
      refine wq_gA X S hv ccX1 in_X1 (k := 0) (by decide) q225 dX1_isSound_62 (fun x62 hv => ?_)
      refine lv_iload_n X.hx X.hb dX1_isSound_65 rfl (lv_at hl 1 rfl) ?_
      refine wq_cV_A X S hv q273 q274 q275 q63 ⟨by decide +kernel, by decide +kernel⟩ (nA := 1) (As := [.int v1]) (by decide +kernel) rfl rfl (by simp [wv_rfc, wv_kI, wv_kJ, wv_kF, wv_kD]) hl.1 dX1_isSound_66 (fun x66 w66 H locs cells slots S hv => ?_) (wq_kx X rfl)
      refine wq_cc X S hv q287 dX1_isSound_69 (fun hv => ?_)
      refine lv_iconst (v := (0 : Int32)) X.hx X.hb dX1_isSound_72 (by decide) ?_
      refine lv_iconst (v := (0 : Int32)) X.hx X.hb dX1_isSound_73 (by decide) ?_
      refine lv_iconst (v := (1 : Int32)) X.hx X.hb dX1_isSound_74 (by decide) ?_
      refine wq_cV_V X S hv q939 q940 q941 q64 ⟨by decide +kernel, by decide +kernel⟩ (nA := 4) (As := [va_rf x66, .int (0 : Int32), .int (0 : Int32), .int (1 : Int32)]) (by decide +kernel) rfl rfl (by simp [wv_rfc, wv_kI, wv_kJ, wv_kF, wv_kD]) hl.1 dX1_isSound_75 (fun w75 H locs cells slots S hv => ?_) (wq_kx X rfl)
      refine wq_aload_n X dX1_isSound_78 rfl (lv_at hl 0 rfl) ?_
      refine wq_gA X S hv ccX1 in_X1 (k := 6) (by decide) q233 dX1_isSound_79 (fun x79 hv => ?_)
      refine wq_aload_n X dX1_isSound_82 rfl (lv_at hl 0 rfl) ?_
      refine wq_gA X S hv ccX1 in_X1 (k := 0) (by decide) q225 dX1_isSound_83 (fun x83 hv => ?_)
      refine lv_iload_n X.hx X.hb dX1_isSound_86 rfl (lv_at hl 1 rfl) ?_
      refine wq_cV_A X S hv q273 q274 q275 q63 ⟨by decide +kernel, by decide +kernel⟩ (nA := 1) (As := [.int v1]) (by decide +kernel) rfl rfl (by simp [wv_rfc, wv_kI, wv_kJ, wv_kF, wv_kD]) hl.1 dX1_isSound_87 (fun x87 w87 H locs cells slots S hv => ?_) (wq_kx X rfl)
      refine wq_cc X S hv q287 dX1_isSound_90 (fun hv => ?_)
      refine lv_iconst (v := (0 : Int32)) X.hx X.hb dX1_isSound_93 (by decide) ?_
      refine lv_iconst (v := (0 : Int32)) X.hx X.hb dX1_isSound_94 (by decide) ?_
      refine lv_iconst (v := (0 : Int32)) X.hx X.hb dX1_isSound_95 (by decide) ?_
      refine wq_cV_V X S hv q939 q940 q941 q64 ⟨by decide +kernel, by decide +kernel⟩ (nA := 4) (As := [va_rf x87, .int (0 : Int32), .int (0 : Int32), .int (0 : Int32)]) (by decide +kernel) rfl rfl (by simp [wv_rfc, wv_kI, wv_kJ, wv_kF, wv_kD]) hl.1 dX1_isSound_96 (fun w96 H locs cells slots S hv => ?_) (wq_kx X rfl)
      refine wq_aload_n X dX1_isSound_99 rfl (lv_at hl 0 rfl) ?_
      refine wq_gA X S hv ccX1 in_X1 (k := 5) (by decide) q232 dX1_isSound_100 (fun x100 hv => ?_)
      refine wq_gIN X S hv ccX2 in_X2 (k := 2) (by decide) q195 dX1_isSound_103 (fun x103 hv => ?_)
      refine wq_aload_n X dX1_isSound_106 rfl (lv_at hl 0 rfl) ?_
      refine wq_gA X S hv ccX1 in_X1 (k := 6) (by decide) q233 dX1_isSound_107 (fun x107 hv => ?_)
      refine wq_gIN X S hv ccX2 in_X2 (k := 2) (by decide) q195 dX1_isSound_110 (fun x110 hv => ?_)
      refine lv_icmp_ne (tgt := 157) X.hx X.hb dX1_isSound_113 (by decide) (fun c113 => ?_) (fun c113 => ?_)
      · have hv := hv.1 c113
        refine lv_iconst (v := (0 : Int32)) X.hx X.hb dX1_isSound_157 (by decide) ?_
        exact wr_iret X S hv.1 hv.2 dX1_isSound_158
      · have hv := hv.2 c113
        refine wq_aload_n X dX1_isSound_116 rfl (lv_at hl 0 rfl) ?_
        refine wq_gA X S hv ccX1 in_X1 (k := 5) (by decide) q232 dX1_isSound_117 (fun x117 hv => ?_)
        refine wq_gIN X S hv ccX2 in_X2 (k := 3) (by decide) q197 dX1_isSound_120 (fun x120 hv => ?_)
        refine wq_aload_n X dX1_isSound_123 rfl (lv_at hl 0 rfl) ?_
        refine wq_gA X S hv ccX1 in_X1 (k := 6) (by decide) q233 dX1_isSound_124 (fun x124 hv => ?_)
        refine wq_gIN X S hv ccX2 in_X2 (k := 3) (by decide) q197 dX1_isSound_127 (fun x127 hv => ?_)
        refine lv_icmp_ne (tgt := 157) X.hx X.hb dX1_isSound_130 (by decide) (fun c130 => ?_) (fun c130 => ?_)
        · have hv := hv.1 c130
          refine lv_iconst (v := (0 : Int32)) X.hx X.hb dX1_isSound_157 (by decide) ?_
          exact wr_iret X S hv.1 hv.2 dX1_isSound_158
        · have hv := hv.2 c130
          refine wq_aload_n X dX1_isSound_133 rfl (lv_at hl 0 rfl) ?_
          refine wq_gA X S hv ccX1 in_X1 (k := 5) (by decide) q232 dX1_isSound_134 (fun x134 hv => ?_)
          refine wq_gAN X S hv ccX2 in_X2 (k := 0) (by decide) q192 dX1_isSound_137 (fun x137 hv => ?_)
          refine wq_aload_n X dX1_isSound_140 rfl (lv_at hl 0 rfl) ?_
          refine wq_gA X S hv ccX1 in_X1 (k := 6) (by decide) q233 dX1_isSound_141 (fun x141 hv => ?_)
          refine wq_gAN X S hv ccX2 in_X2 (k := 0) (by decide) q192 dX1_isSound_144 (fun x144 hv => ?_)
          refine wq_cV_I X S hv q1208 q1209 q1210 q65 ⟨by decide +kernel, by decide +kernel⟩ (nA := 1) (As := [va_rf x144]) (by decide +kernel) rfl rfl (by simp [wv_rfc, wv_kI, wv_kJ, wv_kF, wv_kD]) hl.1 dX1_isSound_147 (fun x147 w147 H locs cells slots S hv => ?_) (wq_kx X rfl)
          refine lv_if_eq (tgt := 157) X.hx X.hb dX1_isSound_150 (by decide) (fun c150 => ?_) (fun c150 => ?_)
          · have hv := hv.1 c150
            refine lv_iconst (v := (0 : Int32)) X.hx X.hb dX1_isSound_157 (by decide) ?_
            exact wr_iret X S hv.1 hv.2 dX1_isSound_158
          · have hv := hv.2 c150
            refine lv_iconst (v := (1 : Int32)) X.hx X.hb dX1_isSound_153 (by decide) ?_
            refine lv_goto (tgt := 158) X.hx X.hb dX1_isSound_154 (by decide) ?_
            exact wr_iret X S hv.1 hv.2 dX1_isSound_158
    · have hv := hv.2 c52
      refine lv_iconst (v := (1 : Int32)) X.hx X.hb dX1_isSound_55 (by decide) ?_
      exact wr_iret X S hv.1 hv.2 dX1_isSound_56
set_option maxHeartbeats 4000000 in
theorem wk_X1_isSound_2 {G : wv_G} {p : Program} {e : Env} {R : Room} {s : State} {m : MethodId} {args : Array Value} {below : List Frame} {meth : Method} {c : Code} {fr : Nat} {P : wv_R → wv_H → Prop} (X : wv_ok G p R s m args meth c fr "Weaversgate" cX1_isSound 2 (Option.some Jvm.ClassFile.FieldType.boolean) "isSound" []) {K2 : ((Option Nat) × Int32) → wv_W → Prop} (hK2 : ∀ a w, K2 a w → wv_J G p e R s m args below meth c 2 P w 2 [(0, va_rf a.1), (1, .int a.2)] []) {v0 : Option Nat} {v1 : Int32} {w : wv_W} (hv : vc_X1_isSound_2 G fr P K2 v0 v1 w) : wv_J G p e R s m args below meth c 2 P w 2 [(0, va_rf v0), (1, .int v1)] [] := by
  intro H locs cells slots ls S hl
  unfold vc_X1_isSound_2 at hv
  refine lv_iload_n X.hx X.hb dX1_isSound_2 rfl (lv_at hl 1 rfl) ?_
  refine wq_aload_n X dX1_isSound_3 rfl (lv_at hl 0 rfl) ?_
  refine wq_gA X S hv ccX1 in_X1 (k := 0) (by decide) q225 dX1_isSound_4 (fun x4 hv => ?_)
  refine wq_cV_I X S hv q269 q270 q271 q63 ⟨by decide +kernel, by decide +kernel⟩ (nA := 0) (As := []) (by decide +kernel) rfl rfl (by simp [wv_rfc, wv_kI, wv_kJ, wv_kF, wv_kD]) hl.1 dX1_isSound_7 (fun x7 w7 H locs cells slots S hv => ?_) (wq_kx X rfl)
  refine lv_icmp_ge (tgt := 37) X.hx X.hb dX1_isSound_10 (by decide) (fun c10 => ?_) (fun c10 => ?_)
  · have hv := hv.1 c10
    exact wk_X1_isSound_37 X  hv H locs cells slots ls S (lv_sub hl [0, 1] rfl)
  · have hv := hv.2 c10
    refine wq_aload_n X dX1_isSound_13 rfl (lv_at hl 0 rfl) ?_
    refine wq_gA X S hv ccX1 in_X1 (k := 0) (by decide) q225 dX1_isSound_14 (fun x14 hv => ?_)
    refine lv_iload_n X.hx X.hb dX1_isSound_17 rfl (lv_at hl 1 rfl) ?_
    refine wq_cV_A X S hv q273 q274 q275 q63 ⟨by decide +kernel, by decide +kernel⟩ (nA := 1) (As := [.int v1]) (by decide +kernel) rfl rfl (by simp [wv_rfc, wv_kI, wv_kJ, wv_kF, wv_kD]) hl.1 dX1_isSound_18 (fun x18 w18 H locs cells slots S hv => ?_) (wq_kx X rfl)
    refine wq_cc X S hv q287 dX1_isSound_21 (fun hv => ?_)
    refine lv_iconst (v := (0 : Int32)) X.hx X.hb dX1_isSound_24 (by decide) ?_
    refine wq_cV_I X S hv q292 q293 q294 q77 ⟨by decide +kernel, by decide +kernel⟩ (nA := 1) (As := [.int (0 : Int32)]) (by decide +kernel) rfl rfl (by simp [wv_rfc, wv_kI, wv_kJ, wv_kF, wv_kD]) hl.1 dX1_isSound_25 (fun x25 w25 H locs cells slots S hv => ?_) (wq_kx X rfl)
    refine lv_if_ne (tgt := 37) X.hx X.hb dX1_isSound_28 (by decide) (fun c28 => ?_) (fun c28 => ?_)
    · have hv := hv.1 c28
      exact wk_X1_isSound_37 X  hv H locs cells slots ls S (lv_sub hl [0, 1] rfl)
    · have hv := hv.2 c28
      refine lv_iinc (v := (v1 + (1 : Int32))) (lv' := [(1, .int (v1 + (1 : Int32))), (0, va_rf v0)]) X.hx X.hb dX1_isSound_31 hl (k := 1) rfl (by rfl) (by decide) (by simp [wv_rfc, wv_kI, wv_kJ, wv_kF, wv_kD]) (fun ls hl => ?_)
      refine lv_goto (tgt := 2) X.hx X.hb dX1_isSound_34 (by decide) ?_
      exact hK2 _ _ hv H locs cells slots ls S (lv_sub hl [1, 0] rfl)
set_option maxHeartbeats 4000000 in
theorem wk_X1_isSound_0 {G : wv_G} {p : Program} {e : Env} {R : Room} {s : State} {m : MethodId} {args : Array Value} {below : List Frame} {meth : Method} {c : Code} {fr : Nat} {P : wv_R → wv_H → Prop} (X : wv_ok G p R s m args meth c fr "Weaversgate" cX1_isSound 2 (Option.some Jvm.ClassFile.FieldType.boolean) "isSound" []) {v0 : Option Nat} {w : wv_W} (hv : vc_X1_isSound_0 G fr P v0 w) : wv_J G p e R s m args below meth c 2 P w 0 [(0, va_rf v0)] [] := by
  intro H locs cells slots ls S hl
  unfold vc_X1_isSound_0 at hv
  refine lv_iconst (v := (0 : Int32)) X.hx X.hb dX1_isSound_0 (by decide) ?_
  refine lv_istore_n X.hx X.hb (i := 1) (lv' := [(1, .int (0 : Int32)), (0, va_rf v0)]) dX1_isSound_1 rfl hl (by decide) (by simp [wv_rfc, wv_kI, wv_kJ, wv_kF, wv_kD]) (fun ls hl => ?_)
  exact wv_loop (A := (Option Nat) × Int32) (fun a w => wv_J G p e R s m args below meth c 2 P w 2 [(0, va_rf a.1), (1, .int a.2)] []) (fun K2 hK2 a w hv => wk_X1_isSound_2 X hK2 hv) hv H locs cells slots ls S (lv_sub hl [1, 0] rfl)
theorem wk_X1_isSound {G : wv_G} (hG : wv_G0 G) {v0 : Option Nat} {h : wv_H} {fr kc ks : Nat} {P : wv_R → wv_H → Prop} (hv : vc_X1_isSound_0 G fr P v0 (h, kc, ks)) : wv_C G yX1_isSound [va_rf v0] h fr kc ks P := by
  refine wv_enter (lv := [(0, va_rf v0)]) hG (by decide +kernel) q938 (by decide) (by simp [lg_sl, wv_rfc, wv_kI, wv_kJ, wv_kF, wv_kD]) (by simp [lv_args, wv_rfc, wv_kI, wv_kJ, wv_kF, wv_kD]) ?_
  intro p e R s m args below meth c X H locs cells slots ls S hl
  exact wk_X1_isSound_0 X hv H locs cells slots ls S (lv_sub hl [0] rfl)

def vc_X1_isStepRight_142 (G : wv_G) (fr : Nat) (P : wv_R → wv_H → Prop) (v2 : Int32) (w : wv_W) : Prop :=
  wv_c0 G fr yX1_inRange [.int v2, .int (0 : Int32), .int (3 : Int32)] w (wv_rI (fun x145 w145 => narrow .boolean (.int x145) = .int x145 ∧ P (.inl (some (.int x145))) w145.1) (wv_pr P))
def vc_X1_isStepRight_0 (G : wv_G) (fr : Nat) (P : wv_R → wv_H → Prop) (v0 : Option Nat) (v1 : Int32) (v2 : Int32) (v3 : Int32) (w : wv_W) : Prop :=
  (v1 = (99 : Int32) → wv_c0 G fr yX1_inRange [.int v2, .int (0 : Int32), .int (5 : Int32)] w (wv_rI (fun x102 w102 => narrow .boolean (.int x102) = .int x102 ∧ P (.inl (some (.int x102))) w102.1) (wv_pr P))) ∧ (¬ v1 = (99 : Int32) → (v1 = (100 : Int32) → narrow .boolean (.int (0 : Int32)) = .int (0 : Int32) ∧ P (.inl (some (.int (0 : Int32)))) w.1) ∧ (¬ v1 = (100 : Int32) → (v1 = (101 : Int32) → narrow .boolean (.int (0 : Int32)) = .int (0 : Int32) ∧ P (.inl (some (.int (0 : Int32)))) w.1) ∧ (¬ v1 = (101 : Int32) → (v1 = (102 : Int32) → narrow .boolean (.int (0 : Int32)) = .int (0 : Int32) ∧ P (.inl (some (.int (0 : Int32)))) w.1) ∧ (¬ v1 = (102 : Int32) → (v1 = (103 : Int32) → vc_X1_isStepRight_142 G fr P v2 w) ∧ (¬ v1 = (103 : Int32) → (v1 = (104 : Int32) → vc_X1_isStepRight_142 G fr P v2 w) ∧ (¬ v1 = (104 : Int32) → (v1 = (105 : Int32) → narrow .boolean (.int (0 : Int32)) = .int (0 : Int32) ∧ P (.inl (some (.int (0 : Int32)))) w.1) ∧ (¬ v1 = (105 : Int32) → (v1 = (106 : Int32) → narrow .boolean (.int (0 : Int32)) = .int (0 : Int32) ∧ P (.inl (some (.int (0 : Int32)))) w.1) ∧ (¬ v1 = (106 : Int32) → (v1 = (107 : Int32) → narrow .boolean (.int (0 : Int32)) = .int (0 : Int32) ∧ P (.inl (some (.int (0 : Int32)))) w.1) ∧ (¬ v1 = (107 : Int32) → (v1 = (108 : Int32) → narrow .boolean (.int (0 : Int32)) = .int (0 : Int32) ∧ P (.inl (some (.int (0 : Int32)))) w.1) ∧ (¬ v1 = (108 : Int32) → (v1 = (109 : Int32) → wv_gA w v0 ciX1 0 (fun x111 => wv_cV G fr yJ2_size x111 [] w (wv_rI (fun x114 w114 => wv_c0 G fr yX1_inRange [.int v2, .int (0 : Int32), .int (x114 - (1 : Int32))] w114 (wv_rI (fun x119 w119 => (x119 = 0 → narrow .boolean (.int (0 : Int32)) = .int (0 : Int32) ∧ P (.inl (some (.int (0 : Int32)))) w119.1) ∧ (¬ x119 = 0 → wv_c0 G fr yX1_inRange [.int v3, .int (0 : Int32), .int (5 : Int32)] w119 (wv_rI (fun x128 w128 => (x128 = 0 → narrow .boolean (.int (0 : Int32)) = .int (0 : Int32) ∧ P (.inl (some (.int (0 : Int32)))) w128.1) ∧ (¬ x128 = 0 → narrow .boolean (.int (1 : Int32)) = .int (1 : Int32) ∧ P (.inl (some (.int (1 : Int32)))) w128.1)) (wv_pr P)))) (wv_pr P))) (wv_pr P)))) ∧ (¬ v1 = (109 : Int32) → (v1 = (110 : Int32) → wv_c0 G fr yX1_inRange [.int v2, .int (-99 : Int32), .int (99 : Int32)] w (wv_rI (fun x93 w93 => narrow .boolean (.int x93) = .int x93 ∧ P (.inl (some (.int x93))) w93.1) (wv_pr P))) ∧ (¬ v1 = (110 : Int32) → (v1 = (111 : Int32) → narrow .boolean (.int (0 : Int32)) = .int (0 : Int32) ∧ P (.inl (some (.int (0 : Int32)))) w.1) ∧ (¬ v1 = (111 : Int32) → (v1 = (112 : Int32) → narrow .boolean (.int (0 : Int32)) = .int (0 : Int32) ∧ P (.inl (some (.int (0 : Int32)))) w.1) ∧ (¬ v1 = (112 : Int32) → (v1 = (113 : Int32) → narrow .boolean (.int (0 : Int32)) = .int (0 : Int32) ∧ P (.inl (some (.int (0 : Int32)))) w.1) ∧ (¬ v1 = (113 : Int32) → (v1 = (114 : Int32) → narrow .boolean (.int (0 : Int32)) = .int (0 : Int32) ∧ P (.inl (some (.int (0 : Int32)))) w.1) ∧ (¬ v1 = (114 : Int32) → (v1 = (115 : Int32) → vc_X1_isStepRight_142 G fr P v2 w) ∧ (¬ v1 = (115 : Int32) → (v1 = (116 : Int32) → wv_c0 G fr yX1_inRange [.int v2, .int (0 : Int32), .int (3 : Int32)] w (wv_rI (fun x154 w154 => (x154 = 0 → narrow .boolean (.int (0 : Int32)) = .int (0 : Int32) ∧ P (.inl (some (.int (0 : Int32)))) w154.1) ∧ (¬ x154 = 0 → wv_c0 G fr yX1_inRange [.int v3, .int (-99 : Int32), .int (99 : Int32)] w154 (wv_rI (fun x165 w165 => (x165 = 0 → narrow .boolean (.int (0 : Int32)) = .int (0 : Int32) ∧ P (.inl (some (.int (0 : Int32)))) w165.1) ∧ (¬ x165 = 0 → narrow .boolean (.int (1 : Int32)) = .int (1 : Int32) ∧ P (.inl (some (.int (1 : Int32)))) w165.1)) (wv_pr P)))) (wv_pr P))) ∧ (¬ v1 = (116 : Int32) → narrow .boolean (.int (0 : Int32)) = .int (0 : Int32) ∧ P (.inl (some (.int (0 : Int32)))) w.1))))))))))))))))))
set_option maxHeartbeats 4000000 in
theorem wk_X1_isStepRight_142 {G : wv_G} {p : Program} {e : Env} {R : Room} {s : State} {m : MethodId} {args : Array Value} {below : List Frame} {meth : Method} {c : Code} {fr : Nat} {P : wv_R → wv_H → Prop} (X : wv_ok G p R s m args meth c fr "Weaversgate" cX1_isStepRight 4 (Option.some Jvm.ClassFile.FieldType.boolean) "isStepRight" []) {v2 : Int32} {w : wv_W} (hv : vc_X1_isStepRight_142 G fr P v2 w) : wv_J G p e R s m args below meth c 4 P w 142 [(2, .int v2)] [] := by
  intro H locs cells slots ls S hl
  unfold vc_X1_isStepRight_142 at hv
  refine lv_iload_n X.hx X.hb dX1_isStepRight_142 rfl (lv_at hl 0 rfl) ?_
  refine lv_iconst (v := (0 : Int32)) X.hx X.hb dX1_isStepRight_143 (by decide) ?_
  refine lv_iconst (v := (3 : Int32)) X.hx X.hb dX1_isStepRight_144 (by decide) ?_
  refine wq_cS_I X S hv q1243 q1244 q60 ⟨by decide +kernel, by decide +kernel⟩ (nA := 3) (As := [.int v2, .int (0 : Int32), .int (3 : Int32)]) (by decide +kernel) rfl rfl (by simp [wv_rfc, wv_kI, wv_kJ, wv_kF, wv_kD]) hl.1 dX1_isStepRight_145 (fun x145 w145 H locs cells slots S hv => ?_) (wq_kx X rfl)
  refine lv_goto (tgt := 180) X.hx X.hb dX1_isStepRight_148 (by decide) ?_
  exact wr_iret X S hv.1 hv.2 dX1_isStepRight_180
set_option maxHeartbeats 4000000 in
theorem wk_X1_isStepRight_0 {G : wv_G} {p : Program} {e : Env} {R : Room} {s : State} {m : MethodId} {args : Array Value} {below : List Frame} {meth : Method} {c : Code} {fr : Nat} {P : wv_R → wv_H → Prop} (X : wv_ok G p R s m args meth c fr "Weaversgate" cX1_isStepRight 4 (Option.some Jvm.ClassFile.FieldType.boolean) "isStepRight" []) {v0 : Option Nat} {v1 : Int32} {v2 : Int32} {v3 : Int32} {w : wv_W} (hv : vc_X1_isStepRight_0 G fr P v0 v1 v2 v3 w) : wv_J G p e R s m args below meth c 4 P w 0 [(0, va_rf v0), (1, .int v1), (2, .int v2), (3, .int v3)] [] := by
  intro H locs cells slots ls S hl
  unfold vc_X1_isStepRight_0 at hv
  refine lv_iload_n X.hx X.hb dX1_isStepRight_0 rfl (lv_at hl 1 rfl) ?_
  by_cases h1_0 : v1 = (99 : Int32)
  · have hv := hv.1 h1_0
    refine lv_tableIn (tgt := 99) (off := 98) X.hx X.hb dX1_isStepRight_1 (by rw [h1_0]; decide) (by rw [h1_0]; decide) (by rw [h1_0]; decide) (by decide) ?_
    refine lv_iload_n X.hx X.hb dX1_isStepRight_99 rfl (lv_at hl 2 rfl) ?_
    refine lv_iconst (v := (0 : Int32)) X.hx X.hb dX1_isStepRight_100 (by decide) ?_
    refine lv_iconst (v := (5 : Int32)) X.hx X.hb dX1_isStepRight_101 (by decide) ?_
    refine wq_cS_I X S hv q1243 q1244 q60 ⟨by decide +kernel, by decide +kernel⟩ (nA := 3) (As := [.int v2, .int (0 : Int32), .int (5 : Int32)]) (by decide +kernel) rfl rfl (by simp [wv_rfc, wv_kI, wv_kJ, wv_kF, wv_kD]) hl.1 dX1_isStepRight_102 (fun x102 w102 H locs cells slots S hv => ?_) (wq_kx X rfl)
    refine lv_goto (tgt := 180) X.hx X.hb dX1_isStepRight_105 (by decide) ?_
    exact wr_iret X S hv.1 hv.2 dX1_isStepRight_180
  · have hv := hv.2 h1_0
    by_cases h1_1 : v1 = (100 : Int32)
    · have hv := hv.1 h1_1
      refine lv_tableIn (tgt := 179) (off := 178) X.hx X.hb dX1_isStepRight_1 (by rw [h1_1]; decide) (by rw [h1_1]; decide) (by rw [h1_1]; decide) (by decide) ?_
      refine lv_iconst (v := (0 : Int32)) X.hx X.hb dX1_isStepRight_179 (by decide) ?_
      exact wr_iret X S hv.1 hv.2 dX1_isStepRight_180
    · have hv := hv.2 h1_1
      by_cases h1_2 : v1 = (101 : Int32)
      · have hv := hv.1 h1_2
        refine lv_tableIn (tgt := 179) (off := 178) X.hx X.hb dX1_isStepRight_1 (by rw [h1_2]; decide) (by rw [h1_2]; decide) (by rw [h1_2]; decide) (by decide) ?_
        refine lv_iconst (v := (0 : Int32)) X.hx X.hb dX1_isStepRight_179 (by decide) ?_
        exact wr_iret X S hv.1 hv.2 dX1_isStepRight_180
      · have hv := hv.2 h1_2
        by_cases h1_3 : v1 = (102 : Int32)
        · have hv := hv.1 h1_3
          refine lv_tableIn (tgt := 179) (off := 178) X.hx X.hb dX1_isStepRight_1 (by rw [h1_3]; decide) (by rw [h1_3]; decide) (by rw [h1_3]; decide) (by decide) ?_
          refine lv_iconst (v := (0 : Int32)) X.hx X.hb dX1_isStepRight_179 (by decide) ?_
          exact wr_iret X S hv.1 hv.2 dX1_isStepRight_180
        · have hv := hv.2 h1_3
          by_cases h1_4 : v1 = (103 : Int32)
          · have hv := hv.1 h1_4
            refine lv_tableIn (tgt := 142) (off := 141) X.hx X.hb dX1_isStepRight_1 (by rw [h1_4]; decide) (by rw [h1_4]; decide) (by rw [h1_4]; decide) (by decide) ?_
            exact wk_X1_isStepRight_142 X  hv H locs cells slots ls S (lv_sub hl [2] rfl)
          · have hv := hv.2 h1_4
            by_cases h1_5 : v1 = (104 : Int32)
            · have hv := hv.1 h1_5
              refine lv_tableIn (tgt := 142) (off := 141) X.hx X.hb dX1_isStepRight_1 (by rw [h1_5]; decide) (by rw [h1_5]; decide) (by rw [h1_5]; decide) (by decide) ?_
              exact wk_X1_isStepRight_142 X  hv H locs cells slots ls S (lv_sub hl [2] rfl)
            · have hv := hv.2 h1_5
              by_cases h1_6 : v1 = (105 : Int32)
              · have hv := hv.1 h1_6
                refine lv_tableIn (tgt := 179) (off := 178) X.hx X.hb dX1_isStepRight_1 (by rw [h1_6]; decide) (by rw [h1_6]; decide) (by rw [h1_6]; decide) (by decide) ?_
                refine lv_iconst (v := (0 : Int32)) X.hx X.hb dX1_isStepRight_179 (by decide) ?_
                exact wr_iret X S hv.1 hv.2 dX1_isStepRight_180
              · have hv := hv.2 h1_6
                by_cases h1_7 : v1 = (106 : Int32)
                · have hv := hv.1 h1_7
                  refine lv_tableIn (tgt := 179) (off := 178) X.hx X.hb dX1_isStepRight_1 (by rw [h1_7]; decide) (by rw [h1_7]; decide) (by rw [h1_7]; decide) (by decide) ?_
                  refine lv_iconst (v := (0 : Int32)) X.hx X.hb dX1_isStepRight_179 (by decide) ?_
                  exact wr_iret X S hv.1 hv.2 dX1_isStepRight_180
                · have hv := hv.2 h1_7
                  by_cases h1_8 : v1 = (107 : Int32)
                  · have hv := hv.1 h1_8
                    refine lv_tableIn (tgt := 179) (off := 178) X.hx X.hb dX1_isStepRight_1 (by rw [h1_8]; decide) (by rw [h1_8]; decide) (by rw [h1_8]; decide) (by decide) ?_
                    refine lv_iconst (v := (0 : Int32)) X.hx X.hb dX1_isStepRight_179 (by decide) ?_
                    exact wr_iret X S hv.1 hv.2 dX1_isStepRight_180
                  · have hv := hv.2 h1_8
                    by_cases h1_9 : v1 = (108 : Int32)
                    · have hv := hv.1 h1_9
                      refine lv_tableIn (tgt := 179) (off := 178) X.hx X.hb dX1_isStepRight_1 (by rw [h1_9]; decide) (by rw [h1_9]; decide) (by rw [h1_9]; decide) (by decide) ?_
                      refine lv_iconst (v := (0 : Int32)) X.hx X.hb dX1_isStepRight_179 (by decide) ?_
                      exact wr_iret X S hv.1 hv.2 dX1_isStepRight_180
                    · have hv := hv.2 h1_9
                      by_cases h1_10 : v1 = (109 : Int32)
                      · have hv := hv.1 h1_10
                        refine lv_tableIn (tgt := 108) (off := 107) X.hx X.hb dX1_isStepRight_1 (by rw [h1_10]; decide) (by rw [h1_10]; decide) (by rw [h1_10]; decide) (by decide) ?_
                        refine lv_iload_n X.hx X.hb dX1_isStepRight_108 rfl (lv_at hl 2 rfl) ?_
                        refine lv_iconst (v := (0 : Int32)) X.hx X.hb dX1_isStepRight_109 (by decide) ?_
                        refine wq_aload_n X dX1_isStepRight_110 rfl (lv_at hl 0 rfl) ?_
                        refine wq_gA X S hv ccX1 in_X1 (k := 0) (by decide) q225 dX1_isStepRight_111 (fun x111 hv => ?_)
                        refine wq_cV_I X S hv q269 q270 q271 q63 ⟨by decide +kernel, by decide +kernel⟩ (nA := 0) (As := []) (by decide +kernel) rfl rfl (by simp [wv_rfc, wv_kI, wv_kJ, wv_kF, wv_kD]) hl.1 dX1_isStepRight_114 (fun x114 w114 H locs cells slots S hv => ?_) (wq_kx X rfl)
                        refine lv_iconst (v := (1 : Int32)) X.hx X.hb dX1_isStepRight_117 (by decide) ?_
                        refine lv_isub X.hx X.hb dX1_isStepRight_118 ?_
                        refine wq_cS_I X S hv q1243 q1244 q60 ⟨by decide +kernel, by decide +kernel⟩ (nA := 3) (As := [.int v2, .int (0 : Int32), .int (x114 - (1 : Int32))]) (by decide +kernel) rfl rfl (by simp [wv_rfc, wv_kI, wv_kJ, wv_kF, wv_kD]) hl.1 dX1_isStepRight_119 (fun x119 w119 H locs cells slots S hv => ?_) (wq_kx X rfl)
                        refine lv_if_eq (tgt := 138) X.hx X.hb dX1_isStepRight_122 (by decide) (fun c122 => ?_) (fun c122 => ?_)
                        · have hv := hv.1 c122
                          refine lv_iconst (v := (0 : Int32)) X.hx X.hb dX1_isStepRight_138 (by decide) ?_
                          refine lv_goto (tgt := 180) X.hx X.hb dX1_isStepRight_139 (by decide) ?_
                          exact wr_iret X S hv.1 hv.2 dX1_isStepRight_180
                        · have hv := hv.2 c122
                          refine lv_iload_n X.hx X.hb dX1_isStepRight_125 rfl (lv_at hl 3 rfl) ?_
                          refine lv_iconst (v := (0 : Int32)) X.hx X.hb dX1_isStepRight_126 (by decide) ?_
                          refine lv_iconst (v := (5 : Int32)) X.hx X.hb dX1_isStepRight_127 (by decide) ?_
                          refine wq_cS_I X S hv q1243 q1244 q60 ⟨by decide +kernel, by decide +kernel⟩ (nA := 3) (As := [.int v3, .int (0 : Int32), .int (5 : Int32)]) (by decide +kernel) rfl rfl (by simp [wv_rfc, wv_kI, wv_kJ, wv_kF, wv_kD]) hl.1 dX1_isStepRight_128 (fun x128 w128 H locs cells slots S hv => ?_) (wq_kx X rfl)
                          refine lv_if_eq (tgt := 138) X.hx X.hb dX1_isStepRight_131 (by decide) (fun c131 => ?_) (fun c131 => ?_)
                          · have hv := hv.1 c131
                            refine lv_iconst (v := (0 : Int32)) X.hx X.hb dX1_isStepRight_138 (by decide) ?_
                            refine lv_goto (tgt := 180) X.hx X.hb dX1_isStepRight_139 (by decide) ?_
                            exact wr_iret X S hv.1 hv.2 dX1_isStepRight_180
                          · have hv := hv.2 c131
                            refine lv_iconst (v := (1 : Int32)) X.hx X.hb dX1_isStepRight_134 (by decide) ?_
                            refine lv_goto (tgt := 180) X.hx X.hb dX1_isStepRight_135 (by decide) ?_
                            exact wr_iret X S hv.1 hv.2 dX1_isStepRight_180
                      · have hv := hv.2 h1_10
                        by_cases h1_11 : v1 = (110 : Int32)
                        · have hv := hv.1 h1_11
                          refine lv_tableIn (tgt := 88) (off := 87) X.hx X.hb dX1_isStepRight_1 (by rw [h1_11]; decide) (by rw [h1_11]; decide) (by rw [h1_11]; decide) (by decide) ?_
                          refine lv_iload_n X.hx X.hb dX1_isStepRight_88 rfl (lv_at hl 2 rfl) ?_
                          refine lv_bipush (v := (-99 : Int32)) X.hx X.hb dX1_isStepRight_89 (by decide) ?_
                          refine lv_bipush (v := (99 : Int32)) X.hx X.hb dX1_isStepRight_91 (by decide) ?_
                          refine wq_cS_I X S hv q1243 q1244 q60 ⟨by decide +kernel, by decide +kernel⟩ (nA := 3) (As := [.int v2, .int (-99 : Int32), .int (99 : Int32)]) (by decide +kernel) rfl rfl (by simp [wv_rfc, wv_kI, wv_kJ, wv_kF, wv_kD]) hl.1 dX1_isStepRight_93 (fun x93 w93 H locs cells slots S hv => ?_) (wq_kx X rfl)
                          refine lv_goto (tgt := 180) X.hx X.hb dX1_isStepRight_96 (by decide) ?_
                          exact wr_iret X S hv.1 hv.2 dX1_isStepRight_180
                        · have hv := hv.2 h1_11
                          by_cases h1_12 : v1 = (111 : Int32)
                          · have hv := hv.1 h1_12
                            refine lv_tableIn (tgt := 179) (off := 178) X.hx X.hb dX1_isStepRight_1 (by rw [h1_12]; decide) (by rw [h1_12]; decide) (by rw [h1_12]; decide) (by decide) ?_
                            refine lv_iconst (v := (0 : Int32)) X.hx X.hb dX1_isStepRight_179 (by decide) ?_
                            exact wr_iret X S hv.1 hv.2 dX1_isStepRight_180
                          · have hv := hv.2 h1_12
                            by_cases h1_13 : v1 = (112 : Int32)
                            · have hv := hv.1 h1_13
                              refine lv_tableIn (tgt := 179) (off := 178) X.hx X.hb dX1_isStepRight_1 (by rw [h1_13]; decide) (by rw [h1_13]; decide) (by rw [h1_13]; decide) (by decide) ?_
                              refine lv_iconst (v := (0 : Int32)) X.hx X.hb dX1_isStepRight_179 (by decide) ?_
                              exact wr_iret X S hv.1 hv.2 dX1_isStepRight_180
                            · have hv := hv.2 h1_13
                              by_cases h1_14 : v1 = (113 : Int32)
                              · have hv := hv.1 h1_14
                                refine lv_tableIn (tgt := 179) (off := 178) X.hx X.hb dX1_isStepRight_1 (by rw [h1_14]; decide) (by rw [h1_14]; decide) (by rw [h1_14]; decide) (by decide) ?_
                                refine lv_iconst (v := (0 : Int32)) X.hx X.hb dX1_isStepRight_179 (by decide) ?_
                                exact wr_iret X S hv.1 hv.2 dX1_isStepRight_180
                              · have hv := hv.2 h1_14
                                by_cases h1_15 : v1 = (114 : Int32)
                                · have hv := hv.1 h1_15
                                  refine lv_tableIn (tgt := 179) (off := 178) X.hx X.hb dX1_isStepRight_1 (by rw [h1_15]; decide) (by rw [h1_15]; decide) (by rw [h1_15]; decide) (by decide) ?_
                                  refine lv_iconst (v := (0 : Int32)) X.hx X.hb dX1_isStepRight_179 (by decide) ?_
                                  exact wr_iret X S hv.1 hv.2 dX1_isStepRight_180
                                · have hv := hv.2 h1_15
                                  by_cases h1_16 : v1 = (115 : Int32)
                                  · have hv := hv.1 h1_16
                                    refine lv_tableIn (tgt := 142) (off := 141) X.hx X.hb dX1_isStepRight_1 (by rw [h1_16]; decide) (by rw [h1_16]; decide) (by rw [h1_16]; decide) (by decide) ?_
                                    exact wk_X1_isStepRight_142 X  hv H locs cells slots ls S (lv_sub hl [2] rfl)
                                  · have hv := hv.2 h1_16
                                    by_cases h1_17 : v1 = (116 : Int32)
                                    · have hv := hv.1 h1_17
                                      refine lv_tableIn (tgt := 151) (off := 150) X.hx X.hb dX1_isStepRight_1 (by rw [h1_17]; decide) (by rw [h1_17]; decide) (by rw [h1_17]; decide) (by decide) ?_
                                      refine lv_iload_n X.hx X.hb dX1_isStepRight_151 rfl (lv_at hl 2 rfl) ?_
                                      refine lv_iconst (v := (0 : Int32)) X.hx X.hb dX1_isStepRight_152 (by decide) ?_
                                      refine lv_iconst (v := (3 : Int32)) X.hx X.hb dX1_isStepRight_153 (by decide) ?_
                                      refine wq_cS_I X S hv q1243 q1244 q60 ⟨by decide +kernel, by decide +kernel⟩ (nA := 3) (As := [.int v2, .int (0 : Int32), .int (3 : Int32)]) (by decide +kernel) rfl rfl (by simp [wv_rfc, wv_kI, wv_kJ, wv_kF, wv_kD]) hl.1 dX1_isStepRight_154 (fun x154 w154 H locs cells slots S hv => ?_) (wq_kx X rfl)
                                      refine lv_if_eq (tgt := 175) X.hx X.hb dX1_isStepRight_157 (by decide) (fun c157 => ?_) (fun c157 => ?_)
                                      · have hv := hv.1 c157
                                        refine lv_iconst (v := (0 : Int32)) X.hx X.hb dX1_isStepRight_175 (by decide) ?_
                                        refine lv_goto (tgt := 180) X.hx X.hb dX1_isStepRight_176 (by decide) ?_
                                        exact wr_iret X S hv.1 hv.2 dX1_isStepRight_180
                                      · have hv := hv.2 c157
                                        refine lv_iload_n X.hx X.hb dX1_isStepRight_160 rfl (lv_at hl 3 rfl) ?_
                                        refine lv_bipush (v := (-99 : Int32)) X.hx X.hb dX1_isStepRight_161 (by decide) ?_
                                        refine lv_bipush (v := (99 : Int32)) X.hx X.hb dX1_isStepRight_163 (by decide) ?_
                                        refine wq_cS_I X S hv q1243 q1244 q60 ⟨by decide +kernel, by decide +kernel⟩ (nA := 3) (As := [.int v3, .int (-99 : Int32), .int (99 : Int32)]) (by decide +kernel) rfl rfl (by simp [wv_rfc, wv_kI, wv_kJ, wv_kF, wv_kD]) hl.1 dX1_isStepRight_165 (fun x165 w165 H locs cells slots S hv => ?_) (wq_kx X rfl)
                                        refine lv_if_eq (tgt := 175) X.hx X.hb dX1_isStepRight_168 (by decide) (fun c168 => ?_) (fun c168 => ?_)
                                        · have hv := hv.1 c168
                                          refine lv_iconst (v := (0 : Int32)) X.hx X.hb dX1_isStepRight_175 (by decide) ?_
                                          refine lv_goto (tgt := 180) X.hx X.hb dX1_isStepRight_176 (by decide) ?_
                                          exact wr_iret X S hv.1 hv.2 dX1_isStepRight_180
                                        · have hv := hv.2 c168
                                          refine lv_iconst (v := (1 : Int32)) X.hx X.hb dX1_isStepRight_171 (by decide) ?_
                                          refine lv_goto (tgt := 180) X.hx X.hb dX1_isStepRight_172 (by decide) ?_
                                          exact wr_iret X S hv.1 hv.2 dX1_isStepRight_180
                                    · have hv := hv.2 h1_17
                                      refine lv_tableOut (tgt := 179) X.hx X.hb dX1_isStepRight_1 (by have n0 := lv_neT h1_0 (a := 99) (by decide); have n1 := lv_neT h1_1 (a := 100) (by decide); have n2 := lv_neT h1_2 (a := 101) (by decide); have n3 := lv_neT h1_3 (a := 102) (by decide); have n4 := lv_neT h1_4 (a := 103) (by decide); have n5 := lv_neT h1_5 (a := 104) (by decide); have n6 := lv_neT h1_6 (a := 105) (by decide); have n7 := lv_neT h1_7 (a := 106) (by decide); have n8 := lv_neT h1_8 (a := 107) (by decide); have n9 := lv_neT h1_9 (a := 108) (by decide); have n10 := lv_neT h1_10 (a := 109) (by decide); have n11 := lv_neT h1_11 (a := 110) (by decide); have n12 := lv_neT h1_12 (a := 111) (by decide); have n13 := lv_neT h1_13 (a := 112) (by decide); have n14 := lv_neT h1_14 (a := 113) (by decide); have n15 := lv_neT h1_15 (a := 114) (by decide); have n16 := lv_neT h1_16 (a := 115) (by decide); have n17 := lv_neT h1_17 (a := 116) (by decide); omega) (by decide) ?_
                                      refine lv_iconst (v := (0 : Int32)) X.hx X.hb dX1_isStepRight_179 (by decide) ?_
                                      exact wr_iret X S hv.1 hv.2 dX1_isStepRight_180
theorem wk_X1_isStepRight {G : wv_G} (hG : wv_G0 G) {v0 : Option Nat} {v1 : Int32} {v2 : Int32} {v3 : Int32} {h : wv_H} {fr kc ks : Nat} {P : wv_R → wv_H → Prop} (hv : vc_X1_isStepRight_0 G fr P v0 v1 v2 v3 (h, kc, ks)) : wv_C G yX1_isStepRight [va_rf v0, .int v1, .int v2, .int v3] h fr kc ks P := by
  refine wv_enter (lv := [(0, va_rf v0), (1, .int v1), (2, .int v2), (3, .int v3)]) hG (by decide +kernel) q1337 (by decide) (by simp [lg_sl, wv_rfc, wv_kI, wv_kJ, wv_kF, wv_kD]) (by simp [lv_args, wv_rfc, wv_kI, wv_kJ, wv_kF, wv_kD]) ?_
  intro p e R s m args below meth c X H locs cells slots ls S hl
  exact wk_X1_isStepRight_0 X hv H locs cells slots ls S (lv_sub hl [0, 1, 2, 3] rfl)

def vc_X1_made_0 (G : wv_G) (fr : Nat) (P : wv_R → wv_H → Prop) (v0 : Option Nat) (v1 : Int32) (v2 : Int32) (v3 : Int32) (w : wv_W) : Prop :=
  (v1 = (33 : Int32) → wv_cV G fr yX1_pattern v0 [.int v2] w (wv_rA (fun x172 w172 => wv_c0 G fr yX14_not [va_rf x172] w172 (wv_rA (fun x175 w175 => P (.inl (some (va_rf x175))) w175.1) (wv_pr P))) (wv_pr P))) ∧ (¬ v1 = (33 : Int32) → (v1 = (38 : Int32) → wv_cV G fr yX1_pattern v0 [.int v2] w (wv_rA (fun x138 w138 => wv_cV G fr yX1_pattern v0 [.int v3] w138 (wv_rA (fun x143 w143 => wv_c0 G fr yX14_join [va_rf x138, va_rf x143, .int (1 : Int32)] w143 (wv_rA (fun x147 w147 => P (.inl (some (va_rf x147))) w147.1) (wv_pr P))) (wv_pr P))) (wv_pr P))) ∧ (¬ v1 = (38 : Int32) → (v1 = (102 : Int32) → wv_no G w (wo_o ciX13 [va_rf none]) 1 (fun a121 w121 => wv_cV G fr yX1_pattern v0 [.int v2] w121 (wv_rA (fun x127 w127 => wv_cI G fr yX13_init (some a121) [va_rf x127] w127 (wv_rV (fun w130 => P (.inl (some (va_rf (some a121)))) w130.1) (wv_pr P))) (wv_pr P)))) ∧ (¬ v1 = (102 : Int32) → (v1 = (110 : Int32) → wv_no G w (wo_o ciX9 [.int 0]) 1 (fun a76 w76 => wv_cI G fr yX9_init (some a76) [.int v2] w76 (wv_rV (fun w81 => P (.inl (some (va_rf (some a76)))) w81.1) (wv_pr P)))) ∧ (¬ v1 = (110 : Int32) → (v1 = (116 : Int32) → wv_no G w (wo_o ciX10 [.int 0, va_rf none]) 2 (fun a87 w87 => wv_cI G fr yX10_init (some a87) [va_rf v0, .int v2] w87 (wv_rV (fun w93 => P (.inl (some (va_rf (some a87)))) w93.1) (wv_pr P)))) ∧ (¬ v1 = (116 : Int32) → (v1 = (118 : Int32) → wv_no G w (wo_o ciX12 [.int 0]) 1 (fun a110 w110 => wv_cI G fr yX12_init (some a110) [.int v2] w110 (wv_rV (fun w115 => P (.inl (some (va_rf (some a110)))) w115.1) (wv_pr P)))) ∧ (¬ v1 = (118 : Int32) → (v1 = (119 : Int32) → wv_no G w (wo_o ciX11 [.int 0]) 1 (fun a99 w99 => wv_cI G fr yX11_init (some a99) [.int v2] w99 (wv_rV (fun w104 => P (.inl (some (va_rf (some a99)))) w104.1) (wv_pr P)))) ∧ (¬ v1 = (119 : Int32) → (v1 = (124 : Int32) → wv_cV G fr yX1_pattern v0 [.int v2] w (wv_rA (fun x155 w155 => wv_cV G fr yX1_pattern v0 [.int v3] w155 (wv_rA (fun x160 w160 => wv_c0 G fr yX14_join [va_rf x155, va_rf x160, .int (0 : Int32)] w160 (wv_rA (fun x164 w164 => P (.inl (some (va_rf x164))) w164.1) (wv_pr P))) (wv_pr P))) (wv_pr P))) ∧ (¬ v1 = (124 : Int32) → wv_no G w (wo_o ciX17 [.int 0]) 1 (fun a181 w181 => wv_cI G fr yX17_init (some a181) [.int v1] w181 (wv_rV (fun w186 => P (.inl (some (va_rf (some a181)))) w186.1) (wv_pr P)))))))))))
set_option maxHeartbeats 4000000 in
theorem wk_X1_made_0 {G : wv_G} {p : Program} {e : Env} {R : Room} {s : State} {m : MethodId} {args : Array Value} {below : List Frame} {meth : Method} {c : Code} {fr : Nat} {P : wv_R → wv_H → Prop} (X : wv_ok G p R s m args meth c fr "Weaversgate" cX1_made 4 (Option.some (Jvm.ClassFile.FieldType.object "Weaversgate$Pattern")) "made" []) {v0 : Option Nat} {v1 : Int32} {v2 : Int32} {v3 : Int32} {w : wv_W} (hv : vc_X1_made_0 G fr P v0 v1 v2 v3 w) : wv_J G p e R s m args below meth c 4 P w 0 [(0, va_rf v0), (1, .int v1), (2, .int v2), (3, .int v3)] [] := by
  intro H locs cells slots ls S hl
  unfold vc_X1_made_0 at hv
  refine lv_iload_n X.hx X.hb dX1_made_0 rfl (lv_at hl 1 rfl) ?_
  by_cases h1_0 : v1 = (33 : Int32)
  · have hv := hv.1 h1_0
    refine lv_lookup (tgt := 170) (off := 169) X.hx X.hb dX1_made_1 (by decide) (by rw [h1_0] <;> rfl) (by decide) ?_
    refine wq_aload_n X dX1_made_170 rfl (lv_at hl 0 rfl) ?_
    refine lv_iload_n X.hx X.hb dX1_made_171 rfl (lv_at hl 2 rfl) ?_
    refine wq_cV_A X S hv q1433 q1435 qs31 q60 ⟨by decide +kernel, by decide +kernel⟩ (nA := 1) (As := [.int v2]) (by decide +kernel) rfl rfl (by simp [wv_rfc, wv_kI, wv_kJ, wv_kF, wv_kD]) hl.1 dX1_made_172 (fun x172 w172 H locs cells slots S hv => ?_) (wq_kx X rfl)
    refine wq_cS_A X S hv q1486 q1487 q91 ⟨by decide +kernel, by decide +kernel⟩ (nA := 1) (As := [va_rf x172]) (by decide +kernel) rfl rfl (by simp [wv_rfc, wv_kI, wv_kJ, wv_kF, wv_kD]) hl.1 dX1_made_175 (fun x175 w175 H locs cells slots S hv => ?_) (wq_kx X rfl)
    refine lv_goto (tgt := 189) X.hx X.hb dX1_made_178 (by decide) ?_
    exact wr_aret X S (Or.inl ⟨_, rfl⟩) hv dX1_made_189
  · have hv := hv.2 h1_0
    by_cases h1_1 : v1 = (38 : Int32)
    · have hv := hv.1 h1_1
      refine lv_lookup (tgt := 136) (off := 135) X.hx X.hb dX1_made_1 (by decide) (by rw [h1_1] <;> rfl) (by decide) ?_
      refine wq_aload_n X dX1_made_136 rfl (lv_at hl 0 rfl) ?_
      refine lv_iload_n X.hx X.hb dX1_made_137 rfl (lv_at hl 2 rfl) ?_
      refine wq_cV_A X S hv q1433 q1435 qs31 q60 ⟨by decide +kernel, by decide +kernel⟩ (nA := 1) (As := [.int v2]) (by decide +kernel) rfl rfl (by simp [wv_rfc, wv_kI, wv_kJ, wv_kF, wv_kD]) hl.1 dX1_made_138 (fun x138 w138 H locs cells slots S hv => ?_) (wq_kx X rfl)
      refine wq_aload_n X dX1_made_141 rfl (lv_at hl 0 rfl) ?_
      refine lv_iload_n X.hx X.hb dX1_made_142 rfl (lv_at hl 3 rfl) ?_
      refine wq_cV_A X S hv q1433 q1435 qs31 q60 ⟨by decide +kernel, by decide +kernel⟩ (nA := 1) (As := [.int v3]) (by decide +kernel) rfl rfl (by simp [wv_rfc, wv_kI, wv_kJ, wv_kF, wv_kD]) hl.1 dX1_made_143 (fun x143 w143 H locs cells slots S hv => ?_) (wq_kx X rfl)
      refine lv_iconst (v := (1 : Int32)) X.hx X.hb dX1_made_146 (by decide) ?_
      refine wq_cS_A X S hv q1464 q1465 q91 ⟨by decide +kernel, by decide +kernel⟩ (nA := 3) (As := [va_rf x138, va_rf x143, .int (1 : Int32)]) (by decide +kernel) rfl rfl (by simp [wv_rfc, wv_kI, wv_kJ, wv_kF, wv_kD]) hl.1 dX1_made_147 (fun x147 w147 H locs cells slots S hv => ?_) (wq_kx X rfl)
      refine lv_goto (tgt := 189) X.hx X.hb dX1_made_150 (by decide) ?_
      exact wr_aret X S (Or.inl ⟨_, rfl⟩) hv dX1_made_189
    · have hv := hv.2 h1_1
      by_cases h1_2 : v1 = (102 : Int32)
      · have hv := hv.1 h1_2
        refine lv_lookup (tgt := 121) (off := 120) X.hx X.hb dX1_made_1 (by decide) (by rw [h1_2] <;> rfl) (by decide) ?_
        refine wq_new X S hv tyX13 tyX13_ok ccX13 in_X13 q1431 q1432 q89 (fun j hj => by have hj : j < 1 := hj; rcases (show j = 0 by omega) with rfl <;> rfl) dX1_made_121 (fun a121 w121 H cells slots S hv => ?_)
        refine lv_dup X.hx X.hb dX1_made_124 (wv_rfc _) ?_
        refine wq_aload_n X dX1_made_125 rfl (lv_at hl 0 rfl) ?_
        refine lv_iload_n X.hx X.hb dX1_made_126 rfl (lv_at hl 2 rfl) ?_
        refine wq_cV_A X S hv q1433 q1435 qs31 q60 ⟨by decide +kernel, by decide +kernel⟩ (nA := 1) (As := [.int v2]) (by decide +kernel) rfl rfl (by simp [wv_rfc, wv_kI, wv_kJ, wv_kF, wv_kD]) hl.1 dX1_made_127 (fun x127 w127 H locs cells slots S hv => ?_) (wq_kx X rfl)
        refine wq_cI_V X S hv rfl q1456 q1457 q1458 q89 ⟨by decide +kernel, by decide +kernel⟩ (nA := 1) (As := [va_rf x127]) (by decide +kernel) rfl rfl (by simp [wv_rfc, wv_kI, wv_kJ, wv_kF, wv_kD]) hl.1 dX1_made_130 (fun w130 H locs cells slots S hv => ?_) (wq_kx X rfl)
        refine lv_goto (tgt := 189) X.hx X.hb dX1_made_133 (by decide) ?_
        exact wr_aret X S (Or.inl ⟨_, rfl⟩) hv dX1_made_189
      · have hv := hv.2 h1_2
        by_cases h1_3 : v1 = (110 : Int32)
        · have hv := hv.1 h1_3
          refine lv_lookup (tgt := 76) (off := 75) X.hx X.hb dX1_made_1 (by decide) (by rw [h1_3] <;> rfl) (by decide) ?_
          refine wq_new X S hv tyX9 tyX9_ok ccX9 in_X9 q1388 q1389 q85 (fun j hj => by have hj : j < 1 := hj; rcases (show j = 0 by omega) with rfl <;> rfl) dX1_made_76 (fun a76 w76 H cells slots S hv => ?_)
          refine lv_dup X.hx X.hb dX1_made_79 (wv_rfc _) ?_
          refine lv_iload_n X.hx X.hb dX1_made_80 rfl (lv_at hl 2 rfl) ?_
          refine wq_cI_V X S hv rfl q1390 q1391 q1392 q85 ⟨by decide +kernel, by decide +kernel⟩ (nA := 1) (As := [.int v2]) (by decide +kernel) rfl rfl (by simp [wv_rfc, wv_kI, wv_kJ, wv_kF, wv_kD]) hl.1 dX1_made_81 (fun w81 H locs cells slots S hv => ?_) (wq_kx X rfl)
          refine lv_goto (tgt := 189) X.hx X.hb dX1_made_84 (by decide) ?_
          exact wr_aret X S (Or.inl ⟨_, rfl⟩) hv dX1_made_189
        · have hv := hv.2 h1_3
          by_cases h1_4 : v1 = (116 : Int32)
          · have hv := hv.1 h1_4
            refine lv_lookup (tgt := 87) (off := 86) X.hx X.hb dX1_made_1 (by decide) (by rw [h1_4] <;> rfl) (by decide) ?_
            refine wq_new X S hv tyX10 tyX10_ok ccX10 in_X10 q1398 q1399 q86 (fun j hj => by have hj : j < 2 := hj; rcases (show j = 0 ∨ j = 1 by omega) with rfl | rfl <;> rfl) dX1_made_87 (fun a87 w87 H cells slots S hv => ?_)
            refine lv_dup X.hx X.hb dX1_made_90 (wv_rfc _) ?_
            refine wq_aload_n X dX1_made_91 rfl (lv_at hl 0 rfl) ?_
            refine lv_iload_n X.hx X.hb dX1_made_92 rfl (lv_at hl 2 rfl) ?_
            refine wq_cI_V X S hv rfl q1400 q1401 q1402 q86 ⟨by decide +kernel, by decide +kernel⟩ (nA := 2) (As := [va_rf v0, .int v2]) (by decide +kernel) rfl rfl (by simp [wv_rfc, wv_kI, wv_kJ, wv_kF, wv_kD]) hl.1 dX1_made_93 (fun w93 H locs cells slots S hv => ?_) (wq_kx X rfl)
            refine lv_goto (tgt := 189) X.hx X.hb dX1_made_96 (by decide) ?_
            exact wr_aret X S (Or.inl ⟨_, rfl⟩) hv dX1_made_189
          · have hv := hv.2 h1_4
            by_cases h1_5 : v1 = (118 : Int32)
            · have hv := hv.1 h1_5
              refine lv_lookup (tgt := 110) (off := 109) X.hx X.hb dX1_made_1 (by decide) (by rw [h1_5] <;> rfl) (by decide) ?_
              refine wq_new X S hv tyX12 tyX12_ok ccX12 in_X12 q1421 q1422 q88 (fun j hj => by have hj : j < 1 := hj; rcases (show j = 0 by omega) with rfl <;> rfl) dX1_made_110 (fun a110 w110 H cells slots S hv => ?_)
              refine lv_dup X.hx X.hb dX1_made_113 (wv_rfc _) ?_
              refine lv_iload_n X.hx X.hb dX1_made_114 rfl (lv_at hl 2 rfl) ?_
              refine wq_cI_V X S hv rfl q1423 q1424 q1425 q88 ⟨by decide +kernel, by decide +kernel⟩ (nA := 1) (As := [.int v2]) (by decide +kernel) rfl rfl (by simp [wv_rfc, wv_kI, wv_kJ, wv_kF, wv_kD]) hl.1 dX1_made_115 (fun w115 H locs cells slots S hv => ?_) (wq_kx X rfl)
              refine lv_goto (tgt := 189) X.hx X.hb dX1_made_118 (by decide) ?_
              exact wr_aret X S (Or.inl ⟨_, rfl⟩) hv dX1_made_189
            · have hv := hv.2 h1_5
              by_cases h1_6 : v1 = (119 : Int32)
              · have hv := hv.1 h1_6
                refine lv_lookup (tgt := 99) (off := 98) X.hx X.hb dX1_made_1 (by decide) (by rw [h1_6] <;> rfl) (by decide) ?_
                refine wq_new X S hv tyX11 tyX11_ok ccX11 in_X11 q1411 q1412 q87 (fun j hj => by have hj : j < 1 := hj; rcases (show j = 0 by omega) with rfl <;> rfl) dX1_made_99 (fun a99 w99 H cells slots S hv => ?_)
                refine lv_dup X.hx X.hb dX1_made_102 (wv_rfc _) ?_
                refine lv_iload_n X.hx X.hb dX1_made_103 rfl (lv_at hl 2 rfl) ?_
                refine wq_cI_V X S hv rfl q1413 q1414 q1415 q87 ⟨by decide +kernel, by decide +kernel⟩ (nA := 1) (As := [.int v2]) (by decide +kernel) rfl rfl (by simp [wv_rfc, wv_kI, wv_kJ, wv_kF, wv_kD]) hl.1 dX1_made_104 (fun w104 H locs cells slots S hv => ?_) (wq_kx X rfl)
                refine lv_goto (tgt := 189) X.hx X.hb dX1_made_107 (by decide) ?_
                exact wr_aret X S (Or.inl ⟨_, rfl⟩) hv dX1_made_189
              · have hv := hv.2 h1_6
                by_cases h1_7 : v1 = (124 : Int32)
                · have hv := hv.1 h1_7
                  refine lv_lookup (tgt := 153) (off := 152) X.hx X.hb dX1_made_1 (by decide) (by rw [h1_7] <;> rfl) (by decide) ?_
                  refine wq_aload_n X dX1_made_153 rfl (lv_at hl 0 rfl) ?_
                  refine lv_iload_n X.hx X.hb dX1_made_154 rfl (lv_at hl 2 rfl) ?_
                  refine wq_cV_A X S hv q1433 q1435 qs31 q60 ⟨by decide +kernel, by decide +kernel⟩ (nA := 1) (As := [.int v2]) (by decide +kernel) rfl rfl (by simp [wv_rfc, wv_kI, wv_kJ, wv_kF, wv_kD]) hl.1 dX1_made_155 (fun x155 w155 H locs cells slots S hv => ?_) (wq_kx X rfl)
                  refine wq_aload_n X dX1_made_158 rfl (lv_at hl 0 rfl) ?_
                  refine lv_iload_n X.hx X.hb dX1_made_159 rfl (lv_at hl 3 rfl) ?_
                  refine wq_cV_A X S hv q1433 q1435 qs31 q60 ⟨by decide +kernel, by decide +kernel⟩ (nA := 1) (As := [.int v3]) (by decide +kernel) rfl rfl (by simp [wv_rfc, wv_kI, wv_kJ, wv_kF, wv_kD]) hl.1 dX1_made_160 (fun x160 w160 H locs cells slots S hv => ?_) (wq_kx X rfl)
                  refine lv_iconst (v := (0 : Int32)) X.hx X.hb dX1_made_163 (by decide) ?_
                  refine wq_cS_A X S hv q1464 q1465 q91 ⟨by decide +kernel, by decide +kernel⟩ (nA := 3) (As := [va_rf x155, va_rf x160, .int (0 : Int32)]) (by decide +kernel) rfl rfl (by simp [wv_rfc, wv_kI, wv_kJ, wv_kF, wv_kD]) hl.1 dX1_made_164 (fun x164 w164 H locs cells slots S hv => ?_) (wq_kx X rfl)
                  refine lv_goto (tgt := 189) X.hx X.hb dX1_made_167 (by decide) ?_
                  exact wr_aret X S (Or.inl ⟨_, rfl⟩) hv dX1_made_189
                · have hv := hv.2 h1_7
                  refine lv_lookup (tgt := 181) (off := 180) X.hx X.hb dX1_made_1 (by decide) (by rw [lv_osw h1_0 (by decide), lv_osw h1_1 (by decide), lv_osw h1_2 (by decide), lv_osw h1_3 (by decide), lv_osw h1_4 (by decide), lv_osw h1_5 (by decide), lv_osw h1_6 (by decide), lv_osw h1_7 (by decide)] <;> rfl) (by decide) ?_
                  refine wq_new X S hv tyX17 tyX17_ok ccX17 in_X17 q1499 q1500 q94 (fun j hj => by have hj : j < 1 := hj; rcases (show j = 0 by omega) with rfl <;> rfl) dX1_made_181 (fun a181 w181 H cells slots S hv => ?_)
                  refine lv_dup X.hx X.hb dX1_made_184 (wv_rfc _) ?_
                  refine lv_iload_n X.hx X.hb dX1_made_185 rfl (lv_at hl 1 rfl) ?_
                  refine wq_cI_V X S hv rfl q1501 q1502 q1503 q94 ⟨by decide +kernel, by decide +kernel⟩ (nA := 1) (As := [.int v1]) (by decide +kernel) rfl rfl (by simp [wv_rfc, wv_kI, wv_kJ, wv_kF, wv_kD]) hl.1 dX1_made_186 (fun w186 H locs cells slots S hv => ?_) (wq_kx X rfl)
                  exact wr_aret X S (Or.inl ⟨_, rfl⟩) hv dX1_made_189
theorem wk_X1_made {G : wv_G} (hG : wv_G0 G) {v0 : Option Nat} {v1 : Int32} {v2 : Int32} {v3 : Int32} {h : wv_H} {fr kc ks : Nat} {P : wv_R → wv_H → Prop} (hv : vc_X1_made_0 G fr P v0 v1 v2 v3 (h, kc, ks)) : wv_C G yX1_made [va_rf v0, .int v1, .int v2, .int v3] h fr kc ks P := by
  refine wv_enter (lv := [(0, va_rf v0), (1, .int v1), (2, .int v2), (3, .int v3)]) hG (by decide +kernel) q1387 (by decide) (by simp [lg_sl, wv_rfc, wv_kI, wv_kJ, wv_kF, wv_kD]) (by simp [lv_args, wv_rfc, wv_kI, wv_kJ, wv_kF, wv_kD]) ?_
  intro p e R s m args below meth c X H locs cells slots ls S hl
  exact wk_X1_made_0 X hv H locs cells slots ls S (lv_sub hl [0, 1, 2, 3] rfl)

def vc_X1_madePlace_195 (G : wv_G) (fr : Nat) (P : wv_R → wv_H → Prop) (s0 : Int32) (s1 : Int32) (s2 : Int32) (s3 : Int32) (s4 : Option Nat) (s5 : Option Nat) (w : wv_W) : Prop :=
  wv_cI G fr yX21_init s4 [.int s3, .int s2, .int s1, .int s0] w (wv_rV (fun w195 => P (.inl (some (va_rf s5))) w195.1) (wv_pr P))
def vc_X1_madePlace_174 (G : wv_G) (fr : Nat) (P : wv_R → wv_H → Prop) (v1 : Option Nat) (v4 : Int32) (v8 : Option Nat) (v9 : Int32) (s0 : Int32) (s1 : Int32) (s2 : Option Nat) (s3 : Option Nat) (w : wv_W) : Prop :=
  wv_gI w v1 ciX6 0 (fun x175 => (v9 = 0 → vc_X1_madePlace_195 G fr P v4 x175 s0 s1 s2 s3 w) ∧ (¬ v9 = 0 → wv_gI w v8 ciX7 1 (fun x186 => vc_X1_madePlace_195 G fr P ((1 : Int32) <<< (x186 &&& 31)) x175 s0 s1 s2 s3 w)))
def vc_X1_madePlace_169 (G : wv_G) (fr : Nat) (P : wv_R → wv_H → Prop) (v1 : Option Nat) (v4 : Int32) (v8 : Option Nat) (v9 : Int32) (s0 : Int32) (s1 : Option Nat) (s2 : Option Nat) (w : wv_W) : Prop :=
  wv_gI w v8 ciX7 1 (fun x171 => vc_X1_madePlace_174 G fr P v1 v4 v8 v9 x171 s0 s1 s2 w)
def vc_X1_madePlace_142 (G : wv_G) (fr : Nat) (P : wv_R → wv_H → Prop) (v1 : Option Nat) (v4 : Int32) (v7 : Int32) (v8 : Option Nat) (v9 : Int32) (s0 : Int32) (w : wv_W) : Prop :=
  wv_no G w (wo_o ciX21 [.int 0, .int 0, .int 0, .int 0, .int 0, .int 0, .int 0]) 7 (fun a144 w144 => (v9 = 0 → vc_X1_madePlace_169 G fr P v1 v4 v8 v9 s0 (some a144) (some a144) w144) ∧ (¬ v9 = 0 → (¬ v7 = (1 : Int32) → vc_X1_madePlace_169 G fr P v1 v4 v8 v9 s0 (some a144) (some a144) w144) ∧ (v7 = (1 : Int32) → wv_gI w144 v8 ciX7 2 (fun x163 => vc_X1_madePlace_174 G fr P v1 v4 v8 v9 x163 s0 (some a144) (some a144) w144))))
def vc_X1_madePlace_137 (G : wv_G) (fr : Nat) (P : wv_R → wv_H → Prop) (v1 : Option Nat) (v4 : Int32) (v7 : Int32) (v8 : Option Nat) (v9 : Int32) (w : wv_W) : Prop :=
  wv_gI w v8 ciX7 0 (fun x139 => vc_X1_madePlace_142 G fr P v1 v4 v7 v8 v9 x139 w)
def vc_X1_madePlace_119 (G : wv_G) (fr : Nat) (P : wv_R → wv_H → Prop) (v1 : Option Nat) (v4 : Int32) (v7 : Int32) (v8 : Option Nat) (s0 : Int32) (w : wv_W) : Prop :=
  (s0 = 0 → vc_X1_madePlace_137 G fr P v1 v4 v7 v8 s0 w) ∧ (¬ s0 = 0 → (¬ v7 = (1 : Int32) → vc_X1_madePlace_137 G fr P v1 v4 v7 v8 s0 w) ∧ (v7 = (1 : Int32) → vc_X1_madePlace_142 G fr P v1 v4 v7 v8 s0 (99 : Int32) w))
def vc_X1_madePlace_50 (G : wv_G) (fr : Nat) (P : wv_R → wv_H → Prop) (K50 : ((Option Nat) × Int32 × (Option Nat) × Int32 × Int32) → wv_W → Prop) (v1 : Option Nat) (v4 : Int32) (v5 : Option Nat) (v6 : Int32) (v7 : Int32) (w : wv_W) : Prop :=
  wv_cV G fr yJ2_get v5 [.int v6] w (wv_rA (fun x56 w56 => wv_cc G w56 x56 "Weaversgate$Step" (wv_cV G fr yX7_places x56 [] w56 (wv_rI (fun x62 w62 => (v7 < x62 → wv_cV G fr yJ2_get v5 [.int v6] w62 (wv_rA (fun x96 w96 => wv_cc G w96 x96 "Weaversgate$Step" (wv_gI w96 x96 ciX7 0 (fun x106 => (¬ x106 = (109 : Int32) → vc_X1_madePlace_119 G fr P v1 v4 v7 x96 (0 : Int32) w96) ∧ (x106 = (109 : Int32) → vc_X1_madePlace_119 G fr P v1 v4 v7 x96 (1 : Int32) w96)))) (wv_pr P))) ∧ (¬ v7 < x62 → wv_cV G fr yJ2_get v5 [.int v6] w62 (wv_rA (fun x74 w74 => wv_cc G w74 x74 "Weaversgate$Step" (wv_cV G fr yX7_places x74 [] w74 (wv_rI (fun x80 w80 => K50 (v1, v4, v5, (v6 + (1 : Int32)), (v7 - x80)) w80) (wv_pr P)))) (wv_pr P)))) (wv_pr P)))) (wv_pr P))
def vc_X1_madePlace_0 (G : wv_G) (fr : Nat) (P : wv_R → wv_H → Prop) (v0 : Option Nat) (v1 : Option Nat) (v2 : Int32) (v3 : Int32) (w : wv_W) : Prop :=
  wv_cV G fr yX1_possibleIn v0 [va_rf v1, .int v2] w (wv_rI (fun x3 w3 => (¬ v3 = 0 → wv_gA w3 v1 ciX6 2 (fun x30 => wv_cV G fr yJ2_get x30 [.int v2] w3 (wv_rA (fun x34 w34 => wv_cc G w34 x34 "java/util/ArrayList" (wv_L (fun K50 a w => vc_X1_madePlace_50 G fr P K50 a.1 a.2.1 a.2.2.1 a.2.2.2.1 a.2.2.2.2 w) (v1, x3, x34, (0 : Int32), (v3 - (1 : Int32))) w34)) (wv_pr P)))) ∧ (v3 = 0 → wv_no G w3 (wo_o ciX21 [.int 0, .int 0, .int 0, .int 0, .int 0, .int 0, .int 0]) 7 (fun a12 w12 => wv_gI w12 v1 ciX6 0 (fun x20 => wv_cI G fr yX21_init (some a12) [.int (101 : Int32), .int v2, .int x20, .int x3] w12 (wv_rV (fun w25 => P (.inl (some (va_rf (some a12)))) w25.1) (wv_pr P)))))) (wv_pr P))
set_option maxHeartbeats 4000000 in
theorem wk_X1_madePlace_195 {G : wv_G} {p : Program} {e : Env} {R : Room} {s : State} {m : MethodId} {args : Array Value} {below : List Frame} {meth : Method} {c : Code} {fr : Nat} {P : wv_R → wv_H → Prop} (X : wv_ok G p R s m args meth c fr "Weaversgate" cX1_madePlace 11 (Option.some (Jvm.ClassFile.FieldType.object "Weaversgate$Place")) "madePlace" []) {s0 : Int32} {s1 : Int32} {s2 : Int32} {s3 : Int32} {s4 : Option Nat} {s5 : Option Nat} {w : wv_W} (hv : vc_X1_madePlace_195 G fr P s0 s1 s2 s3 s4 s5 w) : wv_J G p e R s m args below meth c 11 P w 195 [] [.int s0, .int s1, .int s2, .int s3, va_rf s4, va_rf s5] := by
  intro H locs cells slots ls S hl
  unfold vc_X1_madePlace_195 at hv
  refine wq_cI_V X S hv rfl q720 q721 q722 q106 ⟨by decide +kernel, by decide +kernel⟩ (nA := 4) (As := [.int s3, .int s2, .int s1, .int s0]) (by decide +kernel) rfl rfl (by simp [wv_rfc, wv_kI, wv_kJ, wv_kF, wv_kD]) hl.1 dX1_madePlace_195 (fun w195 H locs cells slots S hv => ?_) (wq_kx X rfl)
  exact wr_aret X S (Or.inl ⟨_, rfl⟩) hv dX1_madePlace_198
set_option maxHeartbeats 4000000 in
theorem wk_X1_madePlace_174 {G : wv_G} {p : Program} {e : Env} {R : Room} {s : State} {m : MethodId} {args : Array Value} {below : List Frame} {meth : Method} {c : Code} {fr : Nat} {P : wv_R → wv_H → Prop} (X : wv_ok G p R s m args meth c fr "Weaversgate" cX1_madePlace 11 (Option.some (Jvm.ClassFile.FieldType.object "Weaversgate$Place")) "madePlace" []) {v1 : Option Nat} {v4 : Int32} {v8 : Option Nat} {v9 : Int32} {s0 : Int32} {s1 : Int32} {s2 : Option Nat} {s3 : Option Nat} {w : wv_W} (hv : vc_X1_madePlace_174 G fr P v1 v4 v8 v9 s0 s1 s2 s3 w) : wv_J G p e R s m args below meth c 11 P w 174 [(1, va_rf v1), (4, .int v4), (8, va_rf v8), (9, .int v9)] [.int s0, .int s1, va_rf s2, va_rf s3] := by
  intro H locs cells slots ls S hl
  unfold vc_X1_madePlace_174 at hv
  refine wq_aload_n X dX1_madePlace_174 rfl (lv_at hl 0 rfl) ?_
  refine wq_gIN X S hv ccX6 in_X6 (k := 0) (by decide) q1291 dX1_madePlace_175 (fun x175 hv => ?_)
  refine lv_iload X.hx X.hb dX1_madePlace_178 (lv_at hl 3 rfl) ?_
  refine lv_if_eq (tgt := 193) X.hx X.hb dX1_madePlace_180 (by decide) (fun c180 => ?_) (fun c180 => ?_)
  · have hv := hv.1 c180
    refine lv_iload X.hx X.hb dX1_madePlace_193 (lv_at hl 1 rfl) ?_
    exact wk_X1_madePlace_195 X  hv H locs cells slots ls S (lv_sub hl [] rfl)
  · have hv := hv.2 c180
    refine lv_iconst (v := (1 : Int32)) X.hx X.hb dX1_madePlace_183 (by decide) ?_
    refine wq_aload X dX1_madePlace_184 (lv_at hl 2 rfl) ?_
    refine wq_gIN X S hv ccX7 in_X7 (k := 1) (by decide) q1348 dX1_madePlace_186 (fun x186 hv => ?_)
    refine lv_ishl X.hx X.hb dX1_madePlace_189 ?_
    refine lv_goto (tgt := 195) X.hx X.hb dX1_madePlace_190 (by decide) ?_
    exact wk_X1_madePlace_195 X  hv H locs cells slots ls S (lv_sub hl [] rfl)
set_option maxHeartbeats 4000000 in
theorem wk_X1_madePlace_169 {G : wv_G} {p : Program} {e : Env} {R : Room} {s : State} {m : MethodId} {args : Array Value} {below : List Frame} {meth : Method} {c : Code} {fr : Nat} {P : wv_R → wv_H → Prop} (X : wv_ok G p R s m args meth c fr "Weaversgate" cX1_madePlace 11 (Option.some (Jvm.ClassFile.FieldType.object "Weaversgate$Place")) "madePlace" []) {v1 : Option Nat} {v4 : Int32} {v8 : Option Nat} {v9 : Int32} {s0 : Int32} {s1 : Option Nat} {s2 : Option Nat} {w : wv_W} (hv : vc_X1_madePlace_169 G fr P v1 v4 v8 v9 s0 s1 s2 w) : wv_J G p e R s m args below meth c 11 P w 169 [(1, va_rf v1), (4, .int v4), (8, va_rf v8), (9, .int v9)] [.int s0, va_rf s1, va_rf s2] := by
  intro H locs cells slots ls S hl
  unfold vc_X1_madePlace_169 at hv
  refine wq_aload X dX1_madePlace_169 (lv_at hl 2 rfl) ?_
  refine wq_gIN X S hv ccX7 in_X7 (k := 1) (by decide) q1348 dX1_madePlace_171 (fun x171 hv => ?_)
  exact wk_X1_madePlace_174 X  hv H locs cells slots ls S (lv_sub hl [0, 1, 2, 3] rfl)
set_option maxHeartbeats 4000000 in
theorem wk_X1_madePlace_142 {G : wv_G} {p : Program} {e : Env} {R : Room} {s : State} {m : MethodId} {args : Array Value} {below : List Frame} {meth : Method} {c : Code} {fr : Nat} {P : wv_R → wv_H → Prop} (X : wv_ok G p R s m args meth c fr "Weaversgate" cX1_madePlace 11 (Option.some (Jvm.ClassFile.FieldType.object "Weaversgate$Place")) "madePlace" []) {v1 : Option Nat} {v4 : Int32} {v7 : Int32} {v8 : Option Nat} {v9 : Int32} {s0 : Int32} {w : wv_W} (hv : vc_X1_madePlace_142 G fr P v1 v4 v7 v8 v9 s0 w) : wv_J G p e R s m args below meth c 11 P w 142 [(1, va_rf v1), (4, .int v4), (7, .int v7), (8, va_rf v8), (9, .int v9)] [.int s0] := by
  intro H locs cells slots ls S hl
  unfold vc_X1_madePlace_142 at hv
  refine lv_istore X.hx X.hb (i := 10) (lv' := [(10, .int s0), (1, va_rf v1), (4, .int v4), (7, .int v7), (8, va_rf v8), (9, .int v9)]) dX1_madePlace_142 hl (by decide) (by simp [wv_rfc, wv_kI, wv_kJ, wv_kF, wv_kD]) (fun ls hl => ?_)
  refine wq_new X S hv tyX21 tyX21_ok ccX21 in_X21 q718 q719 q106 (fun j hj => by have hj : j < 7 := hj; rcases (show j = 0 ∨ j = 1 ∨ j = 2 ∨ j = 3 ∨ j = 4 ∨ j = 5 ∨ j = 6 by omega) with rfl | rfl | rfl | rfl | rfl | rfl | rfl <;> rfl) dX1_madePlace_144 (fun a144 w144 H cells slots S hv => ?_)
  refine lv_dup X.hx X.hb dX1_madePlace_147 (wv_rfc _) ?_
  refine lv_iload X.hx X.hb dX1_madePlace_148 (lv_at hl 0 rfl) ?_
  refine lv_iload X.hx X.hb dX1_madePlace_150 (lv_at hl 5 rfl) ?_
  refine lv_if_eq (tgt := 169) X.hx X.hb dX1_madePlace_152 (by decide) (fun c152 => ?_) (fun c152 => ?_)
  · have hv := hv.1 c152
    exact wk_X1_madePlace_169 X  hv H locs cells slots ls S (lv_sub hl [1, 2, 4, 5] rfl)
  · have hv := hv.2 c152
    refine lv_iload X.hx X.hb dX1_madePlace_155 (lv_at hl 3 rfl) ?_
    refine lv_iconst (v := (1 : Int32)) X.hx X.hb dX1_madePlace_157 (by decide) ?_
    refine lv_icmp_ne (tgt := 169) X.hx X.hb dX1_madePlace_158 (by decide) (fun c158 => ?_) (fun c158 => ?_)
    · have hv := hv.1 c158
      exact wk_X1_madePlace_169 X  hv H locs cells slots ls S (lv_sub hl [1, 2, 4, 5] rfl)
    · have hv := hv.2 c158
      refine wq_aload X dX1_madePlace_161 (lv_at hl 4 rfl) ?_
      refine wq_gIN X S hv ccX7 in_X7 (k := 2) (by decide) q1351 dX1_madePlace_163 (fun x163 hv => ?_)
      refine lv_goto (tgt := 174) X.hx X.hb dX1_madePlace_166 (by decide) ?_
      exact wk_X1_madePlace_174 X  hv H locs cells slots ls S (lv_sub hl [1, 2, 4, 5] rfl)
set_option maxHeartbeats 4000000 in
theorem wk_X1_madePlace_137 {G : wv_G} {p : Program} {e : Env} {R : Room} {s : State} {m : MethodId} {args : Array Value} {below : List Frame} {meth : Method} {c : Code} {fr : Nat} {P : wv_R → wv_H → Prop} (X : wv_ok G p R s m args meth c fr "Weaversgate" cX1_madePlace 11 (Option.some (Jvm.ClassFile.FieldType.object "Weaversgate$Place")) "madePlace" []) {v1 : Option Nat} {v4 : Int32} {v7 : Int32} {v8 : Option Nat} {v9 : Int32} {w : wv_W} (hv : vc_X1_madePlace_137 G fr P v1 v4 v7 v8 v9 w) : wv_J G p e R s m args below meth c 11 P w 137 [(1, va_rf v1), (4, .int v4), (7, .int v7), (8, va_rf v8), (9, .int v9)] [] := by
  intro H locs cells slots ls S hl
  unfold vc_X1_madePlace_137 at hv
  refine wq_aload X dX1_madePlace_137 (lv_at hl 3 rfl) ?_
  refine wq_gIN X S hv ccX7 in_X7 (k := 0) (by decide) q1345 dX1_madePlace_139 (fun x139 hv => ?_)
  exact wk_X1_madePlace_142 X  hv H locs cells slots ls S (lv_sub hl [0, 1, 2, 3, 4] rfl)
set_option maxHeartbeats 4000000 in
theorem wk_X1_madePlace_119 {G : wv_G} {p : Program} {e : Env} {R : Room} {s : State} {m : MethodId} {args : Array Value} {below : List Frame} {meth : Method} {c : Code} {fr : Nat} {P : wv_R → wv_H → Prop} (X : wv_ok G p R s m args meth c fr "Weaversgate" cX1_madePlace 11 (Option.some (Jvm.ClassFile.FieldType.object "Weaversgate$Place")) "madePlace" []) {v1 : Option Nat} {v4 : Int32} {v7 : Int32} {v8 : Option Nat} {s0 : Int32} {w : wv_W} (hv : vc_X1_madePlace_119 G fr P v1 v4 v7 v8 s0 w) : wv_J G p e R s m args below meth c 11 P w 119 [(1, va_rf v1), (4, .int v4), (7, .int v7), (8, va_rf v8)] [.int s0] := by
  intro H locs cells slots ls S hl
  unfold vc_X1_madePlace_119 at hv
  refine lv_istore X.hx X.hb (i := 9) (lv' := [(9, .int s0), (1, va_rf v1), (4, .int v4), (7, .int v7), (8, va_rf v8)]) dX1_madePlace_119 hl (by decide) (by simp [wv_rfc, wv_kI, wv_kJ, wv_kF, wv_kD]) (fun ls hl => ?_)
  refine lv_iload X.hx X.hb dX1_madePlace_121 (lv_at hl 0 rfl) ?_
  refine lv_if_eq (tgt := 137) X.hx X.hb dX1_madePlace_123 (by decide) (fun c123 => ?_) (fun c123 => ?_)
  · have hv := hv.1 c123
    exact wk_X1_madePlace_137 X  hv H locs cells slots ls S (lv_sub hl [1, 2, 3, 4, 0] rfl)
  · have hv := hv.2 c123
    refine lv_iload X.hx X.hb dX1_madePlace_126 (lv_at hl 3 rfl) ?_
    refine lv_iconst (v := (1 : Int32)) X.hx X.hb dX1_madePlace_128 (by decide) ?_
    refine lv_icmp_ne (tgt := 137) X.hx X.hb dX1_madePlace_129 (by decide) (fun c129 => ?_) (fun c129 => ?_)
    · have hv := hv.1 c129
      exact wk_X1_madePlace_137 X  hv H locs cells slots ls S (lv_sub hl [1, 2, 3, 4, 0] rfl)
    · have hv := hv.2 c129
      refine lv_bipush (v := (99 : Int32)) X.hx X.hb dX1_madePlace_132 (by decide) ?_
      refine lv_goto (tgt := 142) X.hx X.hb dX1_madePlace_134 (by decide) ?_
      exact wk_X1_madePlace_142 X  hv H locs cells slots ls S (lv_sub hl [1, 2, 3, 4, 0] rfl)
set_option maxHeartbeats 4000000 in
theorem wk_X1_madePlace_50 {G : wv_G} {p : Program} {e : Env} {R : Room} {s : State} {m : MethodId} {args : Array Value} {below : List Frame} {meth : Method} {c : Code} {fr : Nat} {P : wv_R → wv_H → Prop} (X : wv_ok G p R s m args meth c fr "Weaversgate" cX1_madePlace 11 (Option.some (Jvm.ClassFile.FieldType.object "Weaversgate$Place")) "madePlace" []) {K50 : ((Option Nat) × Int32 × (Option Nat) × Int32 × Int32) → wv_W → Prop} (hK50 : ∀ a w, K50 a w → wv_J G p e R s m args below meth c 11 P w 50 [(1, va_rf a.1), (4, .int a.2.1), (5, va_rf a.2.2.1), (6, .int a.2.2.2.1), (7, .int a.2.2.2.2)] []) {v1 : Option Nat} {v4 : Int32} {v5 : Option Nat} {v6 : Int32} {v7 : Int32} {w : wv_W} (hv : vc_X1_madePlace_50 G fr P K50 v1 v4 v5 v6 v7 w) : wv_J G p e R s m args below meth c 11 P w 50 [(1, va_rf v1), (4, .int v4), (5, va_rf v5), (6, .int v6), (7, .int v7)] [] := by
  intro H locs cells slots ls S hl
  unfold vc_X1_madePlace_50 at hv
  refine lv_iload X.hx X.hb dX1_madePlace_50 (lv_at hl 4 rfl) ?_
  refine wq_aload X dX1_madePlace_52 (lv_at hl 2 rfl) ?_
  refine lv_iload X.hx X.hb dX1_madePlace_54 (lv_at hl 3 rfl) ?_
  refine wq_cV_A X S hv q273 q274 q275 q63 ⟨by decide +kernel, by decide +kernel⟩ (nA := 1) (As := [.int v6]) (by decide +kernel) rfl rfl (by simp [wv_rfc, wv_kI, wv_kJ, wv_kF, wv_kD]) hl.1 dX1_madePlace_56 (fun x56 w56 H locs cells slots S hv => ?_) (wq_kx X rfl)
  refine wq_cc X S hv q302 dX1_madePlace_59 (fun hv => ?_)
  refine wq_cV_I X S hv q303 q304 q305 q83 ⟨by decide +kernel, by decide +kernel⟩ (nA := 0) (As := []) (by decide +kernel) rfl rfl (by simp [wv_rfc, wv_kI, wv_kJ, wv_kF, wv_kD]) hl.1 dX1_madePlace_62 (fun x62 w62 H locs cells slots S hv => ?_) (wq_kx X rfl)
  refine lv_icmp_lt (tgt := 92) X.hx X.hb dX1_madePlace_65 (by decide) (fun c65 => ?_) (fun c65 => ?_)
  · have hv := hv.1 c65
    refine wq_aload X dX1_madePlace_92 (lv_at hl 2 rfl) ?_
    refine lv_iload X.hx X.hb dX1_madePlace_94 (lv_at hl 3 rfl) ?_
    refine wq_cV_A X S hv q273 q274 q275 q63 ⟨by decide +kernel, by decide +kernel⟩ (nA := 1) (As := [.int v6]) (by decide +kernel) rfl rfl (by simp [wv_rfc, wv_kI, wv_kJ, wv_kF, wv_kD]) hl.1 dX1_madePlace_96 (fun x96 w96 H locs cells slots S hv => ?_) (wq_kx X rfl)
    refine wq_cc X S hv q302 dX1_madePlace_99 (fun hv => ?_)
    refine wq_astore X (i := 8) (lv' := [(8, va_rf x96), (1, va_rf v1), (4, .int v4), (5, va_rf v5), (6, .int v6), (7, .int v7)]) dX1_madePlace_102 hl (by decide) (by simp [wv_rfc, wv_kI, wv_kJ, wv_kF, wv_kD]) (fun ls hl => ?_)
    refine wq_aload X dX1_madePlace_104 (lv_at hl 0 rfl) ?_
    refine wq_gIN X S hv ccX7 in_X7 (k := 0) (by decide) q1345 dX1_madePlace_106 (fun x106 hv => ?_)
    refine lv_bipush (v := (109 : Int32)) X.hx X.hb dX1_madePlace_109 (by decide) ?_
    refine lv_icmp_ne (tgt := 118) X.hx X.hb dX1_madePlace_111 (by decide) (fun c111 => ?_) (fun c111 => ?_)
    · have hv := hv.1 c111
      refine lv_iconst (v := (0 : Int32)) X.hx X.hb dX1_madePlace_118 (by decide) ?_
      exact wk_X1_madePlace_119 X  hv H locs cells slots ls S (lv_sub hl [1, 2, 5, 0] rfl)
    · have hv := hv.2 c111
      refine lv_iconst (v := (1 : Int32)) X.hx X.hb dX1_madePlace_114 (by decide) ?_
      refine lv_goto (tgt := 119) X.hx X.hb dX1_madePlace_115 (by decide) ?_
      exact wk_X1_madePlace_119 X  hv H locs cells slots ls S (lv_sub hl [1, 2, 5, 0] rfl)
  · have hv := hv.2 c65
    refine lv_iload X.hx X.hb dX1_madePlace_68 (lv_at hl 4 rfl) ?_
    refine wq_aload X dX1_madePlace_70 (lv_at hl 2 rfl) ?_
    refine lv_iload X.hx X.hb dX1_madePlace_72 (lv_at hl 3 rfl) ?_
    refine wq_cV_A X S hv q273 q274 q275 q63 ⟨by decide +kernel, by decide +kernel⟩ (nA := 1) (As := [.int v6]) (by decide +kernel) rfl rfl (by simp [wv_rfc, wv_kI, wv_kJ, wv_kF, wv_kD]) hl.1 dX1_madePlace_74 (fun x74 w74 H locs cells slots S hv => ?_) (wq_kx X rfl)
    refine wq_cc X S hv q302 dX1_madePlace_77 (fun hv => ?_)
    refine wq_cV_I X S hv q303 q304 q305 q83 ⟨by decide +kernel, by decide +kernel⟩ (nA := 0) (As := []) (by decide +kernel) rfl rfl (by simp [wv_rfc, wv_kI, wv_kJ, wv_kF, wv_kD]) hl.1 dX1_madePlace_80 (fun x80 w80 H locs cells slots S hv => ?_) (wq_kx X rfl)
    refine lv_isub X.hx X.hb dX1_madePlace_83 ?_
    refine lv_istore X.hx X.hb (i := 7) (lv' := [(7, .int (v7 - x80)), (1, va_rf v1), (4, .int v4), (5, va_rf v5), (6, .int v6)]) dX1_madePlace_84 hl (by decide) (by simp [wv_rfc, wv_kI, wv_kJ, wv_kF, wv_kD]) (fun ls hl => ?_)
    refine lv_iinc (v := (v6 + (1 : Int32))) (lv' := [(6, .int (v6 + (1 : Int32))), (7, .int (v7 - x80)), (1, va_rf v1), (4, .int v4), (5, va_rf v5)]) X.hx X.hb dX1_madePlace_86 hl (k := 4) rfl (by rfl) (by decide) (by simp [wv_rfc, wv_kI, wv_kJ, wv_kF, wv_kD]) (fun ls hl => ?_)
    refine lv_goto (tgt := 50) X.hx X.hb dX1_madePlace_89 (by decide) ?_
    exact hK50 _ _ hv H locs cells slots ls S (lv_sub hl [2, 3, 4, 0, 1] rfl)
set_option maxHeartbeats 4000000 in
theorem wk_X1_madePlace_0 {G : wv_G} {p : Program} {e : Env} {R : Room} {s : State} {m : MethodId} {args : Array Value} {below : List Frame} {meth : Method} {c : Code} {fr : Nat} {P : wv_R → wv_H → Prop} (X : wv_ok G p R s m args meth c fr "Weaversgate" cX1_madePlace 11 (Option.some (Jvm.ClassFile.FieldType.object "Weaversgate$Place")) "madePlace" []) {v0 : Option Nat} {v1 : Option Nat} {v2 : Int32} {v3 : Int32} {w : wv_W} (hv : vc_X1_madePlace_0 G fr P v0 v1 v2 v3 w) : wv_J G p e R s m args below meth c 11 P w 0 [(0, va_rf v0), (1, va_rf v1), (2, .int v2), (3, .int v3)] [] := by
  intro H locs cells slots ls S hl
  unfold vc_X1_madePlace_0 at hv
  refine wq_aload_n X dX1_madePlace_0 rfl (lv_at hl 0 rfl) ?_
  refine wq_aload_n X dX1_madePlace_1 rfl (lv_at hl 1 rfl) ?_
  refine lv_iload_n X.hx X.hb dX1_madePlace_2 rfl (lv_at hl 2 rfl) ?_
  refine wq_cV_I X S hv q708 q710 qs7 q60 ⟨by decide +kernel, by decide +kernel⟩ (nA := 2) (As := [va_rf v1, .int v2]) (by decide +kernel) rfl rfl (by simp [wv_rfc, wv_kI, wv_kJ, wv_kF, wv_kD]) hl.1 dX1_madePlace_3 (fun x3 w3 H locs cells slots S hv => ?_) (wq_kx X rfl)
  refine lv_istore X.hx X.hb (i := 4) (lv' := [(4, .int x3), (0, va_rf v0), (1, va_rf v1), (2, .int v2), (3, .int v3)]) dX1_madePlace_6 hl (by decide) (by simp [wv_rfc, wv_kI, wv_kJ, wv_kF, wv_kD]) (fun ls hl => ?_)
  refine lv_iload_n X.hx X.hb dX1_madePlace_8 rfl (lv_at hl 4 rfl) ?_
  refine lv_if_ne (tgt := 29) X.hx X.hb dX1_madePlace_9 (by decide) (fun c9 => ?_) (fun c9 => ?_)
  · have hv := hv.1 c9
    refine wq_aload_n X dX1_madePlace_29 rfl (lv_at hl 2 rfl) ?_
    refine wq_gAN X S hv ccX6 in_X6 (k := 2) (by decide) q1295 dX1_madePlace_30 (fun x30 hv => ?_)
    refine lv_iload_n X.hx X.hb dX1_madePlace_33 rfl (lv_at hl 3 rfl) ?_
    refine wq_cV_A X S hv q273 q274 q275 q63 ⟨by decide +kernel, by decide +kernel⟩ (nA := 1) (As := [.int v2]) (by decide +kernel) rfl rfl (by simp [wv_rfc, wv_kI, wv_kJ, wv_kF, wv_kD]) hl.1 dX1_madePlace_34 (fun x34 w34 H locs cells slots S hv => ?_) (wq_kx X rfl)
    refine wq_cc X S hv q127 dX1_madePlace_37 (fun hv => ?_)
    refine wq_astore X (i := 5) (lv' := [(5, va_rf x34), (4, .int x3), (0, va_rf v0), (1, va_rf v1), (2, .int v2), (3, .int v3)]) dX1_madePlace_40 hl (by decide) (by simp [wv_rfc, wv_kI, wv_kJ, wv_kF, wv_kD]) (fun ls hl => ?_)
    refine lv_iconst (v := (0 : Int32)) X.hx X.hb dX1_madePlace_42 (by decide) ?_
    refine lv_istore X.hx X.hb (i := 6) (lv' := [(6, .int (0 : Int32)), (5, va_rf x34), (4, .int x3), (0, va_rf v0), (1, va_rf v1), (2, .int v2), (3, .int v3)]) dX1_madePlace_43 hl (by decide) (by simp [wv_rfc, wv_kI, wv_kJ, wv_kF, wv_kD]) (fun ls hl => ?_)
    refine lv_iload_n X.hx X.hb dX1_madePlace_45 rfl (lv_at hl 6 rfl) ?_
    refine lv_iconst (v := (1 : Int32)) X.hx X.hb dX1_madePlace_46 (by decide) ?_
    refine lv_isub X.hx X.hb dX1_madePlace_47 ?_
    refine lv_istore X.hx X.hb (i := 7) (lv' := [(7, .int (v3 - (1 : Int32))), (6, .int (0 : Int32)), (5, va_rf x34), (4, .int x3), (0, va_rf v0), (1, va_rf v1), (2, .int v2), (3, .int v3)]) dX1_madePlace_48 hl (by decide) (by simp [wv_rfc, wv_kI, wv_kJ, wv_kF, wv_kD]) (fun ls hl => ?_)
    exact wv_loop (A := (Option Nat) × Int32 × (Option Nat) × Int32 × Int32) (fun a w => wv_J G p e R s m args below meth c 11 P w 50 [(1, va_rf a.1), (4, .int a.2.1), (5, va_rf a.2.2.1), (6, .int a.2.2.2.1), (7, .int a.2.2.2.2)] []) (fun K50 hK50 a w hv => wk_X1_madePlace_50 X hK50 hv) hv H locs cells slots ls S (lv_sub hl [5, 3, 2, 1, 0] rfl)
  · have hv := hv.2 c9
    refine wq_new X S hv tyX21 tyX21_ok ccX21 in_X21 q718 q719 q106 (fun j hj => by have hj : j < 7 := hj; rcases (show j = 0 ∨ j = 1 ∨ j = 2 ∨ j = 3 ∨ j = 4 ∨ j = 5 ∨ j = 6 by omega) with rfl | rfl | rfl | rfl | rfl | rfl | rfl <;> rfl) dX1_madePlace_12 (fun a12 w12 H cells slots S hv => ?_)
    refine lv_dup X.hx X.hb dX1_madePlace_15 (wv_rfc _) ?_
    refine lv_bipush (v := (101 : Int32)) X.hx X.hb dX1_madePlace_16 (by decide) ?_
    refine lv_iload_n X.hx X.hb dX1_madePlace_18 rfl (lv_at hl 3 rfl) ?_
    refine wq_aload_n X dX1_madePlace_19 rfl (lv_at hl 2 rfl) ?_
    refine wq_gIN X S hv ccX6 in_X6 (k := 0) (by decide) q1291 dX1_madePlace_20 (fun x20 hv => ?_)
    refine lv_iload X.hx X.hb dX1_madePlace_23 (lv_at hl 0 rfl) ?_
    refine wq_cI_V X S hv rfl q720 q721 q722 q106 ⟨by decide +kernel, by decide +kernel⟩ (nA := 4) (As := [.int (101 : Int32), .int v2, .int x20, .int x3]) (by decide +kernel) rfl rfl (by simp [wv_rfc, wv_kI, wv_kJ, wv_kF, wv_kD]) hl.1 dX1_madePlace_25 (fun w25 H locs cells slots S hv => ?_) (wq_kx X rfl)
    exact wr_aret X S (Or.inl ⟨_, rfl⟩) hv dX1_madePlace_28
theorem wk_X1_madePlace {G : wv_G} (hG : wv_G0 G) {v0 : Option Nat} {v1 : Option Nat} {v2 : Int32} {v3 : Int32} {h : wv_H} {fr kc ks : Nat} {P : wv_R → wv_H → Prop} (hv : vc_X1_madePlace_0 G fr P v0 v1 v2 v3 (h, kc, ks)) : wv_C G yX1_madePlace [va_rf v0, va_rf v1, .int v2, .int v3] h fr kc ks P := by
  refine wv_enter (lv := [(0, va_rf v0), (1, va_rf v1), (2, .int v2), (3, .int v3)]) hG (by decide +kernel) q707 (by decide) (by simp [lg_sl, wv_rfc, wv_kI, wv_kJ, wv_kF, wv_kD]) (by simp [lv_args, wv_rfc, wv_kI, wv_kJ, wv_kF, wv_kD]) ?_
  intro p e R s m args below meth c X H locs cells slots ls S hl
  exact wk_X1_madePlace_0 X hv H locs cells slots ls S (lv_sub hl [0, 1, 2, 3] rfl)

def vc_X1_match_0 (G : wv_G) (fr : Nat) (P : wv_R → wv_H → Prop) (v0 : Option Nat) (v1 : Int32) (v2 : Int32) (v3 : Int32) (v4 : Int32) (w : wv_W) : Prop :=
  wv_cV G fr yX1_type v0 [.int v1] w (wv_rA (fun x2 w2 => wv_c0 G fr yX1_checkMethod [.int v2] w2 (wv_rV (fun w8 => wv_cV G fr yX1_placesOf v0 [va_rf x2, .int v2] w8 (wv_rI (fun x17 w17 => wv_c0 G fr yX1_inRange [.int v3, .int (0 : Int32), .int (x17 - (1 : Int32))] w17 (wv_rI (fun x22 w22 => wv_c0 G fr yX1_checkArgument [.int x22] w22 (wv_rV (fun w25 => wv_cV G fr yX1_advice v0 [.int v4] w25 (wv_rA (fun x31 w31 => wv_gA w31 x31 ciX19 3 (fun x38 => wv_cV G fr yX1_placeOf v0 [va_rf x2, .int v2, .int v3] w31 (wv_rA (fun x46 w46 => wv_cF G fr (⟨"Weaversgate$Pattern", "at", "(LWeaversgate$Place;)C"⟩ : MethodName) x38 [va_rf x46] w46 (wv_rI (fun x49 w49 => narrow .char (.int x49) = .int x49 ∧ P (.inl (some (.int x49))) w49.1) (wv_pr P))) (wv_pr P)))) (wv_pr P))) (wv_pr P))) (wv_pr P))) (wv_pr P))) (wv_pr P))) (wv_pr P))
set_option maxHeartbeats 4000000 in
theorem wk_X1_match_0 {G : wv_G} {p : Program} {e : Env} {R : Room} {s : State} {m : MethodId} {args : Array Value} {below : List Frame} {meth : Method} {c : Code} {fr : Nat} {P : wv_R → wv_H → Prop} (X : wv_ok G p R s m args meth c fr "Weaversgate" cX1_match 7 (Option.some Jvm.ClassFile.FieldType.char) "match" []) {v0 : Option Nat} {v1 : Int32} {v2 : Int32} {v3 : Int32} {v4 : Int32} {w : wv_W} (hv : vc_X1_match_0 G fr P v0 v1 v2 v3 v4 w) : wv_J G p e R s m args below meth c 7 P w 0 [(0, va_rf v0), (1, .int v1), (2, .int v2), (3, .int v3), (4, .int v4)] [] := by
  intro H locs cells slots ls S hl
  unfold vc_X1_match_0 at hv
  refine wq_aload_n X dX1_match_0 rfl (lv_at hl 0 rfl) ?_
  refine lv_iload_n X.hx X.hb dX1_match_1 rfl (lv_at hl 1 rfl) ?_
  refine wq_cV_A X S hv q1239 q1241 qs27 q60 ⟨by decide +kernel, by decide +kernel⟩ (nA := 1) (As := [.int v1]) (by decide +kernel) rfl rfl (by simp [wv_rfc, wv_kI, wv_kJ, wv_kF, wv_kD]) hl.1 dX1_match_2 (fun x2 w2 H locs cells slots S hv => ?_) (wq_kx X rfl)
  refine wq_astore X (i := 5) (lv' := [(5, va_rf x2), (0, va_rf v0), (1, .int v1), (2, .int v2), (3, .int v3), (4, .int v4)]) dX1_match_5 hl (by decide) (by simp [wv_rfc, wv_kI, wv_kJ, wv_kF, wv_kD]) (fun ls hl => ?_)
  refine lv_iload_n X.hx X.hb dX1_match_7 rfl (lv_at hl 3 rfl) ?_
  refine wq_cS_V X S hv q1323 q1324 q60 ⟨by decide +kernel, by decide +kernel⟩ (nA := 1) (As := [.int v2]) (by decide +kernel) rfl rfl (by simp [wv_rfc, wv_kI, wv_kJ, wv_kF, wv_kD]) hl.1 dX1_match_8 (fun w8 H locs cells slots S hv => ?_) (wq_kx X rfl)
  refine lv_iload_n X.hx X.hb dX1_match_11 rfl (lv_at hl 4 rfl) ?_
  refine lv_iconst (v := (0 : Int32)) X.hx X.hb dX1_match_12 (by decide) ?_
  refine wq_aload_n X dX1_match_13 rfl (lv_at hl 1 rfl) ?_
  refine wq_aload X dX1_match_14 (lv_at hl 0 rfl) ?_
  refine lv_iload_n X.hx X.hb dX1_match_16 rfl (lv_at hl 3 rfl) ?_
  refine wq_cV_I X S hv q288 q290 qs3 q60 ⟨by decide +kernel, by decide +kernel⟩ (nA := 2) (As := [va_rf x2, .int v2]) (by decide +kernel) rfl rfl (by simp [wv_rfc, wv_kI, wv_kJ, wv_kF, wv_kD]) hl.1 dX1_match_17 (fun x17 w17 H locs cells slots S hv => ?_) (wq_kx X rfl)
  refine lv_iconst (v := (1 : Int32)) X.hx X.hb dX1_match_20 (by decide) ?_
  refine lv_isub X.hx X.hb dX1_match_21 ?_
  refine wq_cS_I X S hv q1243 q1244 q60 ⟨by decide +kernel, by decide +kernel⟩ (nA := 3) (As := [.int v3, .int (0 : Int32), .int (x17 - (1 : Int32))]) (by decide +kernel) rfl rfl (by simp [wv_rfc, wv_kI, wv_kJ, wv_kF, wv_kD]) hl.1 dX1_match_22 (fun x22 w22 H locs cells slots S hv => ?_) (wq_kx X rfl)
  refine wq_cS_V X S hv q1326 q1327 q60 ⟨by decide +kernel, by decide +kernel⟩ (nA := 1) (As := [.int x22]) (by decide +kernel) rfl rfl (by simp [wv_rfc, wv_kI, wv_kJ, wv_kF, wv_kD]) hl.1 dX1_match_25 (fun w25 H locs cells slots S hv => ?_) (wq_kx X rfl)
  refine wq_aload_n X dX1_match_28 rfl (lv_at hl 1 rfl) ?_
  refine lv_iload X.hx X.hb dX1_match_29 (lv_at hl 5 rfl) ?_
  refine wq_cV_A X S hv q1576 q1578 qs32 q60 ⟨by decide +kernel, by decide +kernel⟩ (nA := 1) (As := [.int v4]) (by decide +kernel) rfl rfl (by simp [wv_rfc, wv_kI, wv_kJ, wv_kF, wv_kD]) hl.1 dX1_match_31 (fun x31 w31 H locs cells slots S hv => ?_) (wq_kx X rfl)
  refine wq_astore X (i := 6) (lv' := [(6, va_rf x31), (5, va_rf x2), (0, va_rf v0), (1, .int v1), (2, .int v2), (3, .int v3), (4, .int v4)]) dX1_match_34 hl (by decide) (by simp [wv_rfc, wv_kI, wv_kJ, wv_kF, wv_kD]) (fun ls hl => ?_)
  refine wq_aload X dX1_match_36 (lv_at hl 0 rfl) ?_
  refine wq_gAN X S hv ccX19 in_X19 (k := 3) (by decide) q1546 dX1_match_38 (fun x38 hv => ?_)
  refine wq_aload_n X dX1_match_41 rfl (lv_at hl 2 rfl) ?_
  refine wq_aload X dX1_match_42 (lv_at hl 1 rfl) ?_
  refine lv_iload_n X.hx X.hb dX1_match_44 rfl (lv_at hl 4 rfl) ?_
  refine lv_iload_n X.hx X.hb dX1_match_45 rfl (lv_at hl 5 rfl) ?_
  refine wq_cV_A X S hv q700 q702 qs5 q60 ⟨by decide +kernel, by decide +kernel⟩ (nA := 3) (As := [va_rf x2, .int v2, .int v3]) (by decide +kernel) rfl rfl (by simp [wv_rfc, wv_kI, wv_kJ, wv_kF, wv_kD]) hl.1 dX1_match_46 (fun x46 w46 H locs cells slots S hv => ?_) (wq_kx X rfl)
  refine wq_cF_I X S hv q831 ⟨by decide +kernel, by decide +kernel⟩ (nA := 1) (As := [va_rf x46]) (by decide +kernel) rfl rfl (by simp [wv_rfc, wv_kI, wv_kJ, wv_kF, wv_kD]) hl.1 dX1_match_49 (fun x49 w49 H locs cells slots S hv => ?_) (wq_kx X rfl)
  exact wr_iret X S hv.1 hv.2 dX1_match_54
theorem wk_X1_match {G : wv_G} (hG : wv_G0 G) {v0 : Option Nat} {v1 : Int32} {v2 : Int32} {v3 : Int32} {v4 : Int32} {h : wv_H} {fr kc ks : Nat} {P : wv_R → wv_H → Prop} (hv : vc_X1_match_0 G fr P v0 v1 v2 v3 v4 (h, kc, ks)) : wv_C G yX1_match [va_rf v0, .int v1, .int v2, .int v3, .int v4] h fr kc ks P := by
  refine wv_enter (lv := [(0, va_rf v0), (1, .int v1), (2, .int v2), (3, .int v3), (4, .int v4)]) hG (by decide +kernel) q1607 (by decide) (by simp [lg_sl, wv_rfc, wv_kI, wv_kJ, wv_kF, wv_kD]) (by simp [lv_args, wv_rfc, wv_kI, wv_kJ, wv_kF, wv_kD]) ?_
  intro p e R s m args below meth c X H locs cells slots ls S hl
  exact wk_X1_match_0 X hv H locs cells slots ls S (lv_sub hl [0, 1, 2, 3, 4] rfl)

def vc_X1_meanSteps_80 (G : wv_G) (fr : Nat) (P : wv_R → wv_H → Prop) (K6 : ((Option Nat) × Int32 × Int32 × Int32) → wv_W → Prop) (K20 : ((Option Nat) × Int32 × Int32 × Int32 × Int32) → wv_W → Prop) (v0 : Option Nat) (v1 : Int32) (v3 : Int32) (v4 : Int32) (s0 : Int32) (s1 : Int32) (w : wv_W) : Prop :=
  K20 (v0, v1, (s1 + s0), v3, (v4 + (1 : Int32))) w
def vc_X1_meanSteps_20 (G : wv_G) (fr : Nat) (P : wv_R → wv_H → Prop) (K6 : ((Option Nat) × Int32 × Int32 × Int32) → wv_W → Prop) (K20 : ((Option Nat) × Int32 × Int32 × Int32 × Int32) → wv_W → Prop) (v0 : Option Nat) (v1 : Int32) (v2 : Int32) (v3 : Int32) (v4 : Int32) (w : wv_W) : Prop :=
  ((6 : Int32) ≤ v4 → K6 (v0, v1, v2, (v3 + (1 : Int32))) w) ∧ (¬ (6 : Int32) ≤ v4 → wv_gA w v0 ciX1 0 (fun x29 => wv_cV G fr yJ2_get x29 [.int v3] w (wv_rA (fun x33 w33 => wv_cc G w33 x33 "Weaversgate$Type" (wv_gA w33 x33 ciX6 2 (fun x39 => wv_cV G fr yJ2_get x39 [.int v4] w33 (wv_rA (fun x44 w44 => wv_cc G w44 x44 "java/util/ArrayList" (wv_cV G fr yJ2_size x44 [] w44 (wv_rI (fun x50 w50 => wv_gA w50 v0 ciX1 0 (fun x57 => wv_cV G fr yJ2_get x57 [.int v3] w50 (wv_rA (fun x61 w61 => wv_cc G w61 x61 "Weaversgate$Type" (wv_cV G fr yX6_hasBody x61 [.int v4] w61 (wv_rI (fun x69 w69 => (x69 = 0 → vc_X1_meanSteps_80 G fr P K6 K20 v0 (v1 + x50) v3 v4 (0 : Int32) v2 w69) ∧ (¬ x69 = 0 → vc_X1_meanSteps_80 G fr P K6 K20 v0 (v1 + x50) v3 v4 (1 : Int32) v2 w69)) (wv_pr P)))) (wv_pr P)))) (wv_pr P)))) (wv_pr P))))) (wv_pr P))))
def vc_X1_meanSteps_6 (G : wv_G) (fr : Nat) (P : wv_R → wv_H → Prop) (K6 : ((Option Nat) × Int32 × Int32 × Int32) → wv_W → Prop) (v0 : Option Nat) (v1 : Int32) (v2 : Int32) (v3 : Int32) (w : wv_W) : Prop :=
  wv_gA w v0 ciX1 0 (fun x8 => wv_cV G fr yJ2_size x8 [] w (wv_rI (fun x11 w11 => (x11 ≤ v3 → (¬ v2 = 0 → (vf_n64 (FP.ddiv (FP.i2d v1) (FP.i2d v2))) ∧ (P (.inl (some (.double (FP.ddiv (FP.i2d v1) (FP.i2d v2))))) w11.1)) ∧ (v2 = 0 → wv_no G w11 (wo_o ciJ25 [va_rf none, va_rf none, va_rf none, va_rf none, va_rf none, .int 0]) 6 (fun a98 w98 => wv_cI G fr yJ25_init_2 (some a98) [] w98 (wv_rV (fun w102 => wv_at w102 (some a98) (wv_pr P)) (wv_pr P))))) ∧ (¬ x11 ≤ v3 → wv_L (fun K20 a w => vc_X1_meanSteps_20 G fr P K6 K20 a.1 a.2.1 a.2.2.1 a.2.2.2.1 a.2.2.2.2 w) (v0, v1, v2, v3, (0 : Int32)) w11)) (wv_pr P)))
def vc_X1_meanSteps_0 (G : wv_G) (fr : Nat) (P : wv_R → wv_H → Prop) (v0 : Option Nat) (w : wv_W) : Prop :=
  wv_L (fun K6 a w => vc_X1_meanSteps_6 G fr P K6 a.1 a.2.1 a.2.2.1 a.2.2.2 w) (v0, (0 : Int32), (0 : Int32), (0 : Int32)) w
set_option maxHeartbeats 4000000 in
theorem wk_X1_meanSteps_80 {G : wv_G} {p : Program} {e : Env} {R : Room} {s : State} {m : MethodId} {args : Array Value} {below : List Frame} {meth : Method} {c : Code} {fr : Nat} {P : wv_R → wv_H → Prop} (X : wv_ok G p R s m args meth c fr "Weaversgate" cX1_meanSteps 5 (Option.some Jvm.ClassFile.FieldType.double) "meanSteps" []) {K6 : ((Option Nat) × Int32 × Int32 × Int32) → wv_W → Prop} (hK6 : ∀ a w, K6 a w → wv_J G p e R s m args below meth c 5 P w 6 [(0, va_rf a.1), (1, .int a.2.1), (2, .int a.2.2.1), (3, .int a.2.2.2)] []) {K20 : ((Option Nat) × Int32 × Int32 × Int32 × Int32) → wv_W → Prop} (hK20 : ∀ a w, K20 a w → wv_J G p e R s m args below meth c 5 P w 20 [(0, va_rf a.1), (1, .int a.2.1), (2, .int a.2.2.1), (3, .int a.2.2.2.1), (4, .int a.2.2.2.2)] []) {v0 : Option Nat} {v1 : Int32} {v3 : Int32} {v4 : Int32} {s0 : Int32} {s1 : Int32} {w : wv_W} (hv : vc_X1_meanSteps_80 G fr P K6 K20 v0 v1 v3 v4 s0 s1 w) : wv_J G p e R s m args below meth c 5 P w 80 [(0, va_rf v0), (1, .int v1), (3, .int v3), (4, .int v4)] [.int s0, .int s1] := by
  intro H locs cells slots ls S hl
  unfold vc_X1_meanSteps_80 at hv
  refine lv_iadd X.hx X.hb dX1_meanSteps_80 ?_
  refine lv_istore_n X.hx X.hb (i := 2) (lv' := [(2, .int (s1 + s0)), (0, va_rf v0), (1, .int v1), (3, .int v3), (4, .int v4)]) dX1_meanSteps_81 rfl hl (by decide) (by simp [wv_rfc, wv_kI, wv_kJ, wv_kF, wv_kD]) (fun ls hl => ?_)
  refine lv_iinc (v := (v4 + (1 : Int32))) (lv' := [(4, .int (v4 + (1 : Int32))), (2, .int (s1 + s0)), (0, va_rf v0), (1, .int v1), (3, .int v3)]) X.hx X.hb dX1_meanSteps_82 hl (k := 4) rfl (by rfl) (by decide) (by simp [wv_rfc, wv_kI, wv_kJ, wv_kF, wv_kD]) (fun ls hl => ?_)
  refine lv_goto (tgt := 20) X.hx X.hb dX1_meanSteps_85 (by decide) ?_
  exact hK20 _ _ hv H locs cells slots ls S (lv_sub hl [2, 3, 1, 4, 0] rfl)
set_option maxHeartbeats 4000000 in
theorem wk_X1_meanSteps_20 {G : wv_G} {p : Program} {e : Env} {R : Room} {s : State} {m : MethodId} {args : Array Value} {below : List Frame} {meth : Method} {c : Code} {fr : Nat} {P : wv_R → wv_H → Prop} (X : wv_ok G p R s m args meth c fr "Weaversgate" cX1_meanSteps 5 (Option.some Jvm.ClassFile.FieldType.double) "meanSteps" []) {K6 : ((Option Nat) × Int32 × Int32 × Int32) → wv_W → Prop} (hK6 : ∀ a w, K6 a w → wv_J G p e R s m args below meth c 5 P w 6 [(0, va_rf a.1), (1, .int a.2.1), (2, .int a.2.2.1), (3, .int a.2.2.2)] []) {K20 : ((Option Nat) × Int32 × Int32 × Int32 × Int32) → wv_W → Prop} (hK20 : ∀ a w, K20 a w → wv_J G p e R s m args below meth c 5 P w 20 [(0, va_rf a.1), (1, .int a.2.1), (2, .int a.2.2.1), (3, .int a.2.2.2.1), (4, .int a.2.2.2.2)] []) {v0 : Option Nat} {v1 : Int32} {v2 : Int32} {v3 : Int32} {v4 : Int32} {w : wv_W} (hv : vc_X1_meanSteps_20 G fr P K6 K20 v0 v1 v2 v3 v4 w) : wv_J G p e R s m args below meth c 5 P w 20 [(0, va_rf v0), (1, .int v1), (2, .int v2), (3, .int v3), (4, .int v4)] [] := by
  intro H locs cells slots ls S hl
  unfold vc_X1_meanSteps_20 at hv
  refine lv_iload X.hx X.hb dX1_meanSteps_20 (lv_at hl 4 rfl) ?_
  refine lv_bipush (v := (6 : Int32)) X.hx X.hb dX1_meanSteps_22 (by decide) ?_
  refine lv_icmp_ge (tgt := 88) X.hx X.hb dX1_meanSteps_24 (by decide) (fun c24 => ?_) (fun c24 => ?_)
  · have hv := hv.1 c24
    refine lv_iinc (v := (v3 + (1 : Int32))) (lv' := [(3, .int (v3 + (1 : Int32))), (0, va_rf v0), (1, .int v1), (2, .int v2), (4, .int v4)]) X.hx X.hb dX1_meanSteps_88 hl (k := 3) rfl (by rfl) (by decide) (by simp [wv_rfc, wv_kI, wv_kJ, wv_kF, wv_kD]) (fun ls hl => ?_)
    refine lv_goto (tgt := 6) X.hx X.hb dX1_meanSteps_91 (by decide) ?_
    exact hK6 _ _ hv H locs cells slots ls S (lv_sub hl [1, 2, 3, 0] rfl)
  · have hv := hv.2 c24
    refine lv_iload_n X.hx X.hb dX1_meanSteps_27 rfl (lv_at hl 1 rfl) ?_
    refine wq_aload_n X dX1_meanSteps_28 rfl (lv_at hl 0 rfl) ?_
    refine wq_gA X S hv ccX1 in_X1 (k := 0) (by decide) q225 dX1_meanSteps_29 (fun x29 hv => ?_)
    refine lv_iload_n X.hx X.hb dX1_meanSteps_32 rfl (lv_at hl 3 rfl) ?_
    refine wq_cV_A X S hv q273 q274 q275 q63 ⟨by decide +kernel, by decide +kernel⟩ (nA := 1) (As := [.int v3]) (by decide +kernel) rfl rfl (by simp [wv_rfc, wv_kI, wv_kJ, wv_kF, wv_kD]) hl.1 dX1_meanSteps_33 (fun x33 w33 H locs cells slots S hv => ?_) (wq_kx X rfl)
    refine wq_cc X S hv q287 dX1_meanSteps_36 (fun hv => ?_)
    refine wq_gAN X S hv ccX6 in_X6 (k := 2) (by decide) q1295 dX1_meanSteps_39 (fun x39 hv => ?_)
    refine lv_iload X.hx X.hb dX1_meanSteps_42 (lv_at hl 4 rfl) ?_
    refine wq_cV_A X S hv q273 q274 q275 q63 ⟨by decide +kernel, by decide +kernel⟩ (nA := 1) (As := [.int v4]) (by decide +kernel) rfl rfl (by simp [wv_rfc, wv_kI, wv_kJ, wv_kF, wv_kD]) hl.1 dX1_meanSteps_44 (fun x44 w44 H locs cells slots S hv => ?_) (wq_kx X rfl)
    refine wq_cc X S hv q127 dX1_meanSteps_47 (fun hv => ?_)
    refine wq_cV_I X S hv q269 q270 q271 q63 ⟨by decide +kernel, by decide +kernel⟩ (nA := 0) (As := []) (by decide +kernel) rfl rfl (by simp [wv_rfc, wv_kI, wv_kJ, wv_kF, wv_kD]) hl.1 dX1_meanSteps_50 (fun x50 w50 H locs cells slots S hv => ?_) (wq_kx X rfl)
    refine lv_iadd X.hx X.hb dX1_meanSteps_53 ?_
    refine lv_istore_n X.hx X.hb (i := 1) (lv' := [(1, .int (v1 + x50)), (0, va_rf v0), (2, .int v2), (3, .int v3), (4, .int v4)]) dX1_meanSteps_54 rfl hl (by decide) (by simp [wv_rfc, wv_kI, wv_kJ, wv_kF, wv_kD]) (fun ls hl => ?_)
    refine lv_iload_n X.hx X.hb dX1_meanSteps_55 rfl (lv_at hl 2 rfl) ?_
    refine wq_aload_n X dX1_meanSteps_56 rfl (lv_at hl 1 rfl) ?_
    refine wq_gA X S hv ccX1 in_X1 (k := 0) (by decide) q225 dX1_meanSteps_57 (fun x57 hv => ?_)
    refine lv_iload_n X.hx X.hb dX1_meanSteps_60 rfl (lv_at hl 3 rfl) ?_
    refine wq_cV_A X S hv q273 q274 q275 q63 ⟨by decide +kernel, by decide +kernel⟩ (nA := 1) (As := [.int v3]) (by decide +kernel) rfl rfl (by simp [wv_rfc, wv_kI, wv_kJ, wv_kF, wv_kD]) hl.1 dX1_meanSteps_61 (fun x61 w61 H locs cells slots S hv => ?_) (wq_kx X rfl)
    refine wq_cc X S hv q287 dX1_meanSteps_64 (fun hv => ?_)
    refine lv_iload X.hx X.hb dX1_meanSteps_67 (lv_at hl 4 rfl) ?_
    refine wq_cV_I X S hv q292 q293 q294 q77 ⟨by decide +kernel, by decide +kernel⟩ (nA := 1) (As := [.int v4]) (by decide +kernel) rfl rfl (by simp [wv_rfc, wv_kI, wv_kJ, wv_kF, wv_kD]) hl.1 dX1_meanSteps_69 (fun x69 w69 H locs cells slots S hv => ?_) (wq_kx X rfl)
    refine lv_if_eq (tgt := 79) X.hx X.hb dX1_meanSteps_72 (by decide) (fun c72 => ?_) (fun c72 => ?_)
    · have hv := hv.1 c72
      refine lv_iconst (v := (0 : Int32)) X.hx X.hb dX1_meanSteps_79 (by decide) ?_
      exact wk_X1_meanSteps_80 X hK6 hK20 hv H locs cells slots ls S (lv_sub hl [1, 0, 3, 4] rfl)
    · have hv := hv.2 c72
      refine lv_iconst (v := (1 : Int32)) X.hx X.hb dX1_meanSteps_75 (by decide) ?_
      refine lv_goto (tgt := 80) X.hx X.hb dX1_meanSteps_76 (by decide) ?_
      exact wk_X1_meanSteps_80 X hK6 hK20 hv H locs cells slots ls S (lv_sub hl [1, 0, 3, 4] rfl)
set_option maxHeartbeats 4000000 in
theorem wk_X1_meanSteps_6 {G : wv_G} {p : Program} {e : Env} {R : Room} {s : State} {m : MethodId} {args : Array Value} {below : List Frame} {meth : Method} {c : Code} {fr : Nat} {P : wv_R → wv_H → Prop} (X : wv_ok G p R s m args meth c fr "Weaversgate" cX1_meanSteps 5 (Option.some Jvm.ClassFile.FieldType.double) "meanSteps" []) {K6 : ((Option Nat) × Int32 × Int32 × Int32) → wv_W → Prop} (hK6 : ∀ a w, K6 a w → wv_J G p e R s m args below meth c 5 P w 6 [(0, va_rf a.1), (1, .int a.2.1), (2, .int a.2.2.1), (3, .int a.2.2.2)] []) {v0 : Option Nat} {v1 : Int32} {v2 : Int32} {v3 : Int32} {w : wv_W} (hv : vc_X1_meanSteps_6 G fr P K6 v0 v1 v2 v3 w) : wv_J G p e R s m args below meth c 5 P w 6 [(0, va_rf v0), (1, .int v1), (2, .int v2), (3, .int v3)] [] := by
  intro H locs cells slots ls S hl
  unfold vc_X1_meanSteps_6 at hv
  refine lv_iload_n X.hx X.hb dX1_meanSteps_6 rfl (lv_at hl 3 rfl) ?_
  refine wq_aload_n X dX1_meanSteps_7 rfl (lv_at hl 0 rfl) ?_
  refine wq_gA X S hv ccX1 in_X1 (k := 0) (by decide) q225 dX1_meanSteps_8 (fun x8 hv => ?_)
  refine wq_cV_I X S hv q269 q270 q271 q63 ⟨by decide +kernel, by decide +kernel⟩ (nA := 0) (As := []) (by decide +kernel) rfl rfl (by simp [wv_rfc, wv_kI, wv_kJ, wv_kF, wv_kD]) hl.1 dX1_meanSteps_11 (fun x11 w11 H locs cells slots S hv => ?_) (wq_kx X rfl)
  refine lv_icmp_ge (tgt := 94) X.hx X.hb dX1_meanSteps_14 (by decide) (fun c14 => ?_) (fun c14 => ?_)
  · have hv := hv.1 c14
    refine lv_iload_n X.hx X.hb dX1_meanSteps_94 rfl (lv_at hl 2 rfl) ?_
    refine lv_if_ne (tgt := 106) X.hx X.hb dX1_meanSteps_95 (by decide) (fun c95 => ?_) (fun c95 => ?_)
    · have hv := hv.1 c95
      refine lv_iload_n X.hx X.hb dX1_meanSteps_106 rfl (lv_at hl 1 rfl) ?_
      refine lv_i2d X.hx X.hb dX1_meanSteps_107 ?_
      refine lv_iload_n X.hx X.hb dX1_meanSteps_108 rfl (lv_at hl 2 rfl) ?_
      refine lv_i2d X.hx X.hb dX1_meanSteps_109 ?_
      refine lv_ddiv X.hx X.hb dX1_meanSteps_110 hv.1 ?_
      have hv := hv.2
      exact wr_dret X S hv dX1_meanSteps_111
    · have hv := hv.2 c95
      refine wq_new X S hv tyJ25 tyJ25_ok ccJ25 in_J25 q1746 q1729 q118 (fun j hj => by have hj : j < 6 := hj; rcases (show j = 0 ∨ j = 1 ∨ j = 2 ∨ j = 3 ∨ j = 4 ∨ j = 5 by omega) with rfl | rfl | rfl | rfl | rfl | rfl <;> rfl) dX1_meanSteps_98 (fun a98 w98 H cells slots S hv => ?_)
      refine lv_dup X.hx X.hb dX1_meanSteps_101 (wv_rfc _) ?_
      refine wq_cI_V X S hv rfl q1747 q1748 q1749 q118 ⟨by decide +kernel, by decide +kernel⟩ (nA := 0) (As := []) (by decide +kernel) rfl rfl (by simp [wv_rfc, wv_kI, wv_kJ, wv_kF, wv_kD]) hl.1 dX1_meanSteps_102 (fun w102 H locs cells slots S hv => ?_) (wq_kx X rfl)
      exact wq_athrow X S hv dX1_meanSteps_105 (wq_kx X rfl)
  · have hv := hv.2 c14
    refine lv_iconst (v := (0 : Int32)) X.hx X.hb dX1_meanSteps_17 (by decide) ?_
    refine lv_istore X.hx X.hb (i := 4) (lv' := [(4, .int (0 : Int32)), (0, va_rf v0), (1, .int v1), (2, .int v2), (3, .int v3)]) dX1_meanSteps_18 hl (by decide) (by simp [wv_rfc, wv_kI, wv_kJ, wv_kF, wv_kD]) (fun ls hl => ?_)
    exact wv_loop (A := (Option Nat) × Int32 × Int32 × Int32 × Int32) (fun a w => wv_J G p e R s m args below meth c 5 P w 20 [(0, va_rf a.1), (1, .int a.2.1), (2, .int a.2.2.1), (3, .int a.2.2.2.1), (4, .int a.2.2.2.2)] []) (fun K20 hK20 a w hv => wk_X1_meanSteps_20 X hK6 hK20 hv) hv H locs cells slots ls S (lv_sub hl [1, 2, 3, 4, 0] rfl)
set_option maxHeartbeats 4000000 in
theorem wk_X1_meanSteps_0 {G : wv_G} {p : Program} {e : Env} {R : Room} {s : State} {m : MethodId} {args : Array Value} {below : List Frame} {meth : Method} {c : Code} {fr : Nat} {P : wv_R → wv_H → Prop} (X : wv_ok G p R s m args meth c fr "Weaversgate" cX1_meanSteps 5 (Option.some Jvm.ClassFile.FieldType.double) "meanSteps" []) {v0 : Option Nat} {w : wv_W} (hv : vc_X1_meanSteps_0 G fr P v0 w) : wv_J G p e R s m args below meth c 5 P w 0 [(0, va_rf v0)] [] := by
  intro H locs cells slots ls S hl
  unfold vc_X1_meanSteps_0 at hv
  refine lv_iconst (v := (0 : Int32)) X.hx X.hb dX1_meanSteps_0 (by decide) ?_
  refine lv_istore_n X.hx X.hb (i := 1) (lv' := [(1, .int (0 : Int32)), (0, va_rf v0)]) dX1_meanSteps_1 rfl hl (by decide) (by simp [wv_rfc, wv_kI, wv_kJ, wv_kF, wv_kD]) (fun ls hl => ?_)
  refine lv_iconst (v := (0 : Int32)) X.hx X.hb dX1_meanSteps_2 (by decide) ?_
  refine lv_istore_n X.hx X.hb (i := 2) (lv' := [(2, .int (0 : Int32)), (1, .int (0 : Int32)), (0, va_rf v0)]) dX1_meanSteps_3 rfl hl (by decide) (by simp [wv_rfc, wv_kI, wv_kJ, wv_kF, wv_kD]) (fun ls hl => ?_)
  refine lv_iconst (v := (0 : Int32)) X.hx X.hb dX1_meanSteps_4 (by decide) ?_
  refine lv_istore_n X.hx X.hb (i := 3) (lv' := [(3, .int (0 : Int32)), (2, .int (0 : Int32)), (1, .int (0 : Int32)), (0, va_rf v0)]) dX1_meanSteps_5 rfl hl (by decide) (by simp [wv_rfc, wv_kI, wv_kJ, wv_kF, wv_kD]) (fun ls hl => ?_)
  exact wv_loop (A := (Option Nat) × Int32 × Int32 × Int32) (fun a w => wv_J G p e R s m args below meth c 5 P w 6 [(0, va_rf a.1), (1, .int a.2.1), (2, .int a.2.2.1), (3, .int a.2.2.2)] []) (fun K6 hK6 a w hv => wk_X1_meanSteps_6 X hK6 hv) hv H locs cells slots ls S (lv_sub hl [3, 2, 1, 0] rfl)
theorem wk_X1_meanSteps {G : wv_G} (hG : wv_G0 G) {v0 : Option Nat} {h : wv_H} {fr kc ks : Nat} {P : wv_R → wv_H → Prop} (hv : vc_X1_meanSteps_0 G fr P v0 (h, kc, ks)) : wv_C G yX1_meanSteps [va_rf v0] h fr kc ks P := by
  refine wv_enter (lv := [(0, va_rf v0)]) hG (by decide +kernel) q1757 (by decide) (by simp [lg_sl, wv_rfc, wv_kI, wv_kJ, wv_kF, wv_kD]) (by simp [lv_args, wv_rfc, wv_kI, wv_kJ, wv_kF, wv_kD]) ?_
  intro p e R s m args below meth c X H locs cells slots ls S hl
  exact wk_X1_meanSteps_0 X hv H locs cells slots ls S (lv_sub hl [0] rfl)

def vc_X1_pattern_0 (G : wv_G) (fr : Nat) (P : wv_R → wv_H → Prop) (v0 : Option Nat) (v1 : Int32) (w : wv_W) : Prop :=
  wv_gA w v0 ciX1 1 (fun x3 => wv_cV G fr yJ2_size x3 [] w (wv_rI (fun x6 w6 => wv_c0 G fr yX1_inRange [.int v1, .int (0 : Int32), .int (x6 - (1 : Int32))] w6 (wv_rI (fun x11 w11 => wv_c0 G fr yX1_checkFound [.int x11] w11 (wv_rV (fun w14 => wv_gA w14 v0 ciX1 1 (fun x18 => wv_cV G fr yJ2_get x18 [.int v1] w14 (wv_rA (fun x22 w22 => wv_cc G w22 x22 "Weaversgate$Pattern" (P (.inl (some (va_rf x22))) w22.1)) (wv_pr P)))) (wv_pr P))) (wv_pr P))) (wv_pr P)))
set_option maxHeartbeats 4000000 in
theorem wk_X1_pattern_0 {G : wv_G} {p : Program} {e : Env} {R : Room} {s : State} {m : MethodId} {args : Array Value} {below : List Frame} {meth : Method} {c : Code} {fr : Nat} {P : wv_R → wv_H → Prop} (X : wv_ok G p R s m args meth c fr "Weaversgate" cX1_pattern 2 (Option.some (Jvm.ClassFile.FieldType.object "Weaversgate$Pattern")) "pattern" []) {v0 : Option Nat} {v1 : Int32} {w : wv_W} (hv : vc_X1_pattern_0 G fr P v0 v1 w) : wv_J G p e R s m args below meth c 2 P w 0 [(0, va_rf v0), (1, .int v1)] [] := by
  intro H locs cells slots ls S hl
  unfold vc_X1_pattern_0 at hv
  refine lv_iload_n X.hx X.hb dX1_pattern_0 rfl (lv_at hl 1 rfl) ?_
  refine lv_iconst (v := (0 : Int32)) X.hx X.hb dX1_pattern_1 (by decide) ?_
  refine wq_aload_n X dX1_pattern_2 rfl (lv_at hl 0 rfl) ?_
  refine wq_gA X S hv ccX1 in_X1 (k := 1) (by decide) q227 dX1_pattern_3 (fun x3 hv => ?_)
  refine wq_cV_I X S hv q269 q270 q271 q63 ⟨by decide +kernel, by decide +kernel⟩ (nA := 0) (As := []) (by decide +kernel) rfl rfl (by simp [wv_rfc, wv_kI, wv_kJ, wv_kF, wv_kD]) hl.1 dX1_pattern_6 (fun x6 w6 H locs cells slots S hv => ?_) (wq_kx X rfl)
  refine lv_iconst (v := (1 : Int32)) X.hx X.hb dX1_pattern_9 (by decide) ?_
  refine lv_isub X.hx X.hb dX1_pattern_10 ?_
  refine wq_cS_I X S hv q1243 q1244 q60 ⟨by decide +kernel, by decide +kernel⟩ (nA := 3) (As := [.int v1, .int (0 : Int32), .int (x6 - (1 : Int32))]) (by decide +kernel) rfl rfl (by simp [wv_rfc, wv_kI, wv_kJ, wv_kF, wv_kD]) hl.1 dX1_pattern_11 (fun x11 w11 H locs cells slots S hv => ?_) (wq_kx X rfl)
  refine wq_cS_V X S hv q1437 q1438 q60 ⟨by decide +kernel, by decide +kernel⟩ (nA := 1) (As := [.int x11]) (by decide +kernel) rfl rfl (by simp [wv_rfc, wv_kI, wv_kJ, wv_kF, wv_kD]) hl.1 dX1_pattern_14 (fun w14 H locs cells slots S hv => ?_) (wq_kx X rfl)
  refine wq_aload_n X dX1_pattern_17 rfl (lv_at hl 0 rfl) ?_
  refine wq_gA X S hv ccX1 in_X1 (k := 1) (by decide) q227 dX1_pattern_18 (fun x18 hv => ?_)
  refine lv_iload_n X.hx X.hb dX1_pattern_21 rfl (lv_at hl 1 rfl) ?_
  refine wq_cV_A X S hv q273 q274 q275 q63 ⟨by decide +kernel, by decide +kernel⟩ (nA := 1) (As := [.int v1]) (by decide +kernel) rfl rfl (by simp [wv_rfc, wv_kI, wv_kJ, wv_kF, wv_kD]) hl.1 dX1_pattern_22 (fun x22 w22 H locs cells slots S hv => ?_) (wq_kx X rfl)
  refine wq_cc X S hv q1455 dX1_pattern_25 (fun hv => ?_)
  exact wr_aret X S (Or.inl ⟨_, rfl⟩) hv dX1_pattern_28
theorem wk_X1_pattern {G : wv_G} (hG : wv_G0 G) {v0 : Option Nat} {v1 : Int32} {h : wv_H} {fr kc ks : Nat} {P : wv_R → wv_H → Prop} (hv : vc_X1_pattern_0 G fr P v0 v1 (h, kc, ks)) : wv_C G yX1_pattern [va_rf v0, .int v1] h fr kc ks P := by
  refine wv_enter (lv := [(0, va_rf v0), (1, .int v1)]) hG (by decide +kernel) q1436 (by decide) (by simp [lg_sl, wv_rfc, wv_kI, wv_kJ, wv_kF, wv_kD]) (by simp [lv_args, wv_rfc, wv_kI, wv_kJ, wv_kF, wv_kD]) ?_
  intro p e R s m args below meth c X H locs cells slots ls S hl
  exact wk_X1_pattern_0 X hv H locs cells slots ls S (lv_sub hl [0, 1] rfl)

def vc_X1_placeOf_13 (G : wv_G) (fr : Nat) (P : wv_R → wv_H → Prop) (K13 : ((Option Nat) × (Option Nat) × Int32 × Int32 × (Option Nat)) → wv_W → Prop) (v0 : Option Nat) (v1 : Option Nat) (v2 : Int32) (v3 : Int32) (v4 : Option Nat) (w : wv_W) : Prop :=
  wv_cV G fr yJ2_size v4 [] w (wv_rI (fun x15 w15 => (v3 < x15 → wv_cV G fr yJ2_get v4 [.int v3] w15 (wv_rA (fun x45 w45 => wv_cc G w45 x45 "Weaversgate$Place" (P (.inl (some (va_rf x45))) w45.1)) (wv_pr P))) ∧ (¬ v3 < x15 → wv_cV G fr yJ2_size v4 [] w15 (wv_rI (fun x29 w29 => wv_cV G fr yX1_madePlace v0 [va_rf v1, .int v2, .int x29] w29 (wv_rA (fun x32 w32 => wv_cV G fr yJ2_add v4 [va_rf x32] w32 (wv_rI (fun x35 w35 => K13 (v0, v1, v2, v3, v4) w35) (wv_pr P))) (wv_pr P))) (wv_pr P)))) (wv_pr P))
def vc_X1_placeOf_0 (G : wv_G) (fr : Nat) (P : wv_R → wv_H → Prop) (v0 : Option Nat) (v1 : Option Nat) (v2 : Int32) (v3 : Int32) (w : wv_W) : Prop :=
  wv_gA w v1 ciX6 3 (fun x1 => wv_cV G fr yJ2_get x1 [.int v2] w (wv_rA (fun x5 w5 => wv_cc G w5 x5 "java/util/ArrayList" (wv_L (fun K13 a w => vc_X1_placeOf_13 G fr P K13 a.1 a.2.1 a.2.2.1 a.2.2.2.1 a.2.2.2.2 w) (v0, v1, v2, v3, x5) w5)) (wv_pr P)))
set_option maxHeartbeats 4000000 in
theorem wk_X1_placeOf_13 {G : wv_G} {p : Program} {e : Env} {R : Room} {s : State} {m : MethodId} {args : Array Value} {below : List Frame} {meth : Method} {c : Code} {fr : Nat} {P : wv_R → wv_H → Prop} (X : wv_ok G p R s m args meth c fr "Weaversgate" cX1_placeOf 5 (Option.some (Jvm.ClassFile.FieldType.object "Weaversgate$Place")) "placeOf" []) {K13 : ((Option Nat) × (Option Nat) × Int32 × Int32 × (Option Nat)) → wv_W → Prop} (hK13 : ∀ a w, K13 a w → wv_J G p e R s m args below meth c 5 P w 13 [(0, va_rf a.1), (1, va_rf a.2.1), (2, .int a.2.2.1), (3, .int a.2.2.2.1), (4, va_rf a.2.2.2.2)] []) {v0 : Option Nat} {v1 : Option Nat} {v2 : Int32} {v3 : Int32} {v4 : Option Nat} {w : wv_W} (hv : vc_X1_placeOf_13 G fr P K13 v0 v1 v2 v3 v4 w) : wv_J G p e R s m args below meth c 5 P w 13 [(0, va_rf v0), (1, va_rf v1), (2, .int v2), (3, .int v3), (4, va_rf v4)] [] := by
  intro H locs cells slots ls S hl
  unfold vc_X1_placeOf_13 at hv
  refine wq_aload X dX1_placeOf_13 (lv_at hl 4 rfl) ?_
  refine wq_cV_I X S hv q269 q270 q271 q63 ⟨by decide +kernel, by decide +kernel⟩ (nA := 0) (As := []) (by decide +kernel) rfl rfl (by simp [wv_rfc, wv_kI, wv_kJ, wv_kF, wv_kD]) hl.1 dX1_placeOf_15 (fun x15 w15 H locs cells slots S hv => ?_) (wq_kx X rfl)
  refine lv_iload_n X.hx X.hb dX1_placeOf_18 rfl (lv_at hl 3 rfl) ?_
  refine lv_icmp_gt (tgt := 42) X.hx X.hb dX1_placeOf_19 (by decide) (fun c19 => ?_) (fun c19 => ?_)
  · have hv := hv.1 c19
    refine wq_aload X dX1_placeOf_42 (lv_at hl 4 rfl) ?_
    refine lv_iload_n X.hx X.hb dX1_placeOf_44 rfl (lv_at hl 3 rfl) ?_
    refine wq_cV_A X S hv q273 q274 q275 q63 ⟨by decide +kernel, by decide +kernel⟩ (nA := 1) (As := [.int v3]) (by decide +kernel) rfl rfl (by simp [wv_rfc, wv_kI, wv_kJ, wv_kF, wv_kD]) hl.1 dX1_placeOf_45 (fun x45 w45 H locs cells slots S hv => ?_) (wq_kx X rfl)
    refine wq_cc X S hv q718 dX1_placeOf_48 (fun hv => ?_)
    exact wr_aret X S (Or.inl ⟨_, rfl⟩) hv dX1_placeOf_51
  · have hv := hv.2 c19
    refine wq_aload X dX1_placeOf_22 (lv_at hl 4 rfl) ?_
    refine wq_aload_n X dX1_placeOf_24 rfl (lv_at hl 0 rfl) ?_
    refine wq_aload_n X dX1_placeOf_25 rfl (lv_at hl 1 rfl) ?_
    refine lv_iload_n X.hx X.hb dX1_placeOf_26 rfl (lv_at hl 2 rfl) ?_
    refine wq_aload X dX1_placeOf_27 (lv_at hl 4 rfl) ?_
    refine wq_cV_I X S hv q269 q270 q271 q63 ⟨by decide +kernel, by decide +kernel⟩ (nA := 0) (As := []) (by decide +kernel) rfl rfl (by simp [wv_rfc, wv_kI, wv_kJ, wv_kF, wv_kD]) hl.1 dX1_placeOf_29 (fun x29 w29 H locs cells slots S hv => ?_) (wq_kx X rfl)
    refine wq_cV_A X S hv q704 q706 qs6 q60 ⟨by decide +kernel, by decide +kernel⟩ (nA := 3) (As := [va_rf v1, .int v2, .int x29]) (by decide +kernel) rfl rfl (by simp [wv_rfc, wv_kI, wv_kJ, wv_kF, wv_kD]) hl.1 dX1_placeOf_32 (fun x32 w32 H locs cells slots S hv => ?_) (wq_kx X rfl)
    refine wq_cV_I X S hv q751 q752 q753 q63 ⟨by decide +kernel, by decide +kernel⟩ (nA := 1) (As := [va_rf x32]) (by decide +kernel) rfl rfl (by simp [wv_rfc, wv_kI, wv_kJ, wv_kF, wv_kD]) hl.1 dX1_placeOf_35 (fun x35 w35 H locs cells slots S hv => ?_) (wq_kx X rfl)
    refine lv_pop X.hx X.hb dX1_placeOf_38 rfl ?_
    refine lv_goto (tgt := 13) X.hx X.hb dX1_placeOf_39 (by decide) ?_
    exact hK13 _ _ hv H locs cells slots ls S (lv_sub hl [0, 1, 2, 3, 4] rfl)
set_option maxHeartbeats 4000000 in
theorem wk_X1_placeOf_0 {G : wv_G} {p : Program} {e : Env} {R : Room} {s : State} {m : MethodId} {args : Array Value} {below : List Frame} {meth : Method} {c : Code} {fr : Nat} {P : wv_R → wv_H → Prop} (X : wv_ok G p R s m args meth c fr "Weaversgate" cX1_placeOf 5 (Option.some (Jvm.ClassFile.FieldType.object "Weaversgate$Place")) "placeOf" []) {v0 : Option Nat} {v1 : Option Nat} {v2 : Int32} {v3 : Int32} {w : wv_W} (hv : vc_X1_placeOf_0 G fr P v0 v1 v2 v3 w) : wv_J G p e R s m args below meth c 5 P w 0 [(0, va_rf v0), (1, va_rf v1), (2, .int v2), (3, .int v3)] [] := by
  intro H locs cells slots ls S hl
  unfold vc_X1_placeOf_0 at hv
  refine wq_aload_n X dX1_placeOf_0 rfl (lv_at hl 1 rfl) ?_
  refine wq_gAN X S hv ccX6 in_X6 (k := 3) (by decide) q1297 dX1_placeOf_1 (fun x1 hv => ?_)
  refine lv_iload_n X.hx X.hb dX1_placeOf_4 rfl (lv_at hl 2 rfl) ?_
  refine wq_cV_A X S hv q273 q274 q275 q63 ⟨by decide +kernel, by decide +kernel⟩ (nA := 1) (As := [.int v2]) (by decide +kernel) rfl rfl (by simp [wv_rfc, wv_kI, wv_kJ, wv_kF, wv_kD]) hl.1 dX1_placeOf_5 (fun x5 w5 H locs cells slots S hv => ?_) (wq_kx X rfl)
  refine wq_cc X S hv q127 dX1_placeOf_8 (fun hv => ?_)
  refine wq_astore X (i := 4) (lv' := [(4, va_rf x5), (0, va_rf v0), (1, va_rf v1), (2, .int v2), (3, .int v3)]) dX1_placeOf_11 hl (by decide) (by simp [wv_rfc, wv_kI, wv_kJ, wv_kF, wv_kD]) (fun ls hl => ?_)
  exact wv_loop (A := (Option Nat) × (Option Nat) × Int32 × Int32 × (Option Nat)) (fun a w => wv_J G p e R s m args below meth c 5 P w 13 [(0, va_rf a.1), (1, va_rf a.2.1), (2, .int a.2.2.1), (3, .int a.2.2.2.1), (4, va_rf a.2.2.2.2)] []) (fun K13 hK13 a w hv => wk_X1_placeOf_13 X hK13 hv) hv H locs cells slots ls S (lv_sub hl [1, 2, 3, 4, 0] rfl)
theorem wk_X1_placeOf {G : wv_G} (hG : wv_G0 G) {v0 : Option Nat} {v1 : Option Nat} {v2 : Int32} {v3 : Int32} {h : wv_H} {fr kc ks : Nat} {P : wv_R → wv_H → Prop} (hv : vc_X1_placeOf_0 G fr P v0 v1 v2 v3 (h, kc, ks)) : wv_C G yX1_placeOf [va_rf v0, va_rf v1, .int v2, .int v3] h fr kc ks P := by
  refine wv_enter (lv := [(0, va_rf v0), (1, va_rf v1), (2, .int v2), (3, .int v3)]) hG (by decide +kernel) q703 (by decide) (by simp [lg_sl, wv_rfc, wv_kI, wv_kJ, wv_kF, wv_kD]) (by simp [lv_args, wv_rfc, wv_kI, wv_kJ, wv_kF, wv_kD]) ?_
  intro p e R s m args below meth c X H locs cells slots ls S hl
  exact wk_X1_placeOf_0 X hv H locs cells slots ls S (lv_sub hl [0, 1, 2, 3] rfl)

def vc_X1_places_0 (G : wv_G) (fr : Nat) (P : wv_R → wv_H → Prop) (v0 : Option Nat) (v1 : Int32) (v2 : Int32) (w : wv_W) : Prop :=
  wv_cV G fr yX1_type v0 [.int v1] w (wv_rA (fun x2 w2 => wv_c0 G fr yX1_checkMethod [.int v2] w2 (wv_rV (fun w7 => wv_cV G fr yX1_placesOf v0 [va_rf x2, .int v2] w7 (wv_rI (fun x13 w13 => P (.inl (some (.int x13))) w13.1) (wv_pr P))) (wv_pr P))) (wv_pr P))
set_option maxHeartbeats 4000000 in
theorem wk_X1_places_0 {G : wv_G} {p : Program} {e : Env} {R : Room} {s : State} {m : MethodId} {args : Array Value} {below : List Frame} {meth : Method} {c : Code} {fr : Nat} {P : wv_R → wv_H → Prop} (X : wv_ok G p R s m args meth c fr "Weaversgate" cX1_places 4 (Option.some Jvm.ClassFile.FieldType.int) "places" []) {v0 : Option Nat} {v1 : Int32} {v2 : Int32} {w : wv_W} (hv : vc_X1_places_0 G fr P v0 v1 v2 w) : wv_J G p e R s m args below meth c 4 P w 0 [(0, va_rf v0), (1, .int v1), (2, .int v2)] [] := by
  intro H locs cells slots ls S hl
  unfold vc_X1_places_0 at hv
  refine wq_aload_n X dX1_places_0 rfl (lv_at hl 0 rfl) ?_
  refine lv_iload_n X.hx X.hb dX1_places_1 rfl (lv_at hl 1 rfl) ?_
  refine wq_cV_A X S hv q1239 q1241 qs27 q60 ⟨by decide +kernel, by decide +kernel⟩ (nA := 1) (As := [.int v1]) (by decide +kernel) rfl rfl (by simp [wv_rfc, wv_kI, wv_kJ, wv_kF, wv_kD]) hl.1 dX1_places_2 (fun x2 w2 H locs cells slots S hv => ?_) (wq_kx X rfl)
  refine wq_astore_n X (i := 3) (lv' := [(3, va_rf x2), (0, va_rf v0), (1, .int v1), (2, .int v2)]) dX1_places_5 rfl hl (by decide) (by simp [wv_rfc, wv_kI, wv_kJ, wv_kF, wv_kD]) (fun ls hl => ?_)
  refine lv_iload_n X.hx X.hb dX1_places_6 rfl (lv_at hl 3 rfl) ?_
  refine wq_cS_V X S hv q1323 q1324 q60 ⟨by decide +kernel, by decide +kernel⟩ (nA := 1) (As := [.int v2]) (by decide +kernel) rfl rfl (by simp [wv_rfc, wv_kI, wv_kJ, wv_kF, wv_kD]) hl.1 dX1_places_7 (fun w7 H locs cells slots S hv => ?_) (wq_kx X rfl)
  refine wq_aload_n X dX1_places_10 rfl (lv_at hl 1 rfl) ?_
  refine wq_aload_n X dX1_places_11 rfl (lv_at hl 0 rfl) ?_
  refine lv_iload_n X.hx X.hb dX1_places_12 rfl (lv_at hl 3 rfl) ?_
  refine wq_cV_I X S hv q288 q290 qs3 q60 ⟨by decide +kernel, by decide +kernel⟩ (nA := 2) (As := [va_rf x2, .int v2]) (by decide +kernel) rfl rfl (by simp [wv_rfc, wv_kI, wv_kJ, wv_kF, wv_kD]) hl.1 dX1_places_13 (fun x13 w13 H locs cells slots S hv => ?_) (wq_kx X rfl)
  exact wr_iret X S rfl hv dX1_places_16
theorem wk_X1_places {G : wv_G} (hG : wv_G0 G) {v0 : Option Nat} {v1 : Int32} {v2 : Int32} {h : wv_H} {fr kc ks : Nat} {P : wv_R → wv_H → Prop} (hv : vc_X1_places_0 G fr P v0 v1 v2 (h, kc, ks)) : wv_C G yX1_places [va_rf v0, .int v1, .int v2] h fr kc ks P := by
  refine wv_enter (lv := [(0, va_rf v0), (1, .int v1), (2, .int v2)]) hG (by decide +kernel) q1600 (by decide) (by simp [lg_sl, wv_rfc, wv_kI, wv_kJ, wv_kF, wv_kD]) (by simp [lv_args, wv_rfc, wv_kI, wv_kJ, wv_kF, wv_kD]) ?_
  intro p e R s m args below meth c X H locs cells slots ls S hl
  exact wk_X1_places_0 X hv H locs cells slots ls S (lv_sub hl [0, 1, 2] rfl)

def vc_X1_placesOf_30 (G : wv_G) (fr : Nat) (P : wv_R → wv_H → Prop) (K30 : (Int32 × (Option Nat) × Int32) → wv_W → Prop) (v3 : Int32) (v4 : Option Nat) (v5 : Int32) (w : wv_W) : Prop :=
  wv_cV G fr yJ2_size v4 [] w (wv_rI (fun x34 w34 => (x34 ≤ v5 → P (.inl (some (.int v3))) w34.1) ∧ (¬ x34 ≤ v5 → wv_cV G fr yJ2_get v4 [.int v5] w34 (wv_rA (fun x45 w45 => wv_cc G w45 x45 "Weaversgate$Step" (wv_cV G fr yX7_places x45 [] w45 (wv_rI (fun x51 w51 => K30 ((v3 + x51), v4, (v5 + (1 : Int32))) w51) (wv_pr P)))) (wv_pr P)))) (wv_pr P))
def vc_X1_placesOf_13 (G : wv_G) (fr : Nat) (P : wv_R → wv_H → Prop) (v1 : Option Nat) (v2 : Int32) (s0 : Int32) (w : wv_W) : Prop :=
  wv_gA w v1 ciX6 2 (fun x15 => wv_cV G fr yJ2_get x15 [.int v2] w (wv_rA (fun x19 w19 => wv_cc G w19 x19 "java/util/ArrayList" (wv_L (fun K30 a w => vc_X1_placesOf_30 G fr P K30 a.1 a.2.1 a.2.2 w) (s0, x19, (0 : Int32)) w19)) (wv_pr P)))
def vc_X1_placesOf_0 (G : wv_G) (fr : Nat) (P : wv_R → wv_H → Prop) (v1 : Option Nat) (v2 : Int32) (w : wv_W) : Prop :=
  wv_cV G fr yX6_hasBody v1 [.int v2] w (wv_rI (fun x2 w2 => (x2 = 0 → vc_X1_placesOf_13 G fr P v1 v2 (0 : Int32) w2) ∧ (¬ x2 = 0 → vc_X1_placesOf_13 G fr P v1 v2 (1 : Int32) w2)) (wv_pr P))
set_option maxHeartbeats 4000000 in
theorem wk_X1_placesOf_30 {G : wv_G} {p : Program} {e : Env} {R : Room} {s : State} {m : MethodId} {args : Array Value} {below : List Frame} {meth : Method} {c : Code} {fr : Nat} {P : wv_R → wv_H → Prop} (X : wv_ok G p R s m args meth c fr "Weaversgate" cX1_placesOf 6 (Option.some Jvm.ClassFile.FieldType.int) "placesOf" []) {K30 : (Int32 × (Option Nat) × Int32) → wv_W → Prop} (hK30 : ∀ a w, K30 a w → wv_J G p e R s m args below meth c 6 P w 30 [(3, .int a.1), (4, va_rf a.2.1), (5, .int a.2.2)] []) {v3 : Int32} {v4 : Option Nat} {v5 : Int32} {w : wv_W} (hv : vc_X1_placesOf_30 G fr P K30 v3 v4 v5 w) : wv_J G p e R s m args below meth c 6 P w 30 [(3, .int v3), (4, va_rf v4), (5, .int v5)] [] := by
  intro H locs cells slots ls S hl
  unfold vc_X1_placesOf_30 at hv
  refine lv_iload X.hx X.hb dX1_placesOf_30 (lv_at hl 2 rfl) ?_
  refine wq_aload X dX1_placesOf_32 (lv_at hl 1 rfl) ?_
  refine wq_cV_I X S hv q269 q270 q271 q63 ⟨by decide +kernel, by decide +kernel⟩ (nA := 0) (As := []) (by decide +kernel) rfl rfl (by simp [wv_rfc, wv_kI, wv_kJ, wv_kF, wv_kD]) hl.1 dX1_placesOf_34 (fun x34 w34 H locs cells slots S hv => ?_) (wq_kx X rfl)
  refine lv_icmp_ge (tgt := 62) X.hx X.hb dX1_placesOf_37 (by decide) (fun c37 => ?_) (fun c37 => ?_)
  · have hv := hv.1 c37
    refine lv_iload_n X.hx X.hb dX1_placesOf_62 rfl (lv_at hl 0 rfl) ?_
    exact wr_iret X S rfl hv dX1_placesOf_63
  · have hv := hv.2 c37
    refine lv_iload_n X.hx X.hb dX1_placesOf_40 rfl (lv_at hl 0 rfl) ?_
    refine wq_aload X dX1_placesOf_41 (lv_at hl 1 rfl) ?_
    refine lv_iload X.hx X.hb dX1_placesOf_43 (lv_at hl 2 rfl) ?_
    refine wq_cV_A X S hv q273 q274 q275 q63 ⟨by decide +kernel, by decide +kernel⟩ (nA := 1) (As := [.int v5]) (by decide +kernel) rfl rfl (by simp [wv_rfc, wv_kI, wv_kJ, wv_kF, wv_kD]) hl.1 dX1_placesOf_45 (fun x45 w45 H locs cells slots S hv => ?_) (wq_kx X rfl)
    refine wq_cc X S hv q302 dX1_placesOf_48 (fun hv => ?_)
    refine wq_cV_I X S hv q303 q304 q305 q83 ⟨by decide +kernel, by decide +kernel⟩ (nA := 0) (As := []) (by decide +kernel) rfl rfl (by simp [wv_rfc, wv_kI, wv_kJ, wv_kF, wv_kD]) hl.1 dX1_placesOf_51 (fun x51 w51 H locs cells slots S hv => ?_) (wq_kx X rfl)
    refine lv_iadd X.hx X.hb dX1_placesOf_54 ?_
    refine lv_istore_n X.hx X.hb (i := 3) (lv' := [(3, .int (v3 + x51)), (4, va_rf v4), (5, .int v5)]) dX1_placesOf_55 rfl hl (by decide) rfl (fun ls hl => ?_)
    refine lv_iinc (v := (v5 + (1 : Int32))) (lv' := [(5, .int (v5 + (1 : Int32))), (3, .int (v3 + x51)), (4, va_rf v4)]) X.hx X.hb dX1_placesOf_56 hl (k := 2) rfl (by rfl) (by decide) (by simp [wv_rfc, wv_kI, wv_kJ, wv_kF, wv_kD]) (fun ls hl => ?_)
    refine lv_goto (tgt := 30) X.hx X.hb dX1_placesOf_59 (by decide) ?_
    exact hK30 _ _ hv H locs cells slots ls S (lv_sub hl [1, 2, 0] rfl)
set_option maxHeartbeats 4000000 in
theorem wk_X1_placesOf_13 {G : wv_G} {p : Program} {e : Env} {R : Room} {s : State} {m : MethodId} {args : Array Value} {below : List Frame} {meth : Method} {c : Code} {fr : Nat} {P : wv_R → wv_H → Prop} (X : wv_ok G p R s m args meth c fr "Weaversgate" cX1_placesOf 6 (Option.some Jvm.ClassFile.FieldType.int) "placesOf" []) {v1 : Option Nat} {v2 : Int32} {s0 : Int32} {w : wv_W} (hv : vc_X1_placesOf_13 G fr P v1 v2 s0 w) : wv_J G p e R s m args below meth c 6 P w 13 [(1, va_rf v1), (2, .int v2)] [.int s0] := by
  intro H locs cells slots ls S hl
  unfold vc_X1_placesOf_13 at hv
  refine lv_istore_n X.hx X.hb (i := 3) (lv' := [(3, .int s0), (1, va_rf v1), (2, .int v2)]) dX1_placesOf_13 rfl hl (by decide) (by simp [wv_rfc, wv_kI, wv_kJ, wv_kF, wv_kD]) (fun ls hl => ?_)
  refine wq_aload_n X dX1_placesOf_14 rfl (lv_at hl 1 rfl) ?_
  refine wq_gAN X S hv ccX6 in_X6 (k := 2) (by decide) q1295 dX1_placesOf_15 (fun x15 hv => ?_)
  refine lv_iload_n X.hx X.hb dX1_placesOf_18 rfl (lv_at hl 2 rfl) ?_
  refine wq_cV_A X S hv q273 q274 q275 q63 ⟨by decide +kernel, by decide +kernel⟩ (nA := 1) (As := [.int v2]) (by decide +kernel) rfl rfl (by simp [wv_rfc, wv_kI, wv_kJ, wv_kF, wv_kD]) hl.1 dX1_placesOf_19 (fun x19 w19 H locs cells slots S hv => ?_) (wq_kx X rfl)
  refine wq_cc X S hv q127 dX1_placesOf_22 (fun hv => ?_)
  refine wq_astore X (i := 4) (lv' := [(4, va_rf x19), (3, .int s0), (1, va_rf v1), (2, .int v2)]) dX1_placesOf_25 hl (by decide) (by simp [wv_rfc, wv_kI, wv_kJ, wv_kF, wv_kD]) (fun ls hl => ?_)
  refine lv_iconst (v := (0 : Int32)) X.hx X.hb dX1_placesOf_27 (by decide) ?_
  refine lv_istore X.hx X.hb (i := 5) (lv' := [(5, .int (0 : Int32)), (4, va_rf x19), (3, .int s0), (1, va_rf v1), (2, .int v2)]) dX1_placesOf_28 hl (by decide) (by simp [wv_rfc, wv_kI, wv_kJ, wv_kF, wv_kD]) (fun ls hl => ?_)
  exact wv_loop (A := Int32 × (Option Nat) × Int32) (fun a w => wv_J G p e R s m args below meth c 6 P w 30 [(3, .int a.1), (4, va_rf a.2.1), (5, .int a.2.2)] []) (fun K30 hK30 a w hv => wk_X1_placesOf_30 X hK30 hv) hv H locs cells slots ls S (lv_sub hl [2, 1, 0] rfl)
set_option maxHeartbeats 4000000 in
theorem wk_X1_placesOf_0 {G : wv_G} {p : Program} {e : Env} {R : Room} {s : State} {m : MethodId} {args : Array Value} {below : List Frame} {meth : Method} {c : Code} {fr : Nat} {P : wv_R → wv_H → Prop} (X : wv_ok G p R s m args meth c fr "Weaversgate" cX1_placesOf 6 (Option.some Jvm.ClassFile.FieldType.int) "placesOf" []) {v1 : Option Nat} {v2 : Int32} {w : wv_W} (hv : vc_X1_placesOf_0 G fr P v1 v2 w) : wv_J G p e R s m args below meth c 6 P w 0 [(1, va_rf v1), (2, .int v2)] [] := by
  intro H locs cells slots ls S hl
  unfold vc_X1_placesOf_0 at hv
  refine wq_aload_n X dX1_placesOf_0 rfl (lv_at hl 0 rfl) ?_
  refine lv_iload_n X.hx X.hb dX1_placesOf_1 rfl (lv_at hl 1 rfl) ?_
  refine wq_cV_I X S hv q292 q293 q294 q77 ⟨by decide +kernel, by decide +kernel⟩ (nA := 1) (As := [.int v2]) (by decide +kernel) rfl rfl (by simp [wv_rfc, wv_kI, wv_kJ, wv_kF, wv_kD]) hl.1 dX1_placesOf_2 (fun x2 w2 H locs cells slots S hv => ?_) (wq_kx X rfl)
  refine lv_if_eq (tgt := 12) X.hx X.hb dX1_placesOf_5 (by decide) (fun c5 => ?_) (fun c5 => ?_)
  · have hv := hv.1 c5
    refine lv_iconst (v := (0 : Int32)) X.hx X.hb dX1_placesOf_12 (by decide) ?_
    exact wk_X1_placesOf_13 X  hv H locs cells slots ls S (lv_sub hl [0, 1] rfl)
  · have hv := hv.2 c5
    refine lv_iconst (v := (1 : Int32)) X.hx X.hb dX1_placesOf_8 (by decide) ?_
    refine lv_goto (tgt := 13) X.hx X.hb dX1_placesOf_9 (by decide) ?_
    exact wk_X1_placesOf_13 X  hv H locs cells slots ls S (lv_sub hl [0, 1] rfl)
theorem wk_X1_placesOf {G : wv_G} (hG : wv_G0 G) {v0 : Option Nat} {v1 : Option Nat} {v2 : Int32} {h : wv_H} {fr kc ks : Nat} {P : wv_R → wv_H → Prop} (hv : vc_X1_placesOf_0 G fr P v1 v2 (h, kc, ks)) : wv_C G yX1_placesOf [va_rf v0, va_rf v1, .int v2] h fr kc ks P := by
  refine wv_enter (lv := [(0, va_rf v0), (1, va_rf v1), (2, .int v2)]) hG (by decide +kernel) q291 (by decide) (by simp [lg_sl, wv_rfc, wv_kI, wv_kJ, wv_kF, wv_kD]) (by simp [lv_args, wv_rfc, wv_kI, wv_kJ, wv_kF, wv_kD]) ?_
  intro p e R s m args below meth c X H locs cells slots ls S hl
  exact wk_X1_placesOf_0 X hv H locs cells slots ls S (lv_sub hl [1, 2] rfl)

def vc_X1_points_0 (G : wv_G) (fr : Nat) (P : wv_R → wv_H → Prop) (v0 : Option Nat) (w : wv_W) : Prop :=
  wv_gA w v0 ciX1 4 (fun x1 => wv_gI w x1 ciX2 4 (fun x4 => P (.inl (some (.int x4))) w.1))
set_option maxHeartbeats 4000000 in
theorem wk_X1_points_0 {G : wv_G} {p : Program} {e : Env} {R : Room} {s : State} {m : MethodId} {args : Array Value} {below : List Frame} {meth : Method} {c : Code} {fr : Nat} {P : wv_R → wv_H → Prop} (X : wv_ok G p R s m args meth c fr "Weaversgate" cX1_points 1 (Option.some Jvm.ClassFile.FieldType.int) "points" []) {v0 : Option Nat} {w : wv_W} (hv : vc_X1_points_0 G fr P v0 w) : wv_J G p e R s m args below meth c 1 P w 0 [(0, va_rf v0)] [] := by
  intro H locs cells slots ls S hl
  unfold vc_X1_points_0 at hv
  refine wq_aload_n X dX1_points_0 rfl (lv_at hl 0 rfl) ?_
  refine wq_gA X S hv ccX1 in_X1 (k := 4) (by decide) q231 dX1_points_1 (fun x1 hv => ?_)
  refine wq_gIN X S hv ccX2 in_X2 (k := 4) (by decide) q199 dX1_points_4 (fun x4 hv => ?_)
  exact wr_iret X S rfl hv dX1_points_7
theorem wk_X1_points {G : wv_G} (hG : wv_G0 G) {v0 : Option Nat} {h : wv_H} {fr kc ks : Nat} {P : wv_R → wv_H → Prop} (hv : vc_X1_points_0 G fr P v0 (h, kc, ks)) : wv_C G yX1_points [va_rf v0] h fr kc ks P := by
  refine wv_enter (lv := [(0, va_rf v0)]) hG (by decide +kernel) q917 (by decide) (by simp [lg_sl, wv_rfc, wv_kI, wv_kJ, wv_kF, wv_kD]) (by simp [lv_args, wv_rfc, wv_kI, wv_kJ, wv_kF, wv_kD]) ?_
  intro p e R s m args below meth c X H locs cells slots ls S hl
  exact wk_X1_points_0 X hv H locs cells slots ls S (lv_sub hl [0] rfl)

def vc_X1_possibleIn_46 (G : wv_G) (fr : Nat) (P : wv_R → wv_H → Prop) (K5 : ((Option Nat) × (Option Nat) × Int32 × Int32 × Int32) → wv_W → Prop) (v0 : Option Nat) (v1 : Option Nat) (v2 : Int32) (v4 : Int32) (s0 : Int32) (s1 : Int32) (w : wv_W) : Prop :=
  K5 (v0, v1, v2, (s1 ||| s0), (v4 + (1 : Int32))) w
def vc_X1_possibleIn_5 (G : wv_G) (fr : Nat) (P : wv_R → wv_H → Prop) (K5 : ((Option Nat) × (Option Nat) × Int32 × Int32 × Int32) → wv_W → Prop) (v0 : Option Nat) (v1 : Option Nat) (v2 : Int32) (v3 : Int32) (v4 : Int32) (w : wv_W) : Prop :=
  wv_gA w v0 ciX1 0 (fun x8 => wv_cV G fr yJ2_size x8 [] w (wv_rI (fun x11 w11 => (x11 ≤ v4 → P (.inl (some (.int v3))) w11.1) ∧ (¬ x11 ≤ v4 → wv_gA w11 v0 ciX1 0 (fun x19 => wv_cV G fr yJ2_get x19 [.int v4] w11 (wv_rA (fun x24 w24 => wv_cc G w24 x24 "Weaversgate$Type" (wv_cV G fr yX6_finder x24 [.int v2] w24 (wv_rA (fun x31 w31 => (¬ x31 = v1 → vc_X1_possibleIn_46 G fr P K5 v0 v1 v2 v4 (0 : Int32) v3 w31) ∧ (x31 = v1 → vc_X1_possibleIn_46 G fr P K5 v0 v1 v2 v4 ((1 : Int32) <<< (v4 &&& 31)) v3 w31)) (wv_pr P)))) (wv_pr P))))) (wv_pr P)))
def vc_X1_possibleIn_0 (G : wv_G) (fr : Nat) (P : wv_R → wv_H → Prop) (v0 : Option Nat) (v1 : Option Nat) (v2 : Int32) (w : wv_W) : Prop :=
  wv_L (fun K5 a w => vc_X1_possibleIn_5 G fr P K5 a.1 a.2.1 a.2.2.1 a.2.2.2.1 a.2.2.2.2 w) (v0, v1, v2, (0 : Int32), (0 : Int32)) w
set_option maxHeartbeats 4000000 in
theorem wk_X1_possibleIn_46 {G : wv_G} {p : Program} {e : Env} {R : Room} {s : State} {m : MethodId} {args : Array Value} {below : List Frame} {meth : Method} {c : Code} {fr : Nat} {P : wv_R → wv_H → Prop} (X : wv_ok G p R s m args meth c fr "Weaversgate" cX1_possibleIn 5 (Option.some Jvm.ClassFile.FieldType.int) "possibleIn" []) {K5 : ((Option Nat) × (Option Nat) × Int32 × Int32 × Int32) → wv_W → Prop} (hK5 : ∀ a w, K5 a w → wv_J G p e R s m args below meth c 5 P w 5 [(0, va_rf a.1), (1, va_rf a.2.1), (2, .int a.2.2.1), (3, .int a.2.2.2.1), (4, .int a.2.2.2.2)] []) {v0 : Option Nat} {v1 : Option Nat} {v2 : Int32} {v4 : Int32} {s0 : Int32} {s1 : Int32} {w : wv_W} (hv : vc_X1_possibleIn_46 G fr P K5 v0 v1 v2 v4 s0 s1 w) : wv_J G p e R s m args below meth c 5 P w 46 [(0, va_rf v0), (1, va_rf v1), (2, .int v2), (4, .int v4)] [.int s0, .int s1] := by
  intro H locs cells slots ls S hl
  unfold vc_X1_possibleIn_46 at hv
  refine lv_ior X.hx X.hb dX1_possibleIn_46 ?_
  refine lv_istore_n X.hx X.hb (i := 3) (lv' := [(3, .int (s1 ||| s0)), (0, va_rf v0), (1, va_rf v1), (2, .int v2), (4, .int v4)]) dX1_possibleIn_47 rfl hl (by decide) (by simp [wv_rfc, wv_kI, wv_kJ, wv_kF, wv_kD]) (fun ls hl => ?_)
  refine lv_iinc (v := (v4 + (1 : Int32))) (lv' := [(4, .int (v4 + (1 : Int32))), (3, .int (s1 ||| s0)), (0, va_rf v0), (1, va_rf v1), (2, .int v2)]) X.hx X.hb dX1_possibleIn_48 hl (k := 4) rfl (by rfl) (by decide) (by simp [wv_rfc, wv_kI, wv_kJ, wv_kF, wv_kD]) (fun ls hl => ?_)
  refine lv_goto (tgt := 5) X.hx X.hb dX1_possibleIn_51 (by decide) ?_
  exact hK5 _ _ hv H locs cells slots ls S (lv_sub hl [2, 3, 4, 1, 0] rfl)
set_option maxHeartbeats 4000000 in
theorem wk_X1_possibleIn_5 {G : wv_G} {p : Program} {e : Env} {R : Room} {s : State} {m : MethodId} {args : Array Value} {below : List Frame} {meth : Method} {c : Code} {fr : Nat} {P : wv_R → wv_H → Prop} (X : wv_ok G p R s m args meth c fr "Weaversgate" cX1_possibleIn 5 (Option.some Jvm.ClassFile.FieldType.int) "possibleIn" []) {K5 : ((Option Nat) × (Option Nat) × Int32 × Int32 × Int32) → wv_W → Prop} (hK5 : ∀ a w, K5 a w → wv_J G p e R s m args below meth c 5 P w 5 [(0, va_rf a.1), (1, va_rf a.2.1), (2, .int a.2.2.1), (3, .int a.2.2.2.1), (4, .int a.2.2.2.2)] []) {v0 : Option Nat} {v1 : Option Nat} {v2 : Int32} {v3 : Int32} {v4 : Int32} {w : wv_W} (hv : vc_X1_possibleIn_5 G fr P K5 v0 v1 v2 v3 v4 w) : wv_J G p e R s m args below meth c 5 P w 5 [(0, va_rf v0), (1, va_rf v1), (2, .int v2), (3, .int v3), (4, .int v4)] [] := by
  intro H locs cells slots ls S hl
  unfold vc_X1_possibleIn_5 at hv
  refine lv_iload X.hx X.hb dX1_possibleIn_5 (lv_at hl 4 rfl) ?_
  refine wq_aload_n X dX1_possibleIn_7 rfl (lv_at hl 0 rfl) ?_
  refine wq_gA X S hv ccX1 in_X1 (k := 0) (by decide) q225 dX1_possibleIn_8 (fun x8 hv => ?_)
  refine wq_cV_I X S hv q269 q270 q271 q63 ⟨by decide +kernel, by decide +kernel⟩ (nA := 0) (As := []) (by decide +kernel) rfl rfl (by simp [wv_rfc, wv_kI, wv_kJ, wv_kF, wv_kD]) hl.1 dX1_possibleIn_11 (fun x11 w11 H locs cells slots S hv => ?_) (wq_kx X rfl)
  refine lv_icmp_ge (tgt := 54) X.hx X.hb dX1_possibleIn_14 (by decide) (fun c14 => ?_) (fun c14 => ?_)
  · have hv := hv.1 c14
    refine lv_iload_n X.hx X.hb dX1_possibleIn_54 rfl (lv_at hl 3 rfl) ?_
    exact wr_iret X S rfl hv dX1_possibleIn_55
  · have hv := hv.2 c14
    refine lv_iload_n X.hx X.hb dX1_possibleIn_17 rfl (lv_at hl 3 rfl) ?_
    refine wq_aload_n X dX1_possibleIn_18 rfl (lv_at hl 0 rfl) ?_
    refine wq_gA X S hv ccX1 in_X1 (k := 0) (by decide) q225 dX1_possibleIn_19 (fun x19 hv => ?_)
    refine lv_iload X.hx X.hb dX1_possibleIn_22 (lv_at hl 4 rfl) ?_
    refine wq_cV_A X S hv q273 q274 q275 q63 ⟨by decide +kernel, by decide +kernel⟩ (nA := 1) (As := [.int v4]) (by decide +kernel) rfl rfl (by simp [wv_rfc, wv_kI, wv_kJ, wv_kF, wv_kD]) hl.1 dX1_possibleIn_24 (fun x24 w24 H locs cells slots S hv => ?_) (wq_kx X rfl)
    refine wq_cc X S hv q287 dX1_possibleIn_27 (fun hv => ?_)
    refine lv_iload_n X.hx X.hb dX1_possibleIn_30 rfl (lv_at hl 2 rfl) ?_
    refine wq_cV_A X S hv q712 q713 q714 q77 ⟨by decide +kernel, by decide +kernel⟩ (nA := 1) (As := [.int v2]) (by decide +kernel) rfl rfl (by simp [wv_rfc, wv_kI, wv_kJ, wv_kF, wv_kD]) hl.1 dX1_possibleIn_31 (fun x31 w31 H locs cells slots S hv => ?_) (wq_kx X rfl)
    refine wq_aload_n X dX1_possibleIn_34 rfl (lv_at hl 1 rfl) ?_
    refine lv_acmp_ne (tgt := 45) X.hx X.hb dX1_possibleIn_35 (by decide) (fun c35 => ?_) (fun c35 => ?_)
    · have hv := hv.1 c35
      refine lv_iconst (v := (0 : Int32)) X.hx X.hb dX1_possibleIn_45 (by decide) ?_
      exact wk_X1_possibleIn_46 X hK5 hv H locs cells slots ls S (lv_sub hl [0, 1, 2, 4] rfl)
    · have hv := hv.2 c35
      refine lv_iconst (v := (1 : Int32)) X.hx X.hb dX1_possibleIn_38 (by decide) ?_
      refine lv_iload X.hx X.hb dX1_possibleIn_39 (lv_at hl 4 rfl) ?_
      refine lv_ishl X.hx X.hb dX1_possibleIn_41 ?_
      refine lv_goto (tgt := 46) X.hx X.hb dX1_possibleIn_42 (by decide) ?_
      exact wk_X1_possibleIn_46 X hK5 hv H locs cells slots ls S (lv_sub hl [0, 1, 2, 4] rfl)
set_option maxHeartbeats 4000000 in
theorem wk_X1_possibleIn_0 {G : wv_G} {p : Program} {e : Env} {R : Room} {s : State} {m : MethodId} {args : Array Value} {below : List Frame} {meth : Method} {c : Code} {fr : Nat} {P : wv_R → wv_H → Prop} (X : wv_ok G p R s m args meth c fr "Weaversgate" cX1_possibleIn 5 (Option.some Jvm.ClassFile.FieldType.int) "possibleIn" []) {v0 : Option Nat} {v1 : Option Nat} {v2 : Int32} {w : wv_W} (hv : vc_X1_possibleIn_0 G fr P v0 v1 v2 w) : wv_J G p e R s m args below meth c 5 P w 0 [(0, va_rf v0), (1, va_rf v1), (2, .int v2)] [] := by
  intro H locs cells slots ls S hl
  unfold vc_X1_possibleIn_0 at hv
  refine lv_iconst (v := (0 : Int32)) X.hx X.hb dX1_possibleIn_0 (by decide) ?_
  refine lv_istore_n X.hx X.hb (i := 3) (lv' := [(3, .int (0 : Int32)), (0, va_rf v0), (1, va_rf v1), (2, .int v2)]) dX1_possibleIn_1 rfl hl (by decide) (by simp [wv_rfc, wv_kI, wv_kJ, wv_kF, wv_kD]) (fun ls hl => ?_)
  refine lv_iconst (v := (0 : Int32)) X.hx X.hb dX1_possibleIn_2 (by decide) ?_
  refine lv_istore X.hx X.hb (i := 4) (lv' := [(4, .int (0 : Int32)), (3, .int (0 : Int32)), (0, va_rf v0), (1, va_rf v1), (2, .int v2)]) dX1_possibleIn_3 hl (by decide) (by simp [wv_rfc, wv_kI, wv_kJ, wv_kF, wv_kD]) (fun ls hl => ?_)
  exact wv_loop (A := (Option Nat) × (Option Nat) × Int32 × Int32 × Int32) (fun a w => wv_J G p e R s m args below meth c 5 P w 5 [(0, va_rf a.1), (1, va_rf a.2.1), (2, .int a.2.2.1), (3, .int a.2.2.2.1), (4, .int a.2.2.2.2)] []) (fun K5 hK5 a w hv => wk_X1_possibleIn_5 X hK5 hv) hv H locs cells slots ls S (lv_sub hl [2, 3, 4, 1, 0] rfl)
theorem wk_X1_possibleIn {G : wv_G} (hG : wv_G0 G) {v0 : Option Nat} {v1 : Option Nat} {v2 : Int32} {h : wv_H} {fr kc ks : Nat} {P : wv_R → wv_H → Prop} (hv : vc_X1_possibleIn_0 G fr P v0 v1 v2 (h, kc, ks)) : wv_C G yX1_possibleIn [va_rf v0, va_rf v1, .int v2] h fr kc ks P := by
  refine wv_enter (lv := [(0, va_rf v0), (1, va_rf v1), (2, .int v2)]) hG (by decide +kernel) q711 (by decide) (by simp [lg_sl, wv_rfc, wv_kI, wv_kJ, wv_kF, wv_kD]) (by simp [lv_args, wv_rfc, wv_kI, wv_kJ, wv_kF, wv_kD]) ?_
  intro p e R s m args below meth c X H locs cells slots ls S hl
  exact wk_X1_possibleIn_0 X hv H locs cells slots ls S (lv_sub hl [0, 1, 2] rfl)

def vc_X1_precede_28 (G : wv_G) (fr : Nat) (P : wv_R → wv_H → Prop) (v0 : Option Nat) (v1 : Int32) (v2 : Int32) (v3 : Int32) (s0 : Int32) (w : wv_W) : Prop :=
  wv_c0 G fr yX1_checkArgument [.int s0] w (wv_rV (fun w28 => wv_gA w28 v0 ciX1 3 (fun x32 => wv_lq G 8 w28 x32 v1 (fun x36 => wv_li G 2 w28 x36 v2 (fun x38 => wv_gA w28 v0 ciX1 3 (fun x42 => wv_lq G 8 w28 x42 v1 (fun x46 => wv_si G 2 w28 x46 v2 (vp_nar .boolean v3) (fun w49 => narrow .boolean (.int x38) = .int x38 ∧ P (.inl (some (.int x38))) w49.1))))))) (wv_pr P))
def vc_X1_precede_0 (G : wv_G) (fr : Nat) (P : wv_R → wv_H → Prop) (v0 : Option Nat) (v1 : Int32) (v2 : Int32) (v3 : Int32) (w : wv_W) : Prop :=
  wv_c0 G fr yX1_inRange [.int v1, .int (0 : Int32), .int (3 : Int32)] w (wv_rI (fun x3 w3 => (x3 = 0 → vc_X1_precede_28 G fr P v0 v1 v2 v3 (0 : Int32) w3) ∧ (¬ x3 = 0 → wv_c0 G fr yX1_inRange [.int v2, .int (0 : Int32), .int (3 : Int32)] w3 (wv_rI (fun x12 w12 => (x12 = 0 → vc_X1_precede_28 G fr P v0 v1 v2 v3 (0 : Int32) w12) ∧ (¬ x12 = 0 → (v1 = v2 → vc_X1_precede_28 G fr P v0 v1 v2 v3 (0 : Int32) w12) ∧ (¬ v1 = v2 → vc_X1_precede_28 G fr P v0 v1 v2 v3 (1 : Int32) w12))) (wv_pr P)))) (wv_pr P))
set_option maxHeartbeats 4000000 in
theorem wk_X1_precede_28 {G : wv_G} {p : Program} {e : Env} {R : Room} {s : State} {m : MethodId} {args : Array Value} {below : List Frame} {meth : Method} {c : Code} {fr : Nat} {P : wv_R → wv_H → Prop} (X : wv_ok G p R s m args meth c fr "Weaversgate" cX1_precede 5 (Option.some Jvm.ClassFile.FieldType.boolean) "precede" []) {v0 : Option Nat} {v1 : Int32} {v2 : Int32} {v3 : Int32} {s0 : Int32} {w : wv_W} (hv : vc_X1_precede_28 G fr P v0 v1 v2 v3 s0 w) : wv_J G p e R s m args below meth c 5 P w 28 [(0, va_rf v0), (1, .int v1), (2, .int v2), (3, .int v3)] [.int s0] := by
  intro H locs cells slots ls S hl
  unfold vc_X1_precede_28 at hv
  refine wq_cS_V X S hv q1326 q1327 q60 ⟨by decide +kernel, by decide +kernel⟩ (nA := 1) (As := [.int s0]) (by decide +kernel) rfl rfl (by simp [wv_rfc, wv_kI, wv_kJ, wv_kF, wv_kD]) hl.1 dX1_precede_28 (fun w28 H locs cells slots S hv => ?_) (wq_kx X rfl)
  refine wq_aload_n X dX1_precede_31 rfl (lv_at hl 0 rfl) ?_
  refine wq_gA X S hv ccX1 in_X1 (k := 3) (by decide) q230 dX1_precede_32 (fun x32 hv => ?_)
  refine lv_iload_n X.hx X.hb dX1_precede_35 rfl (lv_at hl 1 rfl) ?_
  refine wq_lq8 X S hv dX1_precede_36 (fun x36 hv => ?_)
  refine lv_iload_n X.hx X.hb dX1_precede_37 rfl (lv_at hl 2 rfl) ?_
  refine wq_li2 X S hv dX1_precede_38 (fun x38 hv => ?_)
  refine lv_istore X.hx X.hb (i := 4) (lv' := [(4, .int x38), (0, va_rf v0), (1, .int v1), (2, .int v2), (3, .int v3)]) dX1_precede_39 hl (by decide) (by simp [wv_rfc, wv_kI, wv_kJ, wv_kF, wv_kD]) (fun ls hl => ?_)
  refine wq_aload_n X dX1_precede_41 rfl (lv_at hl 1 rfl) ?_
  refine wq_gA X S hv ccX1 in_X1 (k := 3) (by decide) q230 dX1_precede_42 (fun x42 hv => ?_)
  refine lv_iload_n X.hx X.hb dX1_precede_45 rfl (lv_at hl 2 rfl) ?_
  refine wq_lq8 X S hv dX1_precede_46 (fun x46 hv => ?_)
  refine lv_iload_n X.hx X.hb dX1_precede_47 rfl (lv_at hl 3 rfl) ?_
  refine lv_iload_n X.hx X.hb dX1_precede_48 rfl (lv_at hl 4 rfl) ?_
  refine wq_si2 X S hv dX1_precede_49 (fun w49 H locs S hv => ?_)
  refine lv_iload X.hx X.hb dX1_precede_50 (lv_at hl 0 rfl) ?_
  exact wr_iret X S hv.1 hv.2 dX1_precede_52
set_option maxHeartbeats 4000000 in
theorem wk_X1_precede_0 {G : wv_G} {p : Program} {e : Env} {R : Room} {s : State} {m : MethodId} {args : Array Value} {below : List Frame} {meth : Method} {c : Code} {fr : Nat} {P : wv_R → wv_H → Prop} (X : wv_ok G p R s m args meth c fr "Weaversgate" cX1_precede 5 (Option.some Jvm.ClassFile.FieldType.boolean) "precede" []) {v0 : Option Nat} {v1 : Int32} {v2 : Int32} {v3 : Int32} {w : wv_W} (hv : vc_X1_precede_0 G fr P v0 v1 v2 v3 w) : wv_J G p e R s m args below meth c 5 P w 0 [(0, va_rf v0), (1, .int v1), (2, .int v2), (3, .int v3)] [] := by
  intro H locs cells slots ls S hl
  unfold vc_X1_precede_0 at hv
  refine lv_iload_n X.hx X.hb dX1_precede_0 rfl (lv_at hl 1 rfl) ?_
  refine lv_iconst (v := (0 : Int32)) X.hx X.hb dX1_precede_1 (by decide) ?_
  refine lv_iconst (v := (3 : Int32)) X.hx X.hb dX1_precede_2 (by decide) ?_
  refine wq_cS_I X S hv q1243 q1244 q60 ⟨by decide +kernel, by decide +kernel⟩ (nA := 3) (As := [.int v1, .int (0 : Int32), .int (3 : Int32)]) (by decide +kernel) rfl rfl (by simp [wv_rfc, wv_kI, wv_kJ, wv_kF, wv_kD]) hl.1 dX1_precede_3 (fun x3 w3 H locs cells slots S hv => ?_) (wq_kx X rfl)
  refine lv_if_eq (tgt := 27) X.hx X.hb dX1_precede_6 (by decide) (fun c6 => ?_) (fun c6 => ?_)
  · have hv := hv.1 c6
    refine lv_iconst (v := (0 : Int32)) X.hx X.hb dX1_precede_27 (by decide) ?_
    exact wk_X1_precede_28 X  hv H locs cells slots ls S (lv_sub hl [0, 1, 2, 3] rfl)
  · have hv := hv.2 c6
    refine lv_iload_n X.hx X.hb dX1_precede_9 rfl (lv_at hl 2 rfl) ?_
    refine lv_iconst (v := (0 : Int32)) X.hx X.hb dX1_precede_10 (by decide) ?_
    refine lv_iconst (v := (3 : Int32)) X.hx X.hb dX1_precede_11 (by decide) ?_
    refine wq_cS_I X S hv q1243 q1244 q60 ⟨by decide +kernel, by decide +kernel⟩ (nA := 3) (As := [.int v2, .int (0 : Int32), .int (3 : Int32)]) (by decide +kernel) rfl rfl (by simp [wv_rfc, wv_kI, wv_kJ, wv_kF, wv_kD]) hl.1 dX1_precede_12 (fun x12 w12 H locs cells slots S hv => ?_) (wq_kx X rfl)
    refine lv_if_eq (tgt := 27) X.hx X.hb dX1_precede_15 (by decide) (fun c15 => ?_) (fun c15 => ?_)
    · have hv := hv.1 c15
      refine lv_iconst (v := (0 : Int32)) X.hx X.hb dX1_precede_27 (by decide) ?_
      exact wk_X1_precede_28 X  hv H locs cells slots ls S (lv_sub hl [0, 1, 2, 3] rfl)
    · have hv := hv.2 c15
      refine lv_iload_n X.hx X.hb dX1_precede_18 rfl (lv_at hl 1 rfl) ?_
      refine lv_iload_n X.hx X.hb dX1_precede_19 rfl (lv_at hl 2 rfl) ?_
      refine lv_icmp_eq (tgt := 27) X.hx X.hb dX1_precede_20 (by decide) (fun c20 => ?_) (fun c20 => ?_)
      · have hv := hv.1 c20
        refine lv_iconst (v := (0 : Int32)) X.hx X.hb dX1_precede_27 (by decide) ?_
        exact wk_X1_precede_28 X  hv H locs cells slots ls S (lv_sub hl [0, 1, 2, 3] rfl)
      · have hv := hv.2 c20
        refine lv_iconst (v := (1 : Int32)) X.hx X.hb dX1_precede_23 (by decide) ?_
        refine lv_goto (tgt := 28) X.hx X.hb dX1_precede_24 (by decide) ?_
        exact wk_X1_precede_28 X  hv H locs cells slots ls S (lv_sub hl [0, 1, 2, 3] rfl)
theorem wk_X1_precede {G : wv_G} (hG : wv_G0 G) {v0 : Option Nat} {v1 : Int32} {v2 : Int32} {v3 : Int32} {h : wv_H} {fr kc ks : Nat} {P : wv_R → wv_H → Prop} (hv : vc_X1_precede_0 G fr P v0 v1 v2 v3 (h, kc, ks)) : wv_C G yX1_precede [va_rf v0, .int v1, .int v2, .int v3] h fr kc ks P := by
  refine wv_enter (lv := [(0, va_rf v0), (1, .int v1), (2, .int v2), (3, .int v3)]) hG (by decide +kernel) q1586 (by decide) (by simp [lg_sl, wv_rfc, wv_kI, wv_kJ, wv_kF, wv_kD]) (by simp [lv_args, wv_rfc, wv_kI, wv_kJ, wv_kF, wv_kD]) ?_
  intro p e R s m args below meth c X H locs cells slots ls S hl
  exact wk_X1_precede_0 X hv H locs cells slots ls S (lv_sub hl [0, 1, 2, 3] rfl)

def vc_X1_residues_0 (G : wv_G) (fr : Nat) (P : wv_R → wv_H → Prop) (v0 : Option Nat) (w : wv_W) : Prop :=
  wv_cV G fr yX1_countPairs v0 [.int (109 : Int32)] w (wv_rI (fun x3 w3 => P (.inl (some (.int x3))) w3.1) (wv_pr P))
set_option maxHeartbeats 4000000 in
theorem wk_X1_residues_0 {G : wv_G} {p : Program} {e : Env} {R : Room} {s : State} {m : MethodId} {args : Array Value} {below : List Frame} {meth : Method} {c : Code} {fr : Nat} {P : wv_R → wv_H → Prop} (X : wv_ok G p R s m args meth c fr "Weaversgate" cX1_residues 1 (Option.some Jvm.ClassFile.FieldType.int) "residues" []) {v0 : Option Nat} {w : wv_W} (hv : vc_X1_residues_0 G fr P v0 w) : wv_J G p e R s m args below meth c 1 P w 0 [(0, va_rf v0)] [] := by
  intro H locs cells slots ls S hl
  unfold vc_X1_residues_0 at hv
  refine wq_aload_n X dX1_residues_0 rfl (lv_at hl 0 rfl) ?_
  refine lv_bipush (v := (109 : Int32)) X.hx X.hb dX1_residues_1 (by decide) ?_
  refine wq_cV_I X S hv q265 q267 qs2 q60 ⟨by decide +kernel, by decide +kernel⟩ (nA := 1) (As := [.int (109 : Int32)]) (by decide +kernel) rfl rfl (by simp [wv_rfc, wv_kI, wv_kJ, wv_kF, wv_kD]) hl.1 dX1_residues_3 (fun x3 w3 H locs cells slots S hv => ?_) (wq_kx X rfl)
  exact wr_iret X S rfl hv dX1_residues_6
theorem wk_X1_residues {G : wv_G} (hG : wv_G0 G) {v0 : Option Nat} {h : wv_H} {fr kc ks : Nat} {P : wv_R → wv_H → Prop} (hv : vc_X1_residues_0 G fr P v0 (h, kc, ks)) : wv_C G yX1_residues [va_rf v0] h fr kc ks P := by
  refine wv_enter (lv := [(0, va_rf v0)]) hG (by decide +kernel) q264 (by decide) (by simp [lg_sl, wv_rfc, wv_kI, wv_kJ, wv_kF, wv_kD]) (by simp [lv_args, wv_rfc, wv_kI, wv_kJ, wv_kF, wv_kD]) ?_
  intro p e R s m args below meth c X H locs cells slots ls S hl
  exact wk_X1_residues_0 X hv H locs cells slots ls S (lv_sub hl [0] rfl)

def vc_X1_result_29 (G : wv_G) (fr : Nat) (P : wv_R → wv_H → Prop) (v0 : Option Nat) (s0 : Int32) (w : wv_W) : Prop :=
  wv_c0 G fr yX1_checkState [.int s0] w (wv_rV (fun w29 => wv_gA w29 v0 ciX1 4 (fun x33 => wv_gI w29 x33 ciX2 3 (fun x36 => P (.inl (some (.int x36))) w29.1))) (wv_pr P))
def vc_X1_result_0 (G : wv_G) (fr : Nat) (P : wv_R → wv_H → Prop) (v0 : Option Nat) (w : wv_W) : Prop :=
  wv_gA w v0 ciX1 4 (fun x1 => wv_gI w x1 ciX2 2 (fun x4 => (x4 = (114 : Int32) → vc_X1_result_29 G fr P v0 (1 : Int32) w) ∧ (¬ x4 = (114 : Int32) → wv_gA w v0 ciX1 4 (fun x13 => wv_gI w x13 ciX2 2 (fun x16 => (¬ x16 = (120 : Int32) → vc_X1_result_29 G fr P v0 (0 : Int32) w) ∧ (x16 = (120 : Int32) → vc_X1_result_29 G fr P v0 (1 : Int32) w))))))
set_option maxHeartbeats 4000000 in
theorem wk_X1_result_29 {G : wv_G} {p : Program} {e : Env} {R : Room} {s : State} {m : MethodId} {args : Array Value} {below : List Frame} {meth : Method} {c : Code} {fr : Nat} {P : wv_R → wv_H → Prop} (X : wv_ok G p R s m args meth c fr "Weaversgate" cX1_result 1 (Option.some Jvm.ClassFile.FieldType.int) "result" []) {v0 : Option Nat} {s0 : Int32} {w : wv_W} (hv : vc_X1_result_29 G fr P v0 s0 w) : wv_J G p e R s m args below meth c 1 P w 29 [(0, va_rf v0)] [.int s0] := by
  intro H locs cells slots ls S hl
  unfold vc_X1_result_29 at hv
  refine wq_cS_V X S hv q1264 q1265 q60 ⟨by decide +kernel, by decide +kernel⟩ (nA := 1) (As := [.int s0]) (by decide +kernel) rfl rfl (by simp [wv_rfc, wv_kI, wv_kJ, wv_kF, wv_kD]) hl.1 dX1_result_29 (fun w29 H locs cells slots S hv => ?_) (wq_kx X rfl)
  refine wq_aload_n X dX1_result_32 rfl (lv_at hl 0 rfl) ?_
  refine wq_gA X S hv ccX1 in_X1 (k := 4) (by decide) q231 dX1_result_33 (fun x33 hv => ?_)
  refine wq_gIN X S hv ccX2 in_X2 (k := 3) (by decide) q197 dX1_result_36 (fun x36 hv => ?_)
  exact wr_iret X S rfl hv dX1_result_39
set_option maxHeartbeats 4000000 in
theorem wk_X1_result_0 {G : wv_G} {p : Program} {e : Env} {R : Room} {s : State} {m : MethodId} {args : Array Value} {below : List Frame} {meth : Method} {c : Code} {fr : Nat} {P : wv_R → wv_H → Prop} (X : wv_ok G p R s m args meth c fr "Weaversgate" cX1_result 1 (Option.some Jvm.ClassFile.FieldType.int) "result" []) {v0 : Option Nat} {w : wv_W} (hv : vc_X1_result_0 G fr P v0 w) : wv_J G p e R s m args below meth c 1 P w 0 [(0, va_rf v0)] [] := by
  intro H locs cells slots ls S hl
  unfold vc_X1_result_0 at hv
  refine wq_aload_n X dX1_result_0 rfl (lv_at hl 0 rfl) ?_
  refine wq_gA X S hv ccX1 in_X1 (k := 4) (by decide) q231 dX1_result_1 (fun x1 hv => ?_)
  refine wq_gIN X S hv ccX2 in_X2 (k := 2) (by decide) q195 dX1_result_4 (fun x4 hv => ?_)
  refine lv_bipush (v := (114 : Int32)) X.hx X.hb dX1_result_7 (by decide) ?_
  refine lv_icmp_eq (tgt := 24) X.hx X.hb dX1_result_9 (by decide) (fun c9 => ?_) (fun c9 => ?_)
  · have hv := hv.1 c9
    refine lv_iconst (v := (1 : Int32)) X.hx X.hb dX1_result_24 (by decide) ?_
    refine lv_goto (tgt := 29) X.hx X.hb dX1_result_25 (by decide) ?_
    exact wk_X1_result_29 X  hv H locs cells slots ls S (lv_sub hl [0] rfl)
  · have hv := hv.2 c9
    refine wq_aload_n X dX1_result_12 rfl (lv_at hl 0 rfl) ?_
    refine wq_gA X S hv ccX1 in_X1 (k := 4) (by decide) q231 dX1_result_13 (fun x13 hv => ?_)
    refine wq_gIN X S hv ccX2 in_X2 (k := 2) (by decide) q195 dX1_result_16 (fun x16 hv => ?_)
    refine lv_bipush (v := (120 : Int32)) X.hx X.hb dX1_result_19 (by decide) ?_
    refine lv_icmp_ne (tgt := 28) X.hx X.hb dX1_result_21 (by decide) (fun c21 => ?_) (fun c21 => ?_)
    · have hv := hv.1 c21
      refine lv_iconst (v := (0 : Int32)) X.hx X.hb dX1_result_28 (by decide) ?_
      exact wk_X1_result_29 X  hv H locs cells slots ls S (lv_sub hl [0] rfl)
    · have hv := hv.2 c21
      refine lv_iconst (v := (1 : Int32)) X.hx X.hb dX1_result_24 (by decide) ?_
      refine lv_goto (tgt := 29) X.hx X.hb dX1_result_25 (by decide) ?_
      exact wk_X1_result_29 X  hv H locs cells slots ls S (lv_sub hl [0] rfl)
theorem wk_X1_result {G : wv_G} (hG : wv_G0 G) {v0 : Option Nat} {h : wv_H} {fr kc ks : Nat} {P : wv_R → wv_H → Prop} (hv : vc_X1_result_0 G fr P v0 (h, kc, ks)) : wv_C G yX1_result [va_rf v0] h fr kc ks P := by
  refine wv_enter (lv := [(0, va_rf v0)]) hG (by decide +kernel) q1632 (by decide) (by simp [lg_sl, wv_rfc, wv_kI, wv_kJ, wv_kF, wv_kD]) (by simp [lv_args, wv_rfc, wv_kI, wv_kJ, wv_kF, wv_kD]) ?_
  intro p e R s m args below meth c X H locs cells slots ls S hl
  exact wk_X1_result_0 X hv H locs cells slots ls S (lv_sub hl [0] rfl)

def vc_X1_run_0 (G : wv_G) (fr : Nat) (P : wv_R → wv_H → Prop) (v0 : Option Nat) (v1 : Int32) (v2 : Int32) (v3 : Int32) (w : wv_W) : Prop :=
  wv_cV G fr yX1_runBy v0 [.int v1, .int v2, .int v3, .int (1 : Int32)] w (wv_rI (fun x5 w5 => narrow .char (.int x5) = .int x5 ∧ P (.inl (some (.int x5))) w5.1) (wv_pr P))
set_option maxHeartbeats 4000000 in
theorem wk_X1_run_0 {G : wv_G} {p : Program} {e : Env} {R : Room} {s : State} {m : MethodId} {args : Array Value} {below : List Frame} {meth : Method} {c : Code} {fr : Nat} {P : wv_R → wv_H → Prop} (X : wv_ok G p R s m args meth c fr "Weaversgate" cX1_run 4 (Option.some Jvm.ClassFile.FieldType.char) "run" []) {v0 : Option Nat} {v1 : Int32} {v2 : Int32} {v3 : Int32} {w : wv_W} (hv : vc_X1_run_0 G fr P v0 v1 v2 v3 w) : wv_J G p e R s m args below meth c 4 P w 0 [(0, va_rf v0), (1, .int v1), (2, .int v2), (3, .int v3)] [] := by
  intro H locs cells slots ls S hl
  unfold vc_X1_run_0 at hv
  refine wq_aload_n X dX1_run_0 rfl (lv_at hl 0 rfl) ?_
  refine lv_iload_n X.hx X.hb dX1_run_1 rfl (lv_at hl 1 rfl) ?_
  refine lv_iload_n X.hx X.hb dX1_run_2 rfl (lv_at hl 2 rfl) ?_
  refine lv_iload_n X.hx X.hb dX1_run_3 rfl (lv_at hl 3 rfl) ?_
  refine lv_iconst (v := (1 : Int32)) X.hx X.hb dX1_run_4 (by decide) ?_
  refine wq_cV_I X S hv q1615 q1617 qs33 q60 ⟨by decide +kernel, by decide +kernel⟩ (nA := 4) (As := [.int v1, .int v2, .int v3, .int (1 : Int32)]) (by decide +kernel) rfl rfl (by simp [wv_rfc, wv_kI, wv_kJ, wv_kF, wv_kD]) hl.1 dX1_run_5 (fun x5 w5 H locs cells slots S hv => ?_) (wq_kx X rfl)
  exact wr_iret X S hv.1 hv.2 dX1_run_8
theorem wk_X1_run {G : wv_G} (hG : wv_G0 G) {v0 : Option Nat} {v1 : Int32} {v2 : Int32} {v3 : Int32} {h : wv_H} {fr kc ks : Nat} {P : wv_R → wv_H → Prop} (hv : vc_X1_run_0 G fr P v0 v1 v2 v3 (h, kc, ks)) : wv_C G yX1_run [va_rf v0, .int v1, .int v2, .int v3] h fr kc ks P := by
  refine wv_enter (lv := [(0, va_rf v0), (1, .int v1), (2, .int v2), (3, .int v3)]) hG (by decide +kernel) q1614 (by decide) (by simp [lg_sl, wv_rfc, wv_kI, wv_kJ, wv_kF, wv_kD]) (by simp [lv_args, wv_rfc, wv_kI, wv_kJ, wv_kF, wv_kD]) ?_
  intro p e R s m args below meth c X H locs cells slots ls S hl
  exact wk_X1_run_0 X hv H locs cells slots ls S (lv_sub hl [0, 1, 2, 3] rfl)

def vc_X1_runAsking_0 (G : wv_G) (fr : Nat) (P : wv_R → wv_H → Prop) (v0 : Option Nat) (v1 : Int32) (v2 : Int32) (v3 : Int32) (w : wv_W) : Prop :=
  wv_cV G fr yX1_runBy v0 [.int v1, .int v2, .int v3, .int (0 : Int32)] w (wv_rI (fun x5 w5 => narrow .char (.int x5) = .int x5 ∧ P (.inl (some (.int x5))) w5.1) (wv_pr P))
set_option maxHeartbeats 4000000 in
theorem wk_X1_runAsking_0 {G : wv_G} {p : Program} {e : Env} {R : Room} {s : State} {m : MethodId} {args : Array Value} {below : List Frame} {meth : Method} {c : Code} {fr : Nat} {P : wv_R → wv_H → Prop} (X : wv_ok G p R s m args meth c fr "Weaversgate" cX1_runAsking 4 (Option.some Jvm.ClassFile.FieldType.char) "runAsking" []) {v0 : Option Nat} {v1 : Int32} {v2 : Int32} {v3 : Int32} {w : wv_W} (hv : vc_X1_runAsking_0 G fr P v0 v1 v2 v3 w) : wv_J G p e R s m args below meth c 4 P w 0 [(0, va_rf v0), (1, .int v1), (2, .int v2), (3, .int v3)] [] := by
  intro H locs cells slots ls S hl
  unfold vc_X1_runAsking_0 at hv
  refine wq_aload_n X dX1_runAsking_0 rfl (lv_at hl 0 rfl) ?_
  refine lv_iload_n X.hx X.hb dX1_runAsking_1 rfl (lv_at hl 1 rfl) ?_
  refine lv_iload_n X.hx X.hb dX1_runAsking_2 rfl (lv_at hl 2 rfl) ?_
  refine lv_iload_n X.hx X.hb dX1_runAsking_3 rfl (lv_at hl 3 rfl) ?_
  refine lv_iconst (v := (0 : Int32)) X.hx X.hb dX1_runAsking_4 (by decide) ?_
  refine wq_cV_I X S hv q1615 q1617 qs33 q60 ⟨by decide +kernel, by decide +kernel⟩ (nA := 4) (As := [.int v1, .int v2, .int v3, .int (0 : Int32)]) (by decide +kernel) rfl rfl (by simp [wv_rfc, wv_kI, wv_kJ, wv_kF, wv_kD]) hl.1 dX1_runAsking_5 (fun x5 w5 H locs cells slots S hv => ?_) (wq_kx X rfl)
  exact wr_iret X S hv.1 hv.2 dX1_runAsking_8
theorem wk_X1_runAsking {G : wv_G} (hG : wv_G0 G) {v0 : Option Nat} {v1 : Int32} {v2 : Int32} {v3 : Int32} {h : wv_H} {fr kc ks : Nat} {P : wv_R → wv_H → Prop} (hv : vc_X1_runAsking_0 G fr P v0 v1 v2 v3 (h, kc, ks)) : wv_C G yX1_runAsking [va_rf v0, .int v1, .int v2, .int v3] h fr kc ks P := by
  refine wv_enter (lv := [(0, va_rf v0), (1, .int v1), (2, .int v2), (3, .int v3)]) hG (by decide +kernel) q1625 (by decide) (by simp [lg_sl, wv_rfc, wv_kI, wv_kJ, wv_kF, wv_kD]) (by simp [lv_args, wv_rfc, wv_kI, wv_kJ, wv_kF, wv_kD]) ?_
  intro p e R s m args below meth c X H locs cells slots ls S hl
  exact wk_X1_runAsking_0 X hv H locs cells slots ls S (lv_sub hl [0, 1, 2, 3] rfl)

def vc_X1_runBy_34 (G : wv_G) (fr : Nat) (P : wv_R → wv_H → Prop) (v0 : Option Nat) (v2 : Int32) (v3 : Int32) (v4 : Int32) (v5 : Option Nat) (s0 : Int32) (w : wv_W) : Prop :=
  wv_c0 G fr yX1_checkState [.int s0] w (wv_rV (fun w34 => wv_gA w34 v0 ciX1 4 (fun x38 => wv_cV G fr yX2_begin x38 [va_rf v5, .int v2, .int v3, .int v4] w34 (wv_rV (fun w47 => wv_gA w47 v0 ciX1 4 (fun x51 => wv_gI w47 x51 ciX2 2 (fun x54 => narrow .char (.int x54) = .int x54 ∧ P (.inl (some (.int x54))) w47.1))) (wv_pr P)))) (wv_pr P))
def vc_X1_runBy_0 (G : wv_G) (fr : Nat) (P : wv_R → wv_H → Prop) (v0 : Option Nat) (v1 : Int32) (v2 : Int32) (v3 : Int32) (v4 : Int32) (w : wv_W) : Prop :=
  wv_cV G fr yX1_type v0 [.int v1] w (wv_rA (fun x2 w2 => wv_c0 G fr yX1_checkMethod [.int v2] w2 (wv_rV (fun w8 => wv_c0 G fr yX1_inRange [.int v3, .int (-99 : Int32), .int (99 : Int32)] w8 (wv_rI (fun x16 w16 => wv_c0 G fr yX1_checkArgument [.int x16] w16 (wv_rV (fun w19 => wv_cV G fr yX1_hasRing v0 [] w19 (wv_rI (fun x23 w23 => (¬ x23 = 0 → vc_X1_runBy_34 G fr P v0 v2 v3 v4 x2 (0 : Int32) w23) ∧ (x23 = 0 → vc_X1_runBy_34 G fr P v0 v2 v3 v4 x2 (1 : Int32) w23)) (wv_pr P))) (wv_pr P))) (wv_pr P))) (wv_pr P))) (wv_pr P))
set_option maxHeartbeats 4000000 in
theorem wk_X1_runBy_34 {G : wv_G} {p : Program} {e : Env} {R : Room} {s : State} {m : MethodId} {args : Array Value} {below : List Frame} {meth : Method} {c : Code} {fr : Nat} {P : wv_R → wv_H → Prop} (X : wv_ok G p R s m args meth c fr "Weaversgate" cX1_runBy 6 (Option.some Jvm.ClassFile.FieldType.char) "runBy" []) {v0 : Option Nat} {v2 : Int32} {v3 : Int32} {v4 : Int32} {v5 : Option Nat} {s0 : Int32} {w : wv_W} (hv : vc_X1_runBy_34 G fr P v0 v2 v3 v4 v5 s0 w) : wv_J G p e R s m args below meth c 6 P w 34 [(0, va_rf v0), (2, .int v2), (3, .int v3), (4, .int v4), (5, va_rf v5)] [.int s0] := by
  intro H locs cells slots ls S hl
  unfold vc_X1_runBy_34 at hv
  refine wq_cS_V X S hv q1264 q1265 q60 ⟨by decide +kernel, by decide +kernel⟩ (nA := 1) (As := [.int s0]) (by decide +kernel) rfl rfl (by simp [wv_rfc, wv_kI, wv_kJ, wv_kF, wv_kD]) hl.1 dX1_runBy_34 (fun w34 H locs cells slots S hv => ?_) (wq_kx X rfl)
  refine wq_aload_n X dX1_runBy_37 rfl (lv_at hl 0 rfl) ?_
  refine wq_gA X S hv ccX1 in_X1 (k := 4) (by decide) q231 dX1_runBy_38 (fun x38 hv => ?_)
  refine wq_aload X dX1_runBy_41 (lv_at hl 4 rfl) ?_
  refine lv_iload_n X.hx X.hb dX1_runBy_43 rfl (lv_at hl 1 rfl) ?_
  refine lv_iload_n X.hx X.hb dX1_runBy_44 rfl (lv_at hl 2 rfl) ?_
  refine lv_iload X.hx X.hb dX1_runBy_45 (lv_at hl 3 rfl) ?_
  refine wq_cV_V X S hv q939 q940 q941 q64 ⟨by decide +kernel, by decide +kernel⟩ (nA := 4) (As := [va_rf v5, .int v2, .int v3, .int v4]) (by decide +kernel) rfl rfl (by simp [wv_rfc, wv_kI, wv_kJ, wv_kF, wv_kD]) hl.1 dX1_runBy_47 (fun w47 H locs cells slots S hv => ?_) (wq_kx X rfl)
  refine wq_aload_n X dX1_runBy_50 rfl (lv_at hl 0 rfl) ?_
  refine wq_gA X S hv ccX1 in_X1 (k := 4) (by decide) q231 dX1_runBy_51 (fun x51 hv => ?_)
  refine wq_gIN X S hv ccX2 in_X2 (k := 2) (by decide) q195 dX1_runBy_54 (fun x54 hv => ?_)
  exact wr_iret X S hv.1 hv.2 dX1_runBy_57
set_option maxHeartbeats 4000000 in
theorem wk_X1_runBy_0 {G : wv_G} {p : Program} {e : Env} {R : Room} {s : State} {m : MethodId} {args : Array Value} {below : List Frame} {meth : Method} {c : Code} {fr : Nat} {P : wv_R → wv_H → Prop} (X : wv_ok G p R s m args meth c fr "Weaversgate" cX1_runBy 6 (Option.some Jvm.ClassFile.FieldType.char) "runBy" []) {v0 : Option Nat} {v1 : Int32} {v2 : Int32} {v3 : Int32} {v4 : Int32} {w : wv_W} (hv : vc_X1_runBy_0 G fr P v0 v1 v2 v3 v4 w) : wv_J G p e R s m args below meth c 6 P w 0 [(0, va_rf v0), (1, .int v1), (2, .int v2), (3, .int v3), (4, .int v4)] [] := by
  intro H locs cells slots ls S hl
  unfold vc_X1_runBy_0 at hv
  refine wq_aload_n X dX1_runBy_0 rfl (lv_at hl 0 rfl) ?_
  refine lv_iload_n X.hx X.hb dX1_runBy_1 rfl (lv_at hl 1 rfl) ?_
  refine wq_cV_A X S hv q1239 q1241 qs27 q60 ⟨by decide +kernel, by decide +kernel⟩ (nA := 1) (As := [.int v1]) (by decide +kernel) rfl rfl (by simp [wv_rfc, wv_kI, wv_kJ, wv_kF, wv_kD]) hl.1 dX1_runBy_2 (fun x2 w2 H locs cells slots S hv => ?_) (wq_kx X rfl)
  refine wq_astore X (i := 5) (lv' := [(5, va_rf x2), (0, va_rf v0), (1, .int v1), (2, .int v2), (3, .int v3), (4, .int v4)]) dX1_runBy_5 hl (by decide) (by simp [wv_rfc, wv_kI, wv_kJ, wv_kF, wv_kD]) (fun ls hl => ?_)
  refine lv_iload_n X.hx X.hb dX1_runBy_7 rfl (lv_at hl 3 rfl) ?_
  refine wq_cS_V X S hv q1323 q1324 q60 ⟨by decide +kernel, by decide +kernel⟩ (nA := 1) (As := [.int v2]) (by decide +kernel) rfl rfl (by simp [wv_rfc, wv_kI, wv_kJ, wv_kF, wv_kD]) hl.1 dX1_runBy_8 (fun w8 H locs cells slots S hv => ?_) (wq_kx X rfl)
  refine lv_iload_n X.hx X.hb dX1_runBy_11 rfl (lv_at hl 4 rfl) ?_
  refine lv_bipush (v := (-99 : Int32)) X.hx X.hb dX1_runBy_12 (by decide) ?_
  refine lv_bipush (v := (99 : Int32)) X.hx X.hb dX1_runBy_14 (by decide) ?_
  refine wq_cS_I X S hv q1243 q1244 q60 ⟨by decide +kernel, by decide +kernel⟩ (nA := 3) (As := [.int v3, .int (-99 : Int32), .int (99 : Int32)]) (by decide +kernel) rfl rfl (by simp [wv_rfc, wv_kI, wv_kJ, wv_kF, wv_kD]) hl.1 dX1_runBy_16 (fun x16 w16 H locs cells slots S hv => ?_) (wq_kx X rfl)
  refine wq_cS_V X S hv q1326 q1327 q60 ⟨by decide +kernel, by decide +kernel⟩ (nA := 1) (As := [.int x16]) (by decide +kernel) rfl rfl (by simp [wv_rfc, wv_kI, wv_kJ, wv_kF, wv_kD]) hl.1 dX1_runBy_19 (fun w19 H locs cells slots S hv => ?_) (wq_kx X rfl)
  refine wq_aload_n X dX1_runBy_22 rfl (lv_at hl 1 rfl) ?_
  refine wq_cV_I X S hv q253 q255 qs0 q60 ⟨by decide +kernel, by decide +kernel⟩ (nA := 0) (As := []) (by decide +kernel) rfl rfl (by simp [wv_rfc, wv_kI, wv_kJ, wv_kF, wv_kD]) hl.1 dX1_runBy_23 (fun x23 w23 H locs cells slots S hv => ?_) (wq_kx X rfl)
  refine lv_if_ne (tgt := 33) X.hx X.hb dX1_runBy_26 (by decide) (fun c26 => ?_) (fun c26 => ?_)
  · have hv := hv.1 c26
    refine lv_iconst (v := (0 : Int32)) X.hx X.hb dX1_runBy_33 (by decide) ?_
    exact wk_X1_runBy_34 X  hv H locs cells slots ls S (lv_sub hl [1, 3, 4, 5, 0] rfl)
  · have hv := hv.2 c26
    refine lv_iconst (v := (1 : Int32)) X.hx X.hb dX1_runBy_29 (by decide) ?_
    refine lv_goto (tgt := 34) X.hx X.hb dX1_runBy_30 (by decide) ?_
    exact wk_X1_runBy_34 X  hv H locs cells slots ls S (lv_sub hl [1, 3, 4, 5, 0] rfl)
theorem wk_X1_runBy {G : wv_G} (hG : wv_G0 G) {v0 : Option Nat} {v1 : Int32} {v2 : Int32} {v3 : Int32} {v4 : Int32} {h : wv_H} {fr kc ks : Nat} {P : wv_R → wv_H → Prop} (hv : vc_X1_runBy_0 G fr P v0 v1 v2 v3 v4 (h, kc, ks)) : wv_C G yX1_runBy [va_rf v0, .int v1, .int v2, .int v3, .int v4] h fr kc ks P := by
  refine wv_enter (lv := [(0, va_rf v0), (1, .int v1), (2, .int v2), (3, .int v3), (4, .int v4)]) hG (by decide +kernel) q1618 (by decide) (by simp [lg_sl, wv_rfc, wv_kI, wv_kJ, wv_kF, wv_kD]) (by simp [lv_args, wv_rfc, wv_kI, wv_kJ, wv_kF, wv_kD]) ?_
  intro p e R s m args below meth c X H locs cells slots ls S hl
  exact wk_X1_runBy_0 X hv H locs cells slots ls S (lv_sub hl [0, 1, 2, 3, 4] rfl)

def vc_X1_sureShare_0 (G : wv_G) (fr : Nat) (P : wv_R → wv_H → Prop) (v0 : Option Nat) (w : wv_W) : Prop :=
  wv_cV G fr yX1_countPairs v0 [.int (121 : Int32)] w (wv_rI (fun x3 w3 => wv_cV G fr yX1_countPairs v0 [.int (110 : Int32)] w3 (wv_rI (fun x9 w9 => wv_cV G fr yX1_countPairs v0 [.int (109 : Int32)] w9 (wv_rI (fun x18 w18 => (¬ ((x3 + x9) + x18) = 0 → (vf_n32 (FP.fdiv (FP.i2f (x3 + x9)) (FP.i2f ((x3 + x9) + x18)))) ∧ (P (.inl (some (.float (FP.fdiv (FP.i2f (x3 + x9)) (FP.i2f ((x3 + x9) + x18)))))) w18.1)) ∧ (((x3 + x9) + x18) = 0 → wv_no G w18 (wo_o ciJ25 [va_rf none, va_rf none, va_rf none, va_rf none, va_rf none, .int 0]) 6 (fun a27 w27 => wv_cI G fr yJ25_init_2 (some a27) [] w27 (wv_rV (fun w31 => wv_at w31 (some a27) (wv_pr P)) (wv_pr P))))) (wv_pr P))) (wv_pr P))) (wv_pr P))
set_option maxHeartbeats 4000000 in
theorem wk_X1_sureShare_0 {G : wv_G} {p : Program} {e : Env} {R : Room} {s : State} {m : MethodId} {args : Array Value} {below : List Frame} {meth : Method} {c : Code} {fr : Nat} {P : wv_R → wv_H → Prop} (X : wv_ok G p R s m args meth c fr "Weaversgate" cX1_sureShare 3 (Option.some Jvm.ClassFile.FieldType.float) "sureShare" []) {v0 : Option Nat} {w : wv_W} (hv : vc_X1_sureShare_0 G fr P v0 w) : wv_J G p e R s m args below meth c 3 P w 0 [(0, va_rf v0)] [] := by
  intro H locs cells slots ls S hl
  unfold vc_X1_sureShare_0 at hv
  refine wq_aload_n X dX1_sureShare_0 rfl (lv_at hl 0 rfl) ?_
  refine lv_bipush (v := (121 : Int32)) X.hx X.hb dX1_sureShare_1 (by decide) ?_
  refine wq_cV_I X S hv q265 q267 qs2 q60 ⟨by decide +kernel, by decide +kernel⟩ (nA := 1) (As := [.int (121 : Int32)]) (by decide +kernel) rfl rfl (by simp [wv_rfc, wv_kI, wv_kJ, wv_kF, wv_kD]) hl.1 dX1_sureShare_3 (fun x3 w3 H locs cells slots S hv => ?_) (wq_kx X rfl)
  refine wq_aload_n X dX1_sureShare_6 rfl (lv_at hl 0 rfl) ?_
  refine lv_bipush (v := (110 : Int32)) X.hx X.hb dX1_sureShare_7 (by decide) ?_
  refine wq_cV_I X S hv q265 q267 qs2 q60 ⟨by decide +kernel, by decide +kernel⟩ (nA := 1) (As := [.int (110 : Int32)]) (by decide +kernel) rfl rfl (by simp [wv_rfc, wv_kI, wv_kJ, wv_kF, wv_kD]) hl.1 dX1_sureShare_9 (fun x9 w9 H locs cells slots S hv => ?_) (wq_kx X rfl)
  refine lv_iadd X.hx X.hb dX1_sureShare_12 ?_
  refine lv_istore_n X.hx X.hb (i := 1) (lv' := [(1, .int (x3 + x9)), (0, va_rf v0)]) dX1_sureShare_13 rfl hl (by decide) (by simp [wv_rfc, wv_kI, wv_kJ, wv_kF, wv_kD]) (fun ls hl => ?_)
  refine lv_iload_n X.hx X.hb dX1_sureShare_14 rfl (lv_at hl 0 rfl) ?_
  refine wq_aload_n X dX1_sureShare_15 rfl (lv_at hl 1 rfl) ?_
  refine lv_bipush (v := (109 : Int32)) X.hx X.hb dX1_sureShare_16 (by decide) ?_
  refine wq_cV_I X S hv q265 q267 qs2 q60 ⟨by decide +kernel, by decide +kernel⟩ (nA := 1) (As := [.int (109 : Int32)]) (by decide +kernel) rfl rfl (by simp [wv_rfc, wv_kI, wv_kJ, wv_kF, wv_kD]) hl.1 dX1_sureShare_18 (fun x18 w18 H locs cells slots S hv => ?_) (wq_kx X rfl)
  refine lv_iadd X.hx X.hb dX1_sureShare_21 ?_
  refine lv_istore_n X.hx X.hb (i := 2) (lv' := [(2, .int ((x3 + x9) + x18)), (1, .int (x3 + x9)), (0, va_rf v0)]) dX1_sureShare_22 rfl hl (by decide) (by simp [wv_rfc, wv_kI, wv_kJ, wv_kF, wv_kD]) (fun ls hl => ?_)
  refine lv_iload_n X.hx X.hb dX1_sureShare_23 rfl (lv_at hl 0 rfl) ?_
  refine lv_if_ne (tgt := 35) X.hx X.hb dX1_sureShare_24 (by decide) (fun c24 => ?_) (fun c24 => ?_)
  · have hv := hv.1 c24
    refine lv_iload_n X.hx X.hb dX1_sureShare_35 rfl (lv_at hl 1 rfl) ?_
    refine lv_i2f X.hx X.hb dX1_sureShare_36 ?_
    refine lv_iload_n X.hx X.hb dX1_sureShare_37 rfl (lv_at hl 0 rfl) ?_
    refine lv_i2f X.hx X.hb dX1_sureShare_38 ?_
    refine lv_fdiv X.hx X.hb dX1_sureShare_39 hv.1 ?_
    have hv := hv.2
    exact wr_fret X S hv dX1_sureShare_40
  · have hv := hv.2 c24
    refine wq_new X S hv tyJ25 tyJ25_ok ccJ25 in_J25 q1746 q1729 q118 (fun j hj => by have hj : j < 6 := hj; rcases (show j = 0 ∨ j = 1 ∨ j = 2 ∨ j = 3 ∨ j = 4 ∨ j = 5 by omega) with rfl | rfl | rfl | rfl | rfl | rfl <;> rfl) dX1_sureShare_27 (fun a27 w27 H cells slots S hv => ?_)
    refine lv_dup X.hx X.hb dX1_sureShare_30 (wv_rfc _) ?_
    refine wq_cI_V X S hv rfl q1747 q1748 q1749 q118 ⟨by decide +kernel, by decide +kernel⟩ (nA := 0) (As := []) (by decide +kernel) rfl rfl (by simp [wv_rfc, wv_kI, wv_kJ, wv_kF, wv_kD]) hl.1 dX1_sureShare_31 (fun w31 H locs cells slots S hv => ?_) (wq_kx X rfl)
    exact wq_athrow X S hv dX1_sureShare_34 (wq_kx X rfl)
theorem wk_X1_sureShare {G : wv_G} (hG : wv_G0 G) {v0 : Option Nat} {h : wv_H} {fr kc ks : Nat} {P : wv_R → wv_H → Prop} (hv : vc_X1_sureShare_0 G fr P v0 (h, kc, ks)) : wv_C G yX1_sureShare [va_rf v0] h fr kc ks P := by
  refine wv_enter (lv := [(0, va_rf v0)]) hG (by decide +kernel) q1745 (by decide) (by simp [lg_sl, wv_rfc, wv_kI, wv_kJ, wv_kF, wv_kD]) (by simp [lv_args, wv_rfc, wv_kI, wv_kJ, wv_kF, wv_kD]) ?_
  intro p e R s m args below meth c X H locs cells slots ls S hl
  exact wk_X1_sureShare_0 X hv H locs cells slots ls S (lv_sub hl [0] rfl)

def vc_X1_traceAdvice_0 (G : wv_G) (fr : Nat) (P : wv_R → wv_H → Prop) (v0 : Option Nat) (v1 : Int32) (w : wv_W) : Prop :=
  wv_cV G fr yX1_checkIndex v0 [.int v1] w (wv_rV (fun w2 => wv_gA w2 v0 ciX1 4 (fun x6 => wv_gA w2 x6 ciX2 0 (fun x9 => wv_gA w2 x9 ciX3 2 (fun x12 => wv_li G 0 w2 x12 v1 (fun x16 => P (.inl (some (.int x16))) w2.1))))) (wv_pr P))
set_option maxHeartbeats 4000000 in
theorem wk_X1_traceAdvice_0 {G : wv_G} {p : Program} {e : Env} {R : Room} {s : State} {m : MethodId} {args : Array Value} {below : List Frame} {meth : Method} {c : Code} {fr : Nat} {P : wv_R → wv_H → Prop} (X : wv_ok G p R s m args meth c fr "Weaversgate" cX1_traceAdvice 2 (Option.some Jvm.ClassFile.FieldType.int) "traceAdvice" []) {v0 : Option Nat} {v1 : Int32} {w : wv_W} (hv : vc_X1_traceAdvice_0 G fr P v0 v1 w) : wv_J G p e R s m args below meth c 2 P w 0 [(0, va_rf v0), (1, .int v1)] [] := by
  intro H locs cells slots ls S hl
  unfold vc_X1_traceAdvice_0 at hv
  refine wq_aload_n X dX1_traceAdvice_0 rfl (lv_at hl 0 rfl) ?_
  refine lv_iload_n X.hx X.hb dX1_traceAdvice_1 rfl (lv_at hl 1 rfl) ?_
  refine wq_cV_V X S hv q1640 q1642 qs34 q60 ⟨by decide +kernel, by decide +kernel⟩ (nA := 1) (As := [.int v1]) (by decide +kernel) rfl rfl (by simp [wv_rfc, wv_kI, wv_kJ, wv_kF, wv_kD]) hl.1 dX1_traceAdvice_2 (fun w2 H locs cells slots S hv => ?_) (wq_kx X rfl)
  refine wq_aload_n X dX1_traceAdvice_5 rfl (lv_at hl 0 rfl) ?_
  refine wq_gA X S hv ccX1 in_X1 (k := 4) (by decide) q231 dX1_traceAdvice_6 (fun x6 hv => ?_)
  refine wq_gAN X S hv ccX2 in_X2 (k := 0) (by decide) q192 dX1_traceAdvice_9 (fun x9 hv => ?_)
  refine wq_gAN X S hv ccX3 in_X3 (k := 2) (by decide) q174 dX1_traceAdvice_12 (fun x12 hv => ?_)
  refine lv_iload_n X.hx X.hb dX1_traceAdvice_15 rfl (lv_at hl 1 rfl) ?_
  refine wq_li0 X S hv dX1_traceAdvice_16 (fun x16 hv => ?_)
  exact wr_iret X S rfl hv dX1_traceAdvice_17
theorem wk_X1_traceAdvice {G : wv_G} (hG : wv_G0 G) {v0 : Option Nat} {v1 : Int32} {h : wv_H} {fr kc ks : Nat} {P : wv_R → wv_H → Prop} (hv : vc_X1_traceAdvice_0 G fr P v0 v1 (h, kc, ks)) : wv_C G yX1_traceAdvice [va_rf v0, .int v1] h fr kc ks P := by
  refine wv_enter (lv := [(0, va_rf v0), (1, .int v1)]) hG (by decide +kernel) q1661 (by decide) (by simp [lg_sl, wv_rfc, wv_kI, wv_kJ, wv_kF, wv_kD]) (by simp [lv_args, wv_rfc, wv_kI, wv_kJ, wv_kF, wv_kD]) ?_
  intro p e R s m args below meth c X H locs cells slots ls S hl
  exact wk_X1_traceAdvice_0 X hv H locs cells slots ls S (lv_sub hl [0, 1] rfl)

def vc_X1_traceKind_0 (G : wv_G) (fr : Nat) (P : wv_R → wv_H → Prop) (v0 : Option Nat) (v1 : Int32) (w : wv_W) : Prop :=
  wv_cV G fr yX1_checkIndex v0 [.int v1] w (wv_rV (fun w2 => wv_gA w2 v0 ciX1 4 (fun x6 => wv_gA w2 x6 ciX2 0 (fun x9 => wv_cV G fr yX3_charAt x9 [.int v1] w2 (wv_rI (fun x13 w13 => narrow .char (.int x13) = .int x13 ∧ P (.inl (some (.int x13))) w13.1) (wv_pr P))))) (wv_pr P))
set_option maxHeartbeats 4000000 in
theorem wk_X1_traceKind_0 {G : wv_G} {p : Program} {e : Env} {R : Room} {s : State} {m : MethodId} {args : Array Value} {below : List Frame} {meth : Method} {c : Code} {fr : Nat} {P : wv_R → wv_H → Prop} (X : wv_ok G p R s m args meth c fr "Weaversgate" cX1_traceKind 2 (Option.some Jvm.ClassFile.FieldType.char) "traceKind" []) {v0 : Option Nat} {v1 : Int32} {w : wv_W} (hv : vc_X1_traceKind_0 G fr P v0 v1 w) : wv_J G p e R s m args below meth c 2 P w 0 [(0, va_rf v0), (1, .int v1)] [] := by
  intro H locs cells slots ls S hl
  unfold vc_X1_traceKind_0 at hv
  refine wq_aload_n X dX1_traceKind_0 rfl (lv_at hl 0 rfl) ?_
  refine lv_iload_n X.hx X.hb dX1_traceKind_1 rfl (lv_at hl 1 rfl) ?_
  refine wq_cV_V X S hv q1640 q1642 qs34 q60 ⟨by decide +kernel, by decide +kernel⟩ (nA := 1) (As := [.int v1]) (by decide +kernel) rfl rfl (by simp [wv_rfc, wv_kI, wv_kJ, wv_kF, wv_kD]) hl.1 dX1_traceKind_2 (fun w2 H locs cells slots S hv => ?_) (wq_kx X rfl)
  refine wq_aload_n X dX1_traceKind_5 rfl (lv_at hl 0 rfl) ?_
  refine wq_gA X S hv ccX1 in_X1 (k := 4) (by decide) q231 dX1_traceKind_6 (fun x6 hv => ?_)
  refine wq_gAN X S hv ccX2 in_X2 (k := 0) (by decide) q192 dX1_traceKind_9 (fun x9 hv => ?_)
  refine lv_iload_n X.hx X.hb dX1_traceKind_12 rfl (lv_at hl 1 rfl) ?_
  refine wq_cV_I X S hv q1644 q1645 q1646 q65 ⟨by decide +kernel, by decide +kernel⟩ (nA := 1) (As := [.int v1]) (by decide +kernel) rfl rfl (by simp [wv_rfc, wv_kI, wv_kJ, wv_kF, wv_kD]) hl.1 dX1_traceKind_13 (fun x13 w13 H locs cells slots S hv => ?_) (wq_kx X rfl)
  exact wr_iret X S hv.1 hv.2 dX1_traceKind_16
theorem wk_X1_traceKind {G : wv_G} (hG : wv_G0 G) {v0 : Option Nat} {v1 : Int32} {h : wv_H} {fr kc ks : Nat} {P : wv_R → wv_H → Prop} (hv : vc_X1_traceKind_0 G fr P v0 v1 (h, kc, ks)) : wv_C G yX1_traceKind [va_rf v0, .int v1] h fr kc ks P := by
  refine wv_enter (lv := [(0, va_rf v0), (1, .int v1)]) hG (by decide +kernel) q1639 (by decide) (by simp [lg_sl, wv_rfc, wv_kI, wv_kJ, wv_kF, wv_kD]) (by simp [lv_args, wv_rfc, wv_kI, wv_kJ, wv_kF, wv_kD]) ?_
  intro p e R s m args below meth c X H locs cells slots ls S hl
  exact wk_X1_traceKind_0 X hv H locs cells slots ls S (lv_sub hl [0, 1] rfl)

def vc_X1_traceLength_0 (G : wv_G) (fr : Nat) (P : wv_R → wv_H → Prop) (v0 : Option Nat) (w : wv_W) : Prop :=
  wv_gA w v0 ciX1 4 (fun x1 => wv_gA w x1 ciX2 0 (fun x4 => wv_cV G fr yX3_length x4 [] w (wv_rI (fun x7 w7 => P (.inl (some (.int x7))) w7.1) (wv_pr P))))
set_option maxHeartbeats 4000000 in
theorem wk_X1_traceLength_0 {G : wv_G} {p : Program} {e : Env} {R : Room} {s : State} {m : MethodId} {args : Array Value} {below : List Frame} {meth : Method} {c : Code} {fr : Nat} {P : wv_R → wv_H → Prop} (X : wv_ok G p R s m args meth c fr "Weaversgate" cX1_traceLength 1 (Option.some Jvm.ClassFile.FieldType.int) "traceLength" []) {v0 : Option Nat} {w : wv_W} (hv : vc_X1_traceLength_0 G fr P v0 w) : wv_J G p e R s m args below meth c 1 P w 0 [(0, va_rf v0)] [] := by
  intro H locs cells slots ls S hl
  unfold vc_X1_traceLength_0 at hv
  refine wq_aload_n X dX1_traceLength_0 rfl (lv_at hl 0 rfl) ?_
  refine wq_gA X S hv ccX1 in_X1 (k := 4) (by decide) q231 dX1_traceLength_1 (fun x1 hv => ?_)
  refine wq_gAN X S hv ccX2 in_X2 (k := 0) (by decide) q192 dX1_traceLength_4 (fun x4 hv => ?_)
  refine wq_cV_I X S hv q926 q927 q928 q65 ⟨by decide +kernel, by decide +kernel⟩ (nA := 0) (As := []) (by decide +kernel) rfl rfl (by simp [wv_rfc, wv_kI, wv_kJ, wv_kF, wv_kD]) hl.1 dX1_traceLength_7 (fun x7 w7 H locs cells slots S hv => ?_) (wq_kx X rfl)
  exact wr_iret X S rfl hv dX1_traceLength_10
theorem wk_X1_traceLength {G : wv_G} (hG : wv_G0 G) {v0 : Option Nat} {h : wv_H} {fr kc ks : Nat} {P : wv_R → wv_H → Prop} (hv : vc_X1_traceLength_0 G fr P v0 (h, kc, ks)) : wv_C G yX1_traceLength [va_rf v0] h fr kc ks P := by
  refine wv_enter (lv := [(0, va_rf v0)]) hG (by decide +kernel) q925 (by decide) (by simp [lg_sl, wv_rfc, wv_kI, wv_kJ, wv_kF, wv_kD]) (by simp [lv_args, wv_rfc, wv_kI, wv_kJ, wv_kF, wv_kD]) ?_
  intro p e R s m args below meth c X H locs cells slots ls S hl
  exact wk_X1_traceLength_0 X hv H locs cells slots ls S (lv_sub hl [0] rfl)

def vc_X1_traceSum_4 (G : wv_G) (fr : Nat) (P : wv_R → wv_H → Prop) (K4 : ((Option Nat) × Int64 × Int32) → wv_W → Prop) (v0 : Option Nat) (v1 : Int64) (v3 : Int32) (w : wv_W) : Prop :=
  wv_gA w v0 ciX1 4 (fun x6 => wv_gA w x6 ciX2 0 (fun x9 => wv_cV G fr yX3_length x9 [] w (wv_rI (fun x12 w12 => (x12 ≤ v3 → P (.inl (some (.long v1))) w12.1) ∧ (¬ x12 ≤ v3 → wv_gA w12 v0 ciX1 4 (fun x24 => wv_gA w12 x24 ciX2 0 (fun x27 => wv_gA w12 x27 ciX3 1 (fun x30 => wv_li G 0 w12 x30 v3 (fun x34 => wv_gA w12 v0 ciX1 4 (fun x40 => wv_gA w12 x40 ciX2 0 (fun x43 => wv_gA w12 x43 ciX3 2 (fun x46 => wv_li G 0 w12 x46 v3 (fun x50 => K4 (v0, (v1 + (((Int32.toInt64 v3) + (1 : Int64)) * ((Int32.toInt64 x34) + ((131 : Int64) * (Int32.toInt64 x50))))), (v3 + (1 : Int32))) w12)))))))))) (wv_pr P))))
def vc_X1_traceSum_0 (G : wv_G) (fr : Nat) (P : wv_R → wv_H → Prop) (v0 : Option Nat) (w : wv_W) : Prop :=
  wv_L (fun K4 a w => vc_X1_traceSum_4 G fr P K4 a.1 a.2.1 a.2.2 w) (v0, (0 : Int64), (0 : Int32)) w
set_option maxHeartbeats 4000000 in
theorem wk_X1_traceSum_4 {G : wv_G} {p : Program} {e : Env} {R : Room} {s : State} {m : MethodId} {args : Array Value} {below : List Frame} {meth : Method} {c : Code} {fr : Nat} {P : wv_R → wv_H → Prop} (X : wv_ok G p R s m args meth c fr "Weaversgate" cX1_traceSum 4 (Option.some Jvm.ClassFile.FieldType.long) "traceSum" []) {K4 : ((Option Nat) × Int64 × Int32) → wv_W → Prop} (hK4 : ∀ a w, K4 a w → wv_J G p e R s m args below meth c 4 P w 4 [(0, va_rf a.1), (1, .long a.2.1), (3, .int a.2.2)] []) {v0 : Option Nat} {v1 : Int64} {v3 : Int32} {w : wv_W} (hv : vc_X1_traceSum_4 G fr P K4 v0 v1 v3 w) : wv_J G p e R s m args below meth c 4 P w 4 [(0, va_rf v0), (1, .long v1), (3, .int v3)] [] := by
  intro H locs cells slots ls S hl
  unfold vc_X1_traceSum_4 at hv
  refine lv_iload_n X.hx X.hb dX1_traceSum_4 rfl (lv_at hl 2 rfl) ?_
  refine wq_aload_n X dX1_traceSum_5 rfl (lv_at hl 0 rfl) ?_
  refine wq_gA X S hv ccX1 in_X1 (k := 4) (by decide) q231 dX1_traceSum_6 (fun x6 hv => ?_)
  refine wq_gAN X S hv ccX2 in_X2 (k := 0) (by decide) q192 dX1_traceSum_9 (fun x9 hv => ?_)
  refine wq_cV_I X S hv q926 q927 q928 q65 ⟨by decide +kernel, by decide +kernel⟩ (nA := 0) (As := []) (by decide +kernel) rfl rfl (by simp [wv_rfc, wv_kI, wv_kJ, wv_kF, wv_kD]) hl.1 dX1_traceSum_12 (fun x12 w12 H locs cells slots S hv => ?_) (wq_kx X rfl)
  refine lv_icmp_ge (tgt := 63) X.hx X.hb dX1_traceSum_15 (by decide) (fun c15 => ?_) (fun c15 => ?_)
  · have hv := hv.1 c15
    refine lv_lload_n X.hx X.hb dX1_traceSum_63 rfl (lv_at hl 1 rfl) ?_
    exact wr_lret X S hv dX1_traceSum_64
  · have hv := hv.2 c15
    refine lv_lload_n X.hx X.hb dX1_traceSum_18 rfl (lv_at hl 1 rfl) ?_
    refine lv_iload_n X.hx X.hb dX1_traceSum_19 rfl (lv_at hl 2 rfl) ?_
    refine lv_i2l X.hx X.hb dX1_traceSum_20 rfl ?_
    refine lv_lconst (v := 1) X.hx X.hb dX1_traceSum_21 (by decide) ?_
    refine lv_ladd X.hx X.hb dX1_traceSum_22 ?_
    refine wq_aload_n X dX1_traceSum_23 rfl (lv_at hl 0 rfl) ?_
    refine wq_gA X S hv ccX1 in_X1 (k := 4) (by decide) q231 dX1_traceSum_24 (fun x24 hv => ?_)
    refine wq_gAN X S hv ccX2 in_X2 (k := 0) (by decide) q192 dX1_traceSum_27 (fun x27 hv => ?_)
    refine wq_gAN X S hv ccX3 in_X3 (k := 1) (by decide) q172 dX1_traceSum_30 (fun x30 hv => ?_)
    refine lv_iload_n X.hx X.hb dX1_traceSum_33 rfl (lv_at hl 2 rfl) ?_
    refine wq_li0 X S hv dX1_traceSum_34 (fun x34 hv => ?_)
    refine lv_i2l X.hx X.hb dX1_traceSum_35 rfl ?_
    refine lv_ldc2 X.hx X.hb X.hown (X.hts _ q934) dX1_traceSum_36 ?_
    refine wq_aload_n X dX1_traceSum_39 rfl (lv_at hl 0 rfl) ?_
    refine wq_gA X S hv ccX1 in_X1 (k := 4) (by decide) q231 dX1_traceSum_40 (fun x40 hv => ?_)
    refine wq_gAN X S hv ccX2 in_X2 (k := 0) (by decide) q192 dX1_traceSum_43 (fun x43 hv => ?_)
    refine wq_gAN X S hv ccX3 in_X3 (k := 2) (by decide) q174 dX1_traceSum_46 (fun x46 hv => ?_)
    refine lv_iload_n X.hx X.hb dX1_traceSum_49 rfl (lv_at hl 2 rfl) ?_
    refine wq_li0 X S hv dX1_traceSum_50 (fun x50 hv => ?_)
    refine lv_i2l X.hx X.hb dX1_traceSum_51 rfl ?_
    refine lv_lmul X.hx X.hb dX1_traceSum_52 ?_
    refine lv_ladd X.hx X.hb dX1_traceSum_53 ?_
    refine lv_lmul X.hx X.hb dX1_traceSum_54 ?_
    refine lv_ladd X.hx X.hb dX1_traceSum_55 ?_
    refine lv_lstore_n X.hx X.hb (i := 1) (lv' := [(1, .long (v1 + (((Int32.toInt64 v3) + (1 : Int64)) * ((Int32.toInt64 x34) + ((131 : Int64) * (Int32.toInt64 x50)))))), (0, va_rf v0), (3, .int v3)]) dX1_traceSum_56 rfl hl (by decide) (by simp [wv_rfc, wv_kI, wv_kJ, wv_kF, wv_kD]) (fun ls hl => ?_)
    refine lv_iinc (v := (v3 + (1 : Int32))) (lv' := [(3, .int (v3 + (1 : Int32))), (1, .long (v1 + (((Int32.toInt64 v3) + (1 : Int64)) * ((Int32.toInt64 x34) + ((131 : Int64) * (Int32.toInt64 x50)))))), (0, va_rf v0)]) X.hx X.hb dX1_traceSum_57 hl (k := 2) rfl (by rfl) (by decide) rfl (fun ls hl => ?_)
    refine lv_goto (tgt := 4) X.hx X.hb dX1_traceSum_60 (by decide) ?_
    exact hK4 _ _ hv H locs cells slots ls S (lv_sub hl [2, 1, 0] rfl)
set_option maxHeartbeats 4000000 in
theorem wk_X1_traceSum_0 {G : wv_G} {p : Program} {e : Env} {R : Room} {s : State} {m : MethodId} {args : Array Value} {below : List Frame} {meth : Method} {c : Code} {fr : Nat} {P : wv_R → wv_H → Prop} (X : wv_ok G p R s m args meth c fr "Weaversgate" cX1_traceSum 4 (Option.some Jvm.ClassFile.FieldType.long) "traceSum" []) {v0 : Option Nat} {w : wv_W} (hv : vc_X1_traceSum_0 G fr P v0 w) : wv_J G p e R s m args below meth c 4 P w 0 [(0, va_rf v0)] [] := by
  intro H locs cells slots ls S hl
  unfold vc_X1_traceSum_0 at hv
  refine lv_lconst (v := 0) X.hx X.hb dX1_traceSum_0 (by decide) ?_
  refine lv_lstore_n X.hx X.hb (i := 1) (lv' := [(1, .long (0 : Int64)), (0, va_rf v0)]) dX1_traceSum_1 rfl hl (by decide) (by simp [wv_rfc, wv_kI, wv_kJ, wv_kF, wv_kD]) (fun ls hl => ?_)
  refine lv_iconst (v := (0 : Int32)) X.hx X.hb dX1_traceSum_2 (by decide) ?_
  refine lv_istore_n X.hx X.hb (i := 3) (lv' := [(3, .int (0 : Int32)), (1, .long (0 : Int64)), (0, va_rf v0)]) dX1_traceSum_3 rfl hl (by decide) rfl (fun ls hl => ?_)
  exact wv_loop (A := (Option Nat) × Int64 × Int32) (fun a w => wv_J G p e R s m args below meth c 4 P w 4 [(0, va_rf a.1), (1, .long a.2.1), (3, .int a.2.2)] []) (fun K4 hK4 a w hv => wk_X1_traceSum_4 X hK4 hv) hv H locs cells slots ls S (lv_sub hl [2, 1, 0] rfl)
theorem wk_X1_traceSum {G : wv_G} (hG : wv_G0 G) {v0 : Option Nat} {h : wv_H} {fr kc ks : Nat} {P : wv_R → wv_H → Prop} (hv : vc_X1_traceSum_0 G fr P v0 (h, kc, ks)) : wv_C G yX1_traceSum [va_rf v0] h fr kc ks P := by
  refine wv_enter (lv := [(0, va_rf v0)]) hG (by decide +kernel) q933 (by decide) (by simp [lg_sl, wv_rfc, wv_kI, wv_kJ, wv_kF, wv_kD]) (by simp [lv_args, wv_rfc, wv_kI, wv_kJ, wv_kF, wv_kD]) ?_
  intro p e R s m args below meth c X H locs cells slots ls S hl
  exact wk_X1_traceSum_0 X hv H locs cells slots ls S (lv_sub hl [0] rfl)

def vc_X1_traceValue_0 (G : wv_G) (fr : Nat) (P : wv_R → wv_H → Prop) (v0 : Option Nat) (v1 : Int32) (w : wv_W) : Prop :=
  wv_cV G fr yX1_checkIndex v0 [.int v1] w (wv_rV (fun w2 => wv_gA w2 v0 ciX1 4 (fun x6 => wv_gA w2 x6 ciX2 0 (fun x9 => wv_gA w2 x9 ciX3 1 (fun x12 => wv_li G 0 w2 x12 v1 (fun x16 => P (.inl (some (.int x16))) w2.1))))) (wv_pr P))
set_option maxHeartbeats 4000000 in
theorem wk_X1_traceValue_0 {G : wv_G} {p : Program} {e : Env} {R : Room} {s : State} {m : MethodId} {args : Array Value} {below : List Frame} {meth : Method} {c : Code} {fr : Nat} {P : wv_R → wv_H → Prop} (X : wv_ok G p R s m args meth c fr "Weaversgate" cX1_traceValue 2 (Option.some Jvm.ClassFile.FieldType.int) "traceValue" []) {v0 : Option Nat} {v1 : Int32} {w : wv_W} (hv : vc_X1_traceValue_0 G fr P v0 v1 w) : wv_J G p e R s m args below meth c 2 P w 0 [(0, va_rf v0), (1, .int v1)] [] := by
  intro H locs cells slots ls S hl
  unfold vc_X1_traceValue_0 at hv
  refine wq_aload_n X dX1_traceValue_0 rfl (lv_at hl 0 rfl) ?_
  refine lv_iload_n X.hx X.hb dX1_traceValue_1 rfl (lv_at hl 1 rfl) ?_
  refine wq_cV_V X S hv q1640 q1642 qs34 q60 ⟨by decide +kernel, by decide +kernel⟩ (nA := 1) (As := [.int v1]) (by decide +kernel) rfl rfl (by simp [wv_rfc, wv_kI, wv_kJ, wv_kF, wv_kD]) hl.1 dX1_traceValue_2 (fun w2 H locs cells slots S hv => ?_) (wq_kx X rfl)
  refine wq_aload_n X dX1_traceValue_5 rfl (lv_at hl 0 rfl) ?_
  refine wq_gA X S hv ccX1 in_X1 (k := 4) (by decide) q231 dX1_traceValue_6 (fun x6 hv => ?_)
  refine wq_gAN X S hv ccX2 in_X2 (k := 0) (by decide) q192 dX1_traceValue_9 (fun x9 hv => ?_)
  refine wq_gAN X S hv ccX3 in_X3 (k := 1) (by decide) q172 dX1_traceValue_12 (fun x12 hv => ?_)
  refine lv_iload_n X.hx X.hb dX1_traceValue_15 rfl (lv_at hl 1 rfl) ?_
  refine wq_li0 X S hv dX1_traceValue_16 (fun x16 hv => ?_)
  exact wr_iret X S rfl hv dX1_traceValue_17
theorem wk_X1_traceValue {G : wv_G} (hG : wv_G0 G) {v0 : Option Nat} {v1 : Int32} {h : wv_H} {fr kc ks : Nat} {P : wv_R → wv_H → Prop} (hv : vc_X1_traceValue_0 G fr P v0 v1 (h, kc, ks)) : wv_C G yX1_traceValue [va_rf v0, .int v1] h fr kc ks P := by
  refine wv_enter (lv := [(0, va_rf v0), (1, .int v1)]) hG (by decide +kernel) q1654 (by decide) (by simp [lg_sl, wv_rfc, wv_kI, wv_kJ, wv_kF, wv_kD]) (by simp [lv_args, wv_rfc, wv_kI, wv_kJ, wv_kF, wv_kD]) ?_
  intro p e R s m args below meth c X H locs cells slots ls S hl
  exact wk_X1_traceValue_0 X hv H locs cells slots ls S (lv_sub hl [0, 1] rfl)

def vc_X1_turn_0 (G : wv_G) (fr : Nat) (P : wv_R → wv_H → Prop) (v0 : Option Nat) (v1 : Int32) (v2 : Int32) (w : wv_W) : Prop :=
  wv_cV G fr yX1_advice v0 [.int v1] w (wv_rA (fun x2 w2 => wv_gI w2 x2 ciX19 6 (fun x7 => wv_fit .boolean v2 ∧ wv_pt w2 x2 ciX19 6 (.int v2) (fun w14 => narrow .boolean (.int x7) = .int x7 ∧ P (.inl (some (.int x7))) w14.1))) (wv_pr P))
set_option maxHeartbeats 4000000 in
theorem wk_X1_turn_0 {G : wv_G} {p : Program} {e : Env} {R : Room} {s : State} {m : MethodId} {args : Array Value} {below : List Frame} {meth : Method} {c : Code} {fr : Nat} {P : wv_R → wv_H → Prop} (X : wv_ok G p R s m args meth c fr "Weaversgate" cX1_turn 5 (Option.some Jvm.ClassFile.FieldType.boolean) "turn" []) {v0 : Option Nat} {v1 : Int32} {v2 : Int32} {w : wv_W} (hv : vc_X1_turn_0 G fr P v0 v1 v2 w) : wv_J G p e R s m args below meth c 5 P w 0 [(0, va_rf v0), (1, .int v1), (2, .int v2)] [] := by
  intro H locs cells slots ls S hl
  unfold vc_X1_turn_0 at hv
  refine wq_aload_n X dX1_turn_0 rfl (lv_at hl 0 rfl) ?_
  refine lv_iload_n X.hx X.hb dX1_turn_1 rfl (lv_at hl 1 rfl) ?_
  refine wq_cV_A X S hv q1576 q1578 qs32 q60 ⟨by decide +kernel, by decide +kernel⟩ (nA := 1) (As := [.int v1]) (by decide +kernel) rfl rfl (by simp [wv_rfc, wv_kI, wv_kJ, wv_kF, wv_kD]) hl.1 dX1_turn_2 (fun x2 w2 H locs cells slots S hv => ?_) (wq_kx X rfl)
  refine wq_astore_n X (i := 3) (lv' := [(3, va_rf x2), (0, va_rf v0), (1, .int v1), (2, .int v2)]) dX1_turn_5 rfl hl (by decide) (by simp [wv_rfc, wv_kI, wv_kJ, wv_kF, wv_kD]) (fun ls hl => ?_)
  refine wq_aload_n X dX1_turn_6 rfl (lv_at hl 0 rfl) ?_
  refine wq_gIN X S hv ccX19 in_X19 (k := 6) (by decide) q1553 dX1_turn_7 (fun x7 hv => ?_)
  refine lv_istore X.hx X.hb (i := 4) (lv' := [(4, .int x7), (3, va_rf x2), (0, va_rf v0), (1, .int v1), (2, .int v2)]) dX1_turn_10 hl (by decide) (by simp [wv_rfc, wv_kI, wv_kJ, wv_kF, wv_kD]) (fun ls hl => ?_)
  refine wq_aload_n X dX1_turn_12 rfl (lv_at hl 1 rfl) ?_
  refine lv_iload_n X.hx X.hb dX1_turn_13 rfl (lv_at hl 4 rfl) ?_
  have hv14 := hv.1
  have hv := hv.2
  refine wq_ptN X S hv tyX19 tyX19_ok nmX19 ccX19 in_X19 (k := 6) (by decide) q1553 rfl rfl hv14.1 hv14.2 dX1_turn_14 (fun w14 H locs S hv => ?_)
  refine lv_iload X.hx X.hb dX1_turn_17 (lv_at hl 0 rfl) ?_
  exact wr_iret X S hv.1 hv.2 dX1_turn_19
theorem wk_X1_turn {G : wv_G} (hG : wv_G0 G) {v0 : Option Nat} {v1 : Int32} {v2 : Int32} {h : wv_H} {fr kc ks : Nat} {P : wv_R → wv_H → Prop} (hv : vc_X1_turn_0 G fr P v0 v1 v2 (h, kc, ks)) : wv_C G yX1_turn [va_rf v0, .int v1, .int v2] h fr kc ks P := by
  refine wv_enter (lv := [(0, va_rf v0), (1, .int v1), (2, .int v2)]) hG (by decide +kernel) q1575 (by decide) (by simp [lg_sl, wv_rfc, wv_kI, wv_kJ, wv_kF, wv_kD]) (by simp [lv_args, wv_rfc, wv_kI, wv_kJ, wv_kF, wv_kD]) ?_
  intro p e R s m args below meth c X H locs cells slots ls S hl
  exact wk_X1_turn_0 X hv H locs cells slots ls S (lv_sub hl [0, 1, 2] rfl)

def vc_X1_type_0 (G : wv_G) (fr : Nat) (P : wv_R → wv_H → Prop) (v0 : Option Nat) (v1 : Int32) (w : wv_W) : Prop :=
  wv_gA w v0 ciX1 0 (fun x3 => wv_cV G fr yJ2_size x3 [] w (wv_rI (fun x6 w6 => wv_c0 G fr yX1_inRange [.int v1, .int (0 : Int32), .int (x6 - (1 : Int32))] w6 (wv_rI (fun x11 w11 => wv_c0 G fr yX1_checkPlace [.int x11] w11 (wv_rV (fun w14 => wv_gA w14 v0 ciX1 0 (fun x18 => wv_cV G fr yJ2_get x18 [.int v1] w14 (wv_rA (fun x22 w22 => wv_cc G w22 x22 "Weaversgate$Type" (P (.inl (some (va_rf x22))) w22.1)) (wv_pr P)))) (wv_pr P))) (wv_pr P))) (wv_pr P)))
set_option maxHeartbeats 4000000 in
theorem wk_X1_type_0 {G : wv_G} {p : Program} {e : Env} {R : Room} {s : State} {m : MethodId} {args : Array Value} {below : List Frame} {meth : Method} {c : Code} {fr : Nat} {P : wv_R → wv_H → Prop} (X : wv_ok G p R s m args meth c fr "Weaversgate" cX1_type 2 (Option.some (Jvm.ClassFile.FieldType.object "Weaversgate$Type")) "type" []) {v0 : Option Nat} {v1 : Int32} {w : wv_W} (hv : vc_X1_type_0 G fr P v0 v1 w) : wv_J G p e R s m args below meth c 2 P w 0 [(0, va_rf v0), (1, .int v1)] [] := by
  intro H locs cells slots ls S hl
  unfold vc_X1_type_0 at hv
  refine lv_iload_n X.hx X.hb dX1_type_0 rfl (lv_at hl 1 rfl) ?_
  refine lv_iconst (v := (0 : Int32)) X.hx X.hb dX1_type_1 (by decide) ?_
  refine wq_aload_n X dX1_type_2 rfl (lv_at hl 0 rfl) ?_
  refine wq_gA X S hv ccX1 in_X1 (k := 0) (by decide) q225 dX1_type_3 (fun x3 hv => ?_)
  refine wq_cV_I X S hv q269 q270 q271 q63 ⟨by decide +kernel, by decide +kernel⟩ (nA := 0) (As := []) (by decide +kernel) rfl rfl (by simp [wv_rfc, wv_kI, wv_kJ, wv_kF, wv_kD]) hl.1 dX1_type_6 (fun x6 w6 H locs cells slots S hv => ?_) (wq_kx X rfl)
  refine lv_iconst (v := (1 : Int32)) X.hx X.hb dX1_type_9 (by decide) ?_
  refine lv_isub X.hx X.hb dX1_type_10 ?_
  refine wq_cS_I X S hv q1243 q1244 q60 ⟨by decide +kernel, by decide +kernel⟩ (nA := 3) (As := [.int v1, .int (0 : Int32), .int (x6 - (1 : Int32))]) (by decide +kernel) rfl rfl (by simp [wv_rfc, wv_kI, wv_kJ, wv_kF, wv_kD]) hl.1 dX1_type_11 (fun x11 w11 H locs cells slots S hv => ?_) (wq_kx X rfl)
  refine wq_cS_V X S hv q1246 q1247 q60 ⟨by decide +kernel, by decide +kernel⟩ (nA := 1) (As := [.int x11]) (by decide +kernel) rfl rfl (by simp [wv_rfc, wv_kI, wv_kJ, wv_kF, wv_kD]) hl.1 dX1_type_14 (fun w14 H locs cells slots S hv => ?_) (wq_kx X rfl)
  refine wq_aload_n X dX1_type_17 rfl (lv_at hl 0 rfl) ?_
  refine wq_gA X S hv ccX1 in_X1 (k := 0) (by decide) q225 dX1_type_18 (fun x18 hv => ?_)
  refine lv_iload_n X.hx X.hb dX1_type_21 rfl (lv_at hl 1 rfl) ?_
  refine wq_cV_A X S hv q273 q274 q275 q63 ⟨by decide +kernel, by decide +kernel⟩ (nA := 1) (As := [.int v1]) (by decide +kernel) rfl rfl (by simp [wv_rfc, wv_kI, wv_kJ, wv_kF, wv_kD]) hl.1 dX1_type_22 (fun x22 w22 H locs cells slots S hv => ?_) (wq_kx X rfl)
  refine wq_cc X S hv q287 dX1_type_25 (fun hv => ?_)
  exact wr_aret X S (Or.inl ⟨_, rfl⟩) hv dX1_type_28
theorem wk_X1_type {G : wv_G} (hG : wv_G0 G) {v0 : Option Nat} {v1 : Int32} {h : wv_H} {fr kc ks : Nat} {P : wv_R → wv_H → Prop} (hv : vc_X1_type_0 G fr P v0 v1 (h, kc, ks)) : wv_C G yX1_type [va_rf v0, .int v1] h fr kc ks P := by
  refine wv_enter (lv := [(0, va_rf v0), (1, .int v1)]) hG (by decide +kernel) q1242 (by decide) (by simp [lg_sl, wv_rfc, wv_kI, wv_kJ, wv_kF, wv_kD]) (by simp [lv_args, wv_rfc, wv_kI, wv_kJ, wv_kF, wv_kD]) ?_
  intro p e R s m args below meth c X H locs cells slots ls S hl
  exact wk_X1_type_0 X hv H locs cells slots ls S (lv_sub hl [0, 1] rfl)

def vc_X1_woven_0 (G : wv_G) (fr : Nat) (P : wv_R → wv_H → Prop) (v0 : Option Nat) (w : wv_W) : Prop :=
  wv_cV G fr yX1_countPairs v0 [.int (121 : Int32)] w (wv_rI (fun x3 w3 => P (.inl (some (.int x3))) w3.1) (wv_pr P))
set_option maxHeartbeats 4000000 in
theorem wk_X1_woven_0 {G : wv_G} {p : Program} {e : Env} {R : Room} {s : State} {m : MethodId} {args : Array Value} {below : List Frame} {meth : Method} {c : Code} {fr : Nat} {P : wv_R → wv_H → Prop} (X : wv_ok G p R s m args meth c fr "Weaversgate" cX1_woven 1 (Option.some Jvm.ClassFile.FieldType.int) "woven" []) {v0 : Option Nat} {w : wv_W} (hv : vc_X1_woven_0 G fr P v0 w) : wv_J G p e R s m args below meth c 1 P w 0 [(0, va_rf v0)] [] := by
  intro H locs cells slots ls S hl
  unfold vc_X1_woven_0 at hv
  refine wq_aload_n X dX1_woven_0 rfl (lv_at hl 0 rfl) ?_
  refine lv_bipush (v := (121 : Int32)) X.hx X.hb dX1_woven_1 (by decide) ?_
  refine wq_cV_I X S hv q265 q267 qs2 q60 ⟨by decide +kernel, by decide +kernel⟩ (nA := 1) (As := [.int (121 : Int32)]) (by decide +kernel) rfl rfl (by simp [wv_rfc, wv_kI, wv_kJ, wv_kF, wv_kD]) hl.1 dX1_woven_3 (fun x3 w3 H locs cells slots S hv => ?_) (wq_kx X rfl)
  exact wr_iret X S rfl hv dX1_woven_6
theorem wk_X1_woven {G : wv_G} (hG : wv_G0 G) {v0 : Option Nat} {h : wv_H} {fr kc ks : Nat} {P : wv_R → wv_H → Prop} (hv : vc_X1_woven_0 G fr P v0 (h, kc, ks)) : wv_C G yX1_woven [va_rf v0] h fr kc ks P := by
  refine wv_enter (lv := [(0, va_rf v0)]) hG (by decide +kernel) q913 (by decide) (by simp [lg_sl, wv_rfc, wv_kI, wv_kJ, wv_kF, wv_kD]) (by simp [lv_args, wv_rfc, wv_kI, wv_kJ, wv_kF, wv_kD]) ?_
  intro p e R s m args below meth c X H locs cells slots ls S hl
  exact wk_X1_woven_0 X hv H locs cells slots ls S (lv_sub hl [0] rfl)
