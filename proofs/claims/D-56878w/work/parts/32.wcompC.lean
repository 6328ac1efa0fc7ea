def vc_X2_around_17 (G : wv_G) (fr : Nat) (P : wv_R → wv_H → Prop) (K17 : ((Option Nat) × (Option Nat) × Int32 × Int32 × (Option Nat) × Int32 × Int32) → wv_W → Prop) (v0 : Option Nat) (v1 : Option Nat) (v2 : Int32) (v3 : Int32) (v5 : Option Nat) (v6 : Int32) (v7 : Int32) (w : wv_W) : Prop :=
  wv_gI w v1 ciX19 5 (fun x20 => (x20 ≤ v7 → P (.inl (some (.int v6))) w.1) ∧ (¬ x20 ≤ v7 → wv_gI w v1 ciX19 4 (fun x34 => wv_cV G fr yX2_goOn v0 [.int v2, .int (v3 + (1 : Int32)), .int (v6 + x34), va_rf v5] w (wv_rI (fun x40 w40 => K17 (v0, v1, v2, v3, v5, x40, (v7 + (1 : Int32))) w40) (wv_pr P)))))
def vc_X2_around_0 (G : wv_G) (fr : Nat) (P : wv_R → wv_H → Prop) (v0 : Option Nat) (v1 : Option Nat) (v2 : Int32) (v3 : Int32) (v4 : Int32) (v5 : Option Nat) (w : wv_W) : Prop :=
  wv_gA w v0 ciX2 0 (fun x1 => wv_cV G fr yX3_add x1 [va_rf v1, .int v4] w (wv_rV (fun w7 => wv_L (fun K17 a w => vc_X2_around_17 G fr P K17 a.1 a.2.1 a.2.2.1 a.2.2.2.1 a.2.2.2.2.1 a.2.2.2.2.2.1 a.2.2.2.2.2.2 w) (v0, v1, v2, v3, v5, v4, (0 : Int32)) w7) (wv_pr P)))
set_option maxHeartbeats 4000000 in
theorem wk_X2_around_17 {G : wv_G} {p : Program} {e : Env} {R : Room} {s : State} {m : MethodId} {args : Array Value} {below : List Frame} {meth : Method} {c : Code} {fr : Nat} {P : wv_R → wv_H → Prop} (X : wv_ok G p R s m args meth c fr "Weaversgate$Run" cX2_around 8 (Option.some Jvm.ClassFile.FieldType.int) "around" []) {K17 : ((Option Nat) × (Option Nat) × Int32 × Int32 × (Option Nat) × Int32 × Int32) → wv_W → Prop} (hK17 : ∀ a w, K17 a w → wv_J G p e R s m args below meth c 8 P w 17 [(0, va_rf a.1), (1, va_rf a.2.1), (2, .int a.2.2.1), (3, .int a.2.2.2.1), (5, va_rf a.2.2.2.2.1), (6, .int a.2.2.2.2.2.1), (7, .int a.2.2.2.2.2.2)] []) {v0 : Option Nat} {v1 : Option Nat} {v2 : Int32} {v3 : Int32} {v5 : Option Nat} {v6 : Int32} {v7 : Int32} {w : wv_W} (hv : vc_X2_around_17 G fr P K17 v0 v1 v2 v3 v5 v6 v7 w) : wv_J G p e R s m args below meth c 8 P w 17 [(0, va_rf v0), (1, va_rf v1), (2, .int v2), (3, .int v3), (5, va_rf v5), (6, .int v6), (7, .int v7)] [] := by
  intro H locs cells slots ls S hl
  unfold vc_X2_around_17 at hv
  refine lv_iload X.hx X.hb dX2_around_17 (lv_at hl 6 rfl) ?_
  refine wq_aload_n X dX2_around_19 rfl (lv_at hl 1 rfl) ?_
  refine wq_gIN X S hv ccX19 in_X19 (k := 5) (by decide) q1550 dX2_around_20 (fun x20 hv => ?_)
  refine lv_icmp_ge (tgt := 51) X.hx X.hb dX2_around_23 (by decide) (fun c23 => ?_) (fun c23 => ?_)
  · have hv := hv.1 c23
    refine lv_iload X.hx X.hb dX2_around_51 (lv_at hl 5 rfl) ?_
    exact wr_iret X S rfl hv dX2_around_53
  · have hv := hv.2 c23
    refine wq_aload_n X dX2_around_26 rfl (lv_at hl 0 rfl) ?_
    refine lv_iload_n X.hx X.hb dX2_around_27 rfl (lv_at hl 2 rfl) ?_
    refine lv_iload_n X.hx X.hb dX2_around_28 rfl (lv_at hl 3 rfl) ?_
    refine lv_iconst (v := (1 : Int32)) X.hx X.hb dX2_around_29 (by decide) ?_
    refine lv_iadd X.hx X.hb dX2_around_30 ?_
    refine lv_iload X.hx X.hb dX2_around_31 (lv_at hl 5 rfl) ?_
    refine wq_aload_n X dX2_around_33 rfl (lv_at hl 1 rfl) ?_
    refine wq_gIN X S hv ccX19 in_X19 (k := 4) (by decide) q1548 dX2_around_34 (fun x34 hv => ?_)
    refine lv_iadd X.hx X.hb dX2_around_37 ?_
    refine wq_aload X dX2_around_38 (lv_at hl 4 rfl) ?_
    refine wq_cV_I X S hv q1171 q1173 qs21 q64 ⟨by decide +kernel, by decide +kernel⟩ (nA := 4) (As := [.int v2, .int (v3 + (1 : Int32)), .int (v6 + x34), va_rf v5]) (by decide +kernel) rfl rfl (by simp [wv_rfc, wv_kI, wv_kJ, wv_kF, wv_kD]) hl.1 dX2_around_40 (fun x40 w40 H locs cells slots S hv => ?_) (wq_kx X rfl)
    refine lv_istore X.hx X.hb (i := 6) (lv' := [(6, .int x40), (0, va_rf v0), (1, va_rf v1), (2, .int v2), (3, .int v3), (5, va_rf v5), (7, .int v7)]) dX2_around_43 hl (by decide) (by simp [wv_rfc, wv_kI, wv_kJ, wv_kF, wv_kD]) (fun ls hl => ?_)
    refine lv_iinc (v := (v7 + (1 : Int32))) (lv' := [(7, .int (v7 + (1 : Int32))), (6, .int x40), (0, va_rf v0), (1, va_rf v1), (2, .int v2), (3, .int v3), (5, va_rf v5)]) X.hx X.hb dX2_around_45 hl (k := 6) rfl (by rfl) (by decide) (by simp [wv_rfc, wv_kI, wv_kJ, wv_kF, wv_kD]) (fun ls hl => ?_)
    refine lv_goto (tgt := 17) X.hx X.hb dX2_around_48 (by decide) ?_
    exact hK17 _ _ hv H locs cells slots ls S (lv_sub hl [2, 3, 4, 5, 6, 1, 0] rfl)
set_option maxHeartbeats 4000000 in
theorem wk_X2_around_0 {G : wv_G} {p : Program} {e : Env} {R : Room} {s : State} {m : MethodId} {args : Array Value} {below : List Frame} {meth : Method} {c : Code} {fr : Nat} {P : wv_R → wv_H → Prop} (X : wv_ok G p R s m args meth c fr "Weaversgate$Run" cX2_around 8 (Option.some Jvm.ClassFile.FieldType.int) "around" []) {v0 : Option Nat} {v1 : Option Nat} {v2 : Int32} {v3 : Int32} {v4 : Int32} {v5 : Option Nat} {w : wv_W} (hv : vc_X2_around_0 G fr P v0 v1 v2 v3 v4 v5 w) : wv_J G p e R s m args below meth c 8 P w 0 [(0, va_rf v0), (1, va_rf v1), (2, .int v2), (3, .int v3), (4, .int v4), (5, va_rf v5)] [] := by
  intro H locs cells slots ls S hl
  unfold vc_X2_around_0 at hv
  refine wq_aload_n X dX2_around_0 rfl (lv_at hl 0 rfl) ?_
  refine wq_gA X S hv ccX2 in_X2 (k := 0) (by decide) q191 dX2_around_1 (fun x1 hv => ?_)
  refine wq_aload_n X dX2_around_4 rfl (lv_at hl 1 rfl) ?_
  refine lv_iload X.hx X.hb dX2_around_5 (lv_at hl 4 rfl) ?_
  refine wq_cV_V X S hv q1183 q1184 q1185 q65 ⟨by decide +kernel, by decide +kernel⟩ (nA := 2) (As := [va_rf v1, .int v4]) (by decide +kernel) rfl rfl (by simp [wv_rfc, wv_kI, wv_kJ, wv_kF, wv_kD]) hl.1 dX2_around_7 (fun w7 H locs cells slots S hv => ?_) (wq_kx X rfl)
  refine lv_iload X.hx X.hb dX2_around_10 (lv_at hl 4 rfl) ?_
  refine lv_istore X.hx X.hb (i := 6) (lv' := [(6, .int v4), (0, va_rf v0), (1, va_rf v1), (2, .int v2), (3, .int v3), (4, .int v4), (5, va_rf v5)]) dX2_around_12 hl (by decide) (by simp [wv_rfc, wv_kI, wv_kJ, wv_kF, wv_kD]) (fun ls hl => ?_)
  refine lv_iconst (v := (0 : Int32)) X.hx X.hb dX2_around_14 (by decide) ?_
  refine lv_istore X.hx X.hb (i := 7) (lv' := [(7, .int (0 : Int32)), (6, .int v4), (0, va_rf v0), (1, va_rf v1), (2, .int v2), (3, .int v3), (4, .int v4), (5, va_rf v5)]) dX2_around_15 hl (by decide) (by simp [wv_rfc, wv_kI, wv_kJ, wv_kF, wv_kD]) (fun ls hl => ?_)
  exact wv_loop (A := (Option Nat) × (Option Nat) × Int32 × Int32 × (Option Nat) × Int32 × Int32) (fun a w => wv_J G p e R s m args below meth c 8 P w 17 [(0, va_rf a.1), (1, va_rf a.2.1), (2, .int a.2.2.1), (3, .int a.2.2.2.1), (5, va_rf a.2.2.2.2.1), (6, .int a.2.2.2.2.2.1), (7, .int a.2.2.2.2.2.2)] []) (fun K17 hK17 a w hv => wk_X2_around_17 X hK17 hv) hv H locs cells slots ls S (lv_sub hl [2, 3, 4, 5, 7, 1, 0] rfl)
theorem wk_X2_around {G : wv_G} (hG : wv_G0 G) {v0 : Option Nat} {v1 : Option Nat} {v2 : Int32} {v3 : Int32} {v4 : Int32} {v5 : Option Nat} {h : wv_H} {fr kc ks : Nat} {P : wv_R → wv_H → Prop} (hv : vc_X2_around_0 G fr P v0 v1 v2 v3 v4 v5 (h, kc, ks)) : wv_C G yX2_around [va_rf v0, va_rf v1, .int v2, .int v3, .int v4, va_rf v5] h fr kc ks P := by
  refine wv_enter (lv := [(0, va_rf v0), (1, va_rf v1), (2, .int v2), (3, .int v3), (4, .int v4), (5, va_rf v5)]) hG (by decide +kernel) q1182 (by decide) (by simp [lg_sl, wv_rfc, wv_kI, wv_kJ, wv_kF, wv_kD]) (by simp [lv_args, wv_rfc, wv_kI, wv_kJ, wv_kF, wv_kD]) ?_
  intro p e R s m args below meth c X H locs cells slots ls S hl
  exact wk_X2_around_0 X hv H locs cells slots ls S (lv_sub hl [0, 1, 2, 3, 4, 5] rfl)

def vc_X2_begin_87 (G : wv_G) (fr : Nat) (P : wv_R → wv_H → Prop) (v0 : Option Nat) (s0 : Option Nat) (w : wv_W) : Prop :=
  wv_fit .char (108 : Int32) ∧ wv_pt w v0 ciX2 2 (.int (108 : Int32)) (fun w92 => P (.inl none) w92.1)
def vc_X2_begin_67 (G : wv_G) (fr : Nat) (P : wv_R → wv_H → Prop) (v0 : Option Nat) (s0 : Option Nat) (w : wv_W) : Prop :=
  wv_gI w s0 ciX23 6 (fun x72 => wv_pt w v0 ciX2 3 (.int x72) (fun w75 => wv_fit .char (120 : Int32) ∧ wv_pt w75 v0 ciX2 2 (.int (120 : Int32)) (fun w81 => P (.inl none) w81.1)))
def vc_X2_begin_0 (G : wv_G) (fr : Nat) (P : wv_R → wv_H → Prop) (v0 : Option Nat) (v1 : Option Nat) (v2 : Int32) (v3 : Int32) (v4 : Int32) (w : wv_W) : Prop :=
  wv_gA w v0 ciX2 0 (fun x1 => wv_pt w x1 ciX3 3 (.int (0 : Int32)) (fun w5 => wv_pt w5 v0 ciX2 4 (.int (0 : Int32)) (fun w10 => wv_pt w10 v0 ciX2 5 (.int (0 : Int32)) (fun w15 => wv_fit .boolean v4 ∧ wv_pt w15 v0 ciX2 6 (.int v4) (fun w21 => wv_pt w21 v0 ciX2 7 (va_rf none) (fun w26 => wv_pt w26 v0 ciX2 3 (.int (0 : Int32)) (fun w31 => wv_cV G fr yX2_order v0 [] w31 (wv_rV (fun w35 => wv_no G w35 (wo_o ciX22 [va_rf none, va_rf none]) 2 (fun a40 w40 => wv_cI G fr yX22_init (some a40) [va_rf v1] w40 (wv_rV (fun w45 => wv_cV G fr yX2_call v0 [va_rf (some a40), .int v2, .int v3, .int (-1 : Int32), va_rf none] w45 (wv_rI (fun x52 w52 => wv_pt w52 v0 ciX2 3 (.int x52) (fun w55 => wv_fit .char (114 : Int32) ∧ wv_pt w55 v0 ciX2 2 (.int (114 : Int32)) (fun w61 => P (.inl none) w61.1))) (fun E q w => (E = "Weaversgate$Thrown" → vc_X2_begin_67 G fr P v0 (some q) w) ∧ (¬ E = "Weaversgate$Thrown" → (va_Nc E "Weaversgate$Thrown" G.2.1 ∧ (E = "Weaversgate$GivenUp" → vc_X2_begin_87 G fr P v0 (some q) w) ∧ (¬ E = "Weaversgate$GivenUp" → (va_Nc E "Weaversgate$GivenUp" G.2.1 ∧ P (.inr (E, q)) w.1))))))) (fun E q w => (E = "Weaversgate$Thrown" → vc_X2_begin_67 G fr P v0 (some q) w) ∧ (¬ E = "Weaversgate$Thrown" → (va_Nc E "Weaversgate$Thrown" G.2.1 ∧ (E = "Weaversgate$GivenUp" → vc_X2_begin_87 G fr P v0 (some q) w) ∧ (¬ E = "Weaversgate$GivenUp" → (va_Nc E "Weaversgate$GivenUp" G.2.1 ∧ P (.inr (E, q)) w.1)))))))) (wv_pr P)))))))))
set_option maxHeartbeats 4000000 in
theorem wk_X2_begin_87 {G : wv_G} {p : Program} {e : Env} {R : Room} {s : State} {m : MethodId} {args : Array Value} {below : List Frame} {meth : Method} {c : Code} {fr : Nat} {P : wv_R → wv_H → Prop} (X : wv_ok G p R s m args meth c fr "Weaversgate$Run" cX2_begin 6 (Option.none : Option Jvm.ClassFile.FieldType) "begin" [(38, 64, 67, 65), (38, 64, 87, 70)]) {v0 : Option Nat} {s0 : Option Nat} {w : wv_W} (hv : vc_X2_begin_87 G fr P v0 s0 w) : wv_J G p e R s m args below meth c 6 P w 87 [(0, va_rf v0)] [va_rf s0] := by
  intro H locs cells slots ls S hl
  unfold vc_X2_begin_87 at hv
  refine wq_astore X (i := 5) (lv' := [(5, va_rf s0), (0, va_rf v0)]) dX2_begin_87 hl (by decide) rfl (fun ls hl => ?_)
  refine wq_aload_n X dX2_begin_89 rfl (lv_at hl 1 rfl) ?_
  refine lv_bipush (v := (108 : Int32)) X.hx X.hb dX2_begin_90 (by decide) ?_
  have hv92 := hv.1
  have hv := hv.2
  refine wq_pt X S hv tyX2 tyX2_ok nmX2 ccX2 in_X2 (k := 2) (by decide) q194 rfl rfl hv92.1 hv92.2 dX2_begin_92 (fun w92 H locs S hv => ?_)
  exact wr_vret X S hv dX2_begin_95
set_option maxHeartbeats 4000000 in
theorem wk_X2_begin_67 {G : wv_G} {p : Program} {e : Env} {R : Room} {s : State} {m : MethodId} {args : Array Value} {below : List Frame} {meth : Method} {c : Code} {fr : Nat} {P : wv_R → wv_H → Prop} (X : wv_ok G p R s m args meth c fr "Weaversgate$Run" cX2_begin 6 (Option.none : Option Jvm.ClassFile.FieldType) "begin" [(38, 64, 67, 65), (38, 64, 87, 70)]) {v0 : Option Nat} {s0 : Option Nat} {w : wv_W} (hv : vc_X2_begin_67 G fr P v0 s0 w) : wv_J G p e R s m args below meth c 6 P w 67 [(0, va_rf v0)] [va_rf s0] := by
  intro H locs cells slots ls S hl
  unfold vc_X2_begin_67 at hv
  refine wq_astore X (i := 5) (lv' := [(5, va_rf s0), (0, va_rf v0)]) dX2_begin_67 hl (by decide) rfl (fun ls hl => ?_)
  refine wq_aload_n X dX2_begin_69 rfl (lv_at hl 1 rfl) ?_
  refine wq_aload X dX2_begin_70 (lv_at hl 0 rfl) ?_
  refine wq_gIN X S hv ccX23 in_X23 (k := 6) (by decide) q995 dX2_begin_72 (fun x72 hv => ?_)
  refine wq_pt X S hv tyX2 tyX2_ok nmX2 ccX2 in_X2 (k := 3) (by decide) q196 rfl rfl rfl rfl dX2_begin_75 (fun w75 H locs S hv => ?_)
  refine wq_aload_n X dX2_begin_78 rfl (lv_at hl 1 rfl) ?_
  refine lv_bipush (v := (120 : Int32)) X.hx X.hb dX2_begin_79 (by decide) ?_
  have hv81 := hv.1
  have hv := hv.2
  refine wq_pt X S hv tyX2 tyX2_ok nmX2 ccX2 in_X2 (k := 2) (by decide) q194 rfl rfl hv81.1 hv81.2 dX2_begin_81 (fun w81 H locs S hv => ?_)
  refine lv_goto (tgt := 95) X.hx X.hb dX2_begin_84 (by decide) ?_
  exact wr_vret X S hv dX2_begin_95
set_option maxHeartbeats 4000000 in
theorem wk_X2_begin_0 {G : wv_G} {p : Program} {e : Env} {R : Room} {s : State} {m : MethodId} {args : Array Value} {below : List Frame} {meth : Method} {c : Code} {fr : Nat} {P : wv_R → wv_H → Prop} (X : wv_ok G p R s m args meth c fr "Weaversgate$Run" cX2_begin 6 (Option.none : Option Jvm.ClassFile.FieldType) "begin" [(38, 64, 67, 65), (38, 64, 87, 70)]) {v0 : Option Nat} {v1 : Option Nat} {v2 : Int32} {v3 : Int32} {v4 : Int32} {w : wv_W} (hv : vc_X2_begin_0 G fr P v0 v1 v2 v3 v4 w) : wv_J G p e R s m args below meth c 6 P w 0 [(0, va_rf v0), (1, va_rf v1), (2, .int v2), (3, .int v3), (4, .int v4)] [] := by
  intro H locs cells slots ls S hl
  unfold vc_X2_begin_0 at hv
  refine wq_aload_n X dX2_begin_0 rfl (lv_at hl 0 rfl) ?_
  refine wq_gA X S hv ccX2 in_X2 (k := 0) (by decide) q191 dX2_begin_1 (fun x1 hv => ?_)
  refine lv_iconst (v := (0 : Int32)) X.hx X.hb dX2_begin_4 (by decide) ?_
  refine wq_ptN X S hv tyX3 tyX3_ok nmX3 ccX3 in_X3 (k := 3) (by decide) q176 rfl rfl rfl rfl dX2_begin_5 (fun w5 H locs S hv => ?_)
  refine wq_aload_n X dX2_begin_8 rfl (lv_at hl 0 rfl) ?_
  refine lv_iconst (v := (0 : Int32)) X.hx X.hb dX2_begin_9 (by decide) ?_
  refine wq_pt X S hv tyX2 tyX2_ok nmX2 ccX2 in_X2 (k := 4) (by decide) q198 rfl rfl rfl rfl dX2_begin_10 (fun w10 H locs S hv => ?_)
  refine wq_aload_n X dX2_begin_13 rfl (lv_at hl 0 rfl) ?_
  refine lv_iconst (v := (0 : Int32)) X.hx X.hb dX2_begin_14 (by decide) ?_
  refine wq_pt X S hv tyX2 tyX2_ok nmX2 ccX2 in_X2 (k := 5) (by decide) q200 rfl rfl rfl rfl dX2_begin_15 (fun w15 H locs S hv => ?_)
  refine wq_aload_n X dX2_begin_18 rfl (lv_at hl 0 rfl) ?_
  refine lv_iload X.hx X.hb dX2_begin_19 (lv_at hl 4 rfl) ?_
  have hv21 := hv.1
  have hv := hv.2
  refine wq_pt X S hv tyX2 tyX2_ok nmX2 ccX2 in_X2 (k := 6) (by decide) q202 rfl rfl hv21.1 hv21.2 dX2_begin_21 (fun w21 H locs S hv => ?_)
  refine wq_aload_n X dX2_begin_24 rfl (lv_at hl 0 rfl) ?_
  refine wq_null (k := 0) X S dX2_begin_25 ?_
  refine wq_pt X S hv tyX2 tyX2_ok nmX2 ccX2 in_X2 (k := 7) (by decide) q203 rfl rfl (wv_fnA (Or.inl ⟨_, rfl⟩)).1 (wv_fnA (Or.inl ⟨_, rfl⟩)).2 dX2_begin_26 (fun w26 H locs S hv => ?_)
  refine wq_aload_n X dX2_begin_29 rfl (lv_at hl 0 rfl) ?_
  refine lv_iconst (v := (0 : Int32)) X.hx X.hb dX2_begin_30 (by decide) ?_
  refine wq_pt X S hv tyX2 tyX2_ok nmX2 ccX2 in_X2 (k := 3) (by decide) q196 rfl rfl rfl rfl dX2_begin_31 (fun w31 H locs S hv => ?_)
  refine wq_aload_n X dX2_begin_34 rfl (lv_at hl 0 rfl) ?_
  refine wq_cV_V X S hv q945 q947 qs12 q64 ⟨by decide +kernel, by decide +kernel⟩ (nA := 0) (As := []) (by decide +kernel) rfl rfl (by simp [wv_rfc, wv_kI, wv_kJ, wv_kF, wv_kD]) hl.1 dX2_begin_35 (fun w35 H locs cells slots S hv => ?_) (wq_kx X rfl)
  refine wq_aload_n X dX2_begin_38 rfl (lv_at hl 0 rfl) ?_
  refine wq_aload_n X dX2_begin_39 rfl (lv_at hl 0 rfl) ?_
  refine wq_new X S hv tyX22 tyX22_ok ccX22 in_X22 q952 q953 q108 (fun j hj => by have hj : j < 2 := hj; rcases (show j = 0 ∨ j = 1 by omega) with rfl | rfl <;> rfl) dX2_begin_40 (fun a40 w40 H cells slots S hv => ?_)
  refine lv_dup X.hx X.hb dX2_begin_43 (wv_rfc _) ?_
  refine wq_aload_n X dX2_begin_44 rfl (lv_at hl 1 rfl) ?_
  refine wq_cI_V X S hv rfl q954 q955 q956 q108 ⟨by decide +kernel, by decide +kernel⟩ (nA := 1) (As := [va_rf v1]) (by decide +kernel) rfl rfl (by simp [wv_rfc, wv_kI, wv_kJ, wv_kF, wv_kD]) hl.1 dX2_begin_45 (fun w45 H locs cells slots S hv => ?_) ?_
  · refine lv_iload_n X.hx X.hb dX2_begin_48 rfl (lv_at hl 2 rfl) ?_
    refine lv_iload_n X.hx X.hb dX2_begin_49 rfl (lv_at hl 3 rfl) ?_
    refine lv_iconst (v := (-1 : Int32)) X.hx X.hb dX2_begin_50 (by decide) ?_
    refine wq_null (k := 0) X S dX2_begin_51 ?_
    refine wq_cV_I X S hv q967 q969 qs13 q64 ⟨by decide +kernel, by decide +kernel⟩ (nA := 5) (As := [va_rf (some a40), .int v2, .int v3, .int (-1 : Int32), va_rf none]) (by decide +kernel) rfl rfl (by simp [wv_rfc, wv_kI, wv_kJ, wv_kF, wv_kD]) hl.1 dX2_begin_52 (fun x52 w52 H locs cells slots S hv => ?_) ?_
    · refine wq_pt X S hv tyX2 tyX2_ok nmX2 ccX2 in_X2 (k := 3) (by decide) q196 rfl rfl rfl rfl dX2_begin_55 (fun w55 H locs S hv => ?_)
      refine wq_aload_n X dX2_begin_58 rfl (lv_at hl 0 rfl) ?_
      refine lv_bipush (v := (114 : Int32)) X.hx X.hb dX2_begin_59 (by decide) ?_
      have hv61 := hv.1
      have hv := hv.2
      refine wq_pt X S hv tyX2 tyX2_ok nmX2 ccX2 in_X2 (k := 2) (by decide) q194 rfl rfl hv61.1 hv61.2 dX2_begin_61 (fun w61 H locs S hv => ?_)
      refine lv_goto (tgt := 95) X.hx X.hb dX2_begin_64 (by decide) ?_
      exact wr_vret X S hv dX2_begin_95
    · intro E q w H locs cells slots S hv hth
      by_cases hE : E = "Weaversgate$Thrown"
      · subst hE
        have hv := hv.1 rfl
        refine wr_catch X [] (38, 64, 67, 65) [(38, 64, 87, 70)] rfl (fun z hz => by cases hz) rfl (by decide) q943 q980 hth ?_
        exact wk_X2_begin_67 X  hv H locs cells slots ls S (lv_sub hl [0] rfl)
      · have hv := hv.2 hE
        have hN0 := va_Nc.moved X.hW.alike hv.1
        have hv := hv.2
        by_cases hE : E = "Weaversgate$GivenUp"
        · subst hE
          have hv := hv.1 rfl
          refine wr_catch X [(38, 64, 67, 65)] (38, 64, 87, 70) [] rfl (List.forall_mem_cons.mpr ⟨(Or.inr ⟨by decide, "Weaversgate$Thrown", q943, hN0⟩), (fun z hz => absurd hz List.not_mem_nil)⟩) rfl (by decide) q944 q1037 hth ?_
          exact wk_X2_begin_87 X  hv H locs cells slots ls S (lv_sub hl [0] rfl)
        · have hv := hv.2 hE
          have hN1 := va_Nc.moved X.hW.alike hv.1
          have hv := hv.2
          exact wr_outP X S hv hth (List.forall_mem_cons.mpr ⟨(Or.inr ⟨by decide, "Weaversgate$Thrown", q943, hN0⟩), (List.forall_mem_cons.mpr ⟨(Or.inr ⟨by decide, "Weaversgate$GivenUp", q944, hN1⟩), (fun z hz => absurd hz List.not_mem_nil)⟩)⟩)
  · intro E q w H locs cells slots S hv hth
    by_cases hE : E = "Weaversgate$Thrown"
    · subst hE
      have hv := hv.1 rfl
      refine wr_catch X [] (38, 64, 67, 65) [(38, 64, 87, 70)] rfl (fun z hz => by cases hz) rfl (by decide) q943 q980 hth ?_
      exact wk_X2_begin_67 X  hv H locs cells slots ls S (lv_sub hl [0] rfl)
    · have hv := hv.2 hE
      have hN0 := va_Nc.moved X.hW.alike hv.1
      have hv := hv.2
      by_cases hE : E = "Weaversgate$GivenUp"
      · subst hE
        have hv := hv.1 rfl
        refine wr_catch X [(38, 64, 67, 65)] (38, 64, 87, 70) [] rfl (List.forall_mem_cons.mpr ⟨(Or.inr ⟨by decide, "Weaversgate$Thrown", q943, hN0⟩), (fun z hz => absurd hz List.not_mem_nil)⟩) rfl (by decide) q944 q1037 hth ?_
        exact wk_X2_begin_87 X  hv H locs cells slots ls S (lv_sub hl [0] rfl)
      · have hv := hv.2 hE
        have hN1 := va_Nc.moved X.hW.alike hv.1
        have hv := hv.2
        exact wr_outP X S hv hth (List.forall_mem_cons.mpr ⟨(Or.inr ⟨by decide, "Weaversgate$Thrown", q943, hN0⟩), (List.forall_mem_cons.mpr ⟨(Or.inr ⟨by decide, "Weaversgate$GivenUp", q944, hN1⟩), (fun z hz => absurd hz List.not_mem_nil)⟩)⟩)
theorem wk_X2_begin {G : wv_G} (hG : wv_G0 G) {v0 : Option Nat} {v1 : Option Nat} {v2 : Int32} {v3 : Int32} {v4 : Int32} {h : wv_H} {fr kc ks : Nat} {P : wv_R → wv_H → Prop} (hv : vc_X2_begin_0 G fr P v0 v1 v2 v3 v4 (h, kc, ks)) : wv_C G yX2_begin [va_rf v0, va_rf v1, .int v2, .int v3, .int v4] h fr kc ks P := by
  refine wv_enterW (lv := [(0, va_rf v0), (1, va_rf v1), (2, .int v2), (3, .int v3), (4, .int v4)]) hG (by decide +kernel) q942 (by decide) (by simp [lg_sl, wv_rfc, wv_kI, wv_kJ, wv_kF, wv_kD]) (by simp [lv_args, wv_rfc, wv_kI, wv_kJ, wv_kF, wv_kD]) ?_
  intro p e R s m args below meth c X H locs cells slots ls S hl
  exact wk_X2_begin_0 X hv H locs cells slots ls S (lv_sub hl [0, 1, 2, 3, 4] rfl)

def vc_X2_behind_41 (G : wv_G) (fr : Nat) (P : wv_R → wv_H → Prop) (v7 : Option Nat) (w : wv_W) : Prop :=
  wv_at w v7 (wv_pr P)
def vc_X2_behind_17 (G : wv_G) (fr : Nat) (P : wv_R → wv_H → Prop) (v0 : Option Nat) (v1 : Option Nat) (s0 : Option Nat) (w : wv_W) : Prop :=
  wv_gI w v1 ciX19 2 (fun x20 => (x20 = (97 : Int32) → vc_X2_behind_41 G fr P s0 w) ∧ (¬ x20 = (97 : Int32) → wv_gA w v0 ciX2 0 (fun x29 => wv_gI w s0 ciX23 6 (fun x35 => wv_cV G fr yX3_add x29 [va_rf v1, .int x35] w (wv_rV (fun w38 => vc_X2_behind_41 G fr P s0 w38) (wv_pr P))))))
def vc_X2_behind_0 (G : wv_G) (fr : Nat) (P : wv_R → wv_H → Prop) (v0 : Option Nat) (v1 : Option Nat) (v2 : Int32) (v3 : Int32) (v4 : Int32) (v5 : Option Nat) (w : wv_W) : Prop :=
  wv_cV G fr yX2_goOn v0 [.int v2, .int (v3 + (1 : Int32)), .int v4, va_rf v5] w (wv_rI (fun x9 w9 => wv_gI w9 v1 ciX19 2 (fun x45 => (x45 = (120 : Int32) → P (.inl (some (.int x9))) w9.1) ∧ (¬ x45 = (120 : Int32) → wv_gA w9 v0 ciX2 0 (fun x54 => wv_cV G fr yX3_add x54 [va_rf v1, .int x9] w9 (wv_rV (fun w60 => P (.inl (some (.int x9))) w60.1) (wv_pr P)))))) (fun E q w => (E = "Weaversgate$Thrown" → vc_X2_behind_17 G fr P v0 v1 (some q) w) ∧ (¬ E = "Weaversgate$Thrown" → (va_Nc E "Weaversgate$Thrown" G.2.1 ∧ P (.inr (E, q)) w.1))))
set_option maxHeartbeats 4000000 in
theorem wk_X2_behind_41 {G : wv_G} {p : Program} {e : Env} {R : Room} {s : State} {m : MethodId} {args : Array Value} {below : List Frame} {meth : Method} {c : Code} {fr : Nat} {P : wv_R → wv_H → Prop} (X : wv_ok G p R s m args meth c fr "Weaversgate$Run" cX2_behind 8 (Option.some Jvm.ClassFile.FieldType.int) "behind" [(0, 14, 17, 65)]) {v7 : Option Nat} {w : wv_W} (hv : vc_X2_behind_41 G fr P v7 w) : wv_J G p e R s m args below meth c 8 P w 41 [(7, va_rf v7)] [] := by
  intro H locs cells slots ls S hl
  unfold vc_X2_behind_41 at hv
  refine wq_aload X dX2_behind_41 (lv_at hl 0 rfl) ?_
  exact wq_athrow X S hv dX2_behind_43 (wq_kx X rfl)
set_option maxHeartbeats 4000000 in
theorem wk_X2_behind_17 {G : wv_G} {p : Program} {e : Env} {R : Room} {s : State} {m : MethodId} {args : Array Value} {below : List Frame} {meth : Method} {c : Code} {fr : Nat} {P : wv_R → wv_H → Prop} (X : wv_ok G p R s m args meth c fr "Weaversgate$Run" cX2_behind 8 (Option.some Jvm.ClassFile.FieldType.int) "behind" [(0, 14, 17, 65)]) {v0 : Option Nat} {v1 : Option Nat} {s0 : Option Nat} {w : wv_W} (hv : vc_X2_behind_17 G fr P v0 v1 s0 w) : wv_J G p e R s m args below meth c 8 P w 17 [(0, va_rf v0), (1, va_rf v1)] [va_rf s0] := by
  intro H locs cells slots ls S hl
  unfold vc_X2_behind_17 at hv
  refine wq_astore X (i := 7) (lv' := [(7, va_rf s0), (0, va_rf v0), (1, va_rf v1)]) dX2_behind_17 hl (by decide) rfl (fun ls hl => ?_)
  refine wq_aload_n X dX2_behind_19 rfl (lv_at hl 2 rfl) ?_
  refine wq_gIN X S hv ccX19 in_X19 (k := 2) (by decide) q1543 dX2_behind_20 (fun x20 hv => ?_)
  refine lv_bipush (v := (97 : Int32)) X.hx X.hb dX2_behind_23 (by decide) ?_
  refine lv_icmp_eq (tgt := 41) X.hx X.hb dX2_behind_25 (by decide) (fun c25 => ?_) (fun c25 => ?_)
  · have hv := hv.1 c25
    exact wk_X2_behind_41 X  hv H locs cells slots ls S (lv_sub hl [0] rfl)
  · have hv := hv.2 c25
    refine wq_aload_n X dX2_behind_28 rfl (lv_at hl 1 rfl) ?_
    refine wq_gA X S hv ccX2 in_X2 (k := 0) (by decide) q191 dX2_behind_29 (fun x29 hv => ?_)
    refine wq_aload_n X dX2_behind_32 rfl (lv_at hl 2 rfl) ?_
    refine wq_aload X dX2_behind_33 (lv_at hl 0 rfl) ?_
    refine wq_gIN X S hv ccX23 in_X23 (k := 6) (by decide) q995 dX2_behind_35 (fun x35 hv => ?_)
    refine wq_cV_V X S hv q1183 q1184 q1185 q65 ⟨by decide +kernel, by decide +kernel⟩ (nA := 2) (As := [va_rf v1, .int x35]) (by decide +kernel) rfl rfl (by simp [wv_rfc, wv_kI, wv_kJ, wv_kF, wv_kD]) hl.1 dX2_behind_38 (fun w38 H locs cells slots S hv => ?_) (wq_kx X rfl)
    exact wk_X2_behind_41 X  hv H locs cells slots ls S (lv_sub hl [0] rfl)
set_option maxHeartbeats 4000000 in
theorem wk_X2_behind_0 {G : wv_G} {p : Program} {e : Env} {R : Room} {s : State} {m : MethodId} {args : Array Value} {below : List Frame} {meth : Method} {c : Code} {fr : Nat} {P : wv_R → wv_H → Prop} (X : wv_ok G p R s m args meth c fr "Weaversgate$Run" cX2_behind 8 (Option.some Jvm.ClassFile.FieldType.int) "behind" [(0, 14, 17, 65)]) {v0 : Option Nat} {v1 : Option Nat} {v2 : Int32} {v3 : Int32} {v4 : Int32} {v5 : Option Nat} {w : wv_W} (hv : vc_X2_behind_0 G fr P v0 v1 v2 v3 v4 v5 w) : wv_J G p e R s m args below meth c 8 P w 0 [(0, va_rf v0), (1, va_rf v1), (2, .int v2), (3, .int v3), (4, .int v4), (5, va_rf v5)] [] := by
  intro H locs cells slots ls S hl
  unfold vc_X2_behind_0 at hv
  refine wq_aload_n X dX2_behind_0 rfl (lv_at hl 0 rfl) ?_
  refine lv_iload_n X.hx X.hb dX2_behind_1 rfl (lv_at hl 2 rfl) ?_
  refine lv_iload_n X.hx X.hb dX2_behind_2 rfl (lv_at hl 3 rfl) ?_
  refine lv_iconst (v := (1 : Int32)) X.hx X.hb dX2_behind_3 (by decide) ?_
  refine lv_iadd X.hx X.hb dX2_behind_4 ?_
  refine lv_iload X.hx X.hb dX2_behind_5 (lv_at hl 4 rfl) ?_
  refine wq_aload X dX2_behind_7 (lv_at hl 5 rfl) ?_
  refine wq_cV_I X S hv q1171 q1173 qs21 q64 ⟨by decide +kernel, by decide +kernel⟩ (nA := 4) (As := [.int v2, .int (v3 + (1 : Int32)), .int v4, va_rf v5]) (by decide +kernel) rfl rfl (by simp [wv_rfc, wv_kI, wv_kJ, wv_kF, wv_kD]) hl.1 dX2_behind_9 (fun x9 w9 H locs cells slots S hv => ?_) ?_
  · refine lv_istore X.hx X.hb (i := 6) (lv' := [(6, .int x9), (0, va_rf v0), (1, va_rf v1), (2, .int v2), (3, .int v3), (4, .int v4), (5, va_rf v5)]) dX2_behind_12 hl (by decide) (by simp [wv_rfc, wv_kI, wv_kJ, wv_kF, wv_kD]) (fun ls hl => ?_)
    refine lv_goto (tgt := 44) X.hx X.hb dX2_behind_14 (by decide) ?_
    refine wq_aload_n X dX2_behind_44 rfl (lv_at hl 2 rfl) ?_
    refine wq_gIN X S hv ccX19 in_X19 (k := 2) (by decide) q1543 dX2_behind_45 (fun x45 hv => ?_)
    refine lv_bipush (v := (120 : Int32)) X.hx X.hb dX2_behind_48 (by decide) ?_
    refine lv_icmp_eq (tgt := 63) X.hx X.hb dX2_behind_50 (by decide) (fun c50 => ?_) (fun c50 => ?_)
    · have hv := hv.1 c50
      refine lv_iload X.hx X.hb dX2_behind_63 (lv_at hl 0 rfl) ?_
      exact wr_iret X S rfl hv dX2_behind_65
    · have hv := hv.2 c50
      refine wq_aload_n X dX2_behind_53 rfl (lv_at hl 1 rfl) ?_
      refine wq_gA X S hv ccX2 in_X2 (k := 0) (by decide) q191 dX2_behind_54 (fun x54 hv => ?_)
      refine wq_aload_n X dX2_behind_57 rfl (lv_at hl 2 rfl) ?_
      refine lv_iload X.hx X.hb dX2_behind_58 (lv_at hl 0 rfl) ?_
      refine wq_cV_V X S hv q1183 q1184 q1185 q65 ⟨by decide +kernel, by decide +kernel⟩ (nA := 2) (As := [va_rf v1, .int x9]) (by decide +kernel) rfl rfl (by simp [wv_rfc, wv_kI, wv_kJ, wv_kF, wv_kD]) hl.1 dX2_behind_60 (fun w60 H locs cells slots S hv => ?_) (wq_kx X rfl)
      refine lv_iload X.hx X.hb dX2_behind_63 (lv_at hl 0 rfl) ?_
      exact wr_iret X S rfl hv dX2_behind_65
  · intro E q w H locs cells slots S hv hth
    by_cases hE : E = "Weaversgate$Thrown"
    · subst hE
      have hv := hv.1 rfl
      refine wr_catch X [] (0, 14, 17, 65) [] rfl (fun z hz => by cases hz) rfl (by decide) q943 q980 hth ?_
      exact wk_X2_behind_17 X  hv H locs cells slots ls S (lv_sub hl [0, 1] rfl)
    · have hv := hv.2 hE
      have hN0 := va_Nc.moved X.hW.alike hv.1
      have hv := hv.2
      exact wr_outP X S hv hth (List.forall_mem_cons.mpr ⟨(Or.inr ⟨by decide, "Weaversgate$Thrown", q943, hN0⟩), (fun z hz => absurd hz List.not_mem_nil)⟩)
theorem wk_X2_behind {G : wv_G} (hG : wv_G0 G) {v0 : Option Nat} {v1 : Option Nat} {v2 : Int32} {v3 : Int32} {v4 : Int32} {v5 : Option Nat} {h : wv_H} {fr kc ks : Nat} {P : wv_R → wv_H → Prop} (hv : vc_X2_behind_0 G fr P v0 v1 v2 v3 v4 v5 (h, kc, ks)) : wv_C G yX2_behind [va_rf v0, va_rf v1, .int v2, .int v3, .int v4, va_rf v5] h fr kc ks P := by
  refine wv_enterW (lv := [(0, va_rf v0), (1, va_rf v1), (2, .int v2), (3, .int v3), (4, .int v4), (5, va_rf v5)]) hG (by decide +kernel) q1192 (by decide) (by simp [lg_sl, wv_rfc, wv_kI, wv_kJ, wv_kF, wv_kD]) (by simp [lv_args, wv_rfc, wv_kI, wv_kJ, wv_kF, wv_kD]) ?_
  intro p e R s m args below meth c X H locs cells slots ls S hl
  exact wk_X2_behind_0 X hv H locs cells slots ls S (lv_sub hl [0, 1, 2, 3, 4, 5] rfl)

def vc_X2_body_46 (G : wv_G) (fr : Nat) (P : wv_R → wv_H → Prop) (v0 : Option Nat) (v1 : Option Nat) (v2 : Int32) (v3 : Int32) (v4 : Option Nat) (s0 : Option Nat) (w : wv_W) : Prop :=
  wv_gA w v1 ciX22 0 (fun x53 => wv_gI w v4 ciX6 0 (fun x61 => wv_mk G fr w 1 [va_rf v0, va_rf v1, va_rf v4, .int v2] (fun a69 w69 => wv_cV G fr yX2_point v0 [.int (101 : Int32), .int v2, va_rf x53, .int v3, va_rf s0, .int x61, va_rf (some a69)] w69 (wv_rI (fun x74 w74 => P (.inl (some (.int x74))) w74.1) (wv_pr P)))))
def vc_X2_body_0 (G : wv_G) (fr : Nat) (P : wv_R → wv_H → Prop) (v0 : Option Nat) (v1 : Option Nat) (v2 : Int32) (v3 : Int32) (w : wv_W) : Prop :=
  wv_gA w v1 ciX22 0 (fun x1 => wv_cV G fr yX6_finder x1 [.int v2] w (wv_rA (fun x5 w5 => (¬ x5 = none → wv_gI w5 v0 ciX2 6 (fun x25 => (x25 = 0 → vc_X2_body_46 G fr P v0 v1 v2 v3 x5 none w5) ∧ (¬ x25 = 0 → wv_gA w5 v0 ciX2 8 (fun x32 => wv_cV G fr yX1_placeOf x32 [va_rf x5, .int v2, .int (0 : Int32)] w5 (wv_rA (fun x39 w39 => vc_X2_body_46 G fr P v0 v1 v2 v3 x5 x39 w39) (wv_pr P)))))) ∧ (x5 = none → wv_no G w5 (wo_o ciX23 [va_rf none, va_rf none, va_rf none, va_rf none, va_rf none, .int 0, .int 0]) 7 (fun a15 w15 => wv_cI G fr yX23_init (some a15) [.int (4 : Int32)] w15 (wv_rV (fun w20 => wv_at w20 (some a15) (wv_pr P)) (wv_pr P))))) (wv_pr P)))
set_option maxHeartbeats 4000000 in
theorem wk_X2_body_46 {G : wv_G} {p : Program} {e : Env} {R : Room} {s : State} {m : MethodId} {args : Array Value} {below : List Frame} {meth : Method} {c : Code} {fr : Nat} {P : wv_R → wv_H → Prop} (X : wv_ok G p R s m args meth c fr "Weaversgate$Run" cX2_body 6 (Option.some Jvm.ClassFile.FieldType.int) "body" []) {v0 : Option Nat} {v1 : Option Nat} {v2 : Int32} {v3 : Int32} {v4 : Option Nat} {s0 : Option Nat} {w : wv_W} (hv : vc_X2_body_46 G fr P v0 v1 v2 v3 v4 s0 w) : wv_J G p e R s m args below meth c 6 P w 46 [(0, va_rf v0), (1, va_rf v1), (2, .int v2), (3, .int v3), (4, va_rf v4)] [va_rf s0] := by
  intro H locs cells slots ls S hl
  unfold vc_X2_body_46 at hv
  refine wq_astore X (i := 5) (lv' := [(5, va_rf s0), (0, va_rf v0), (1, va_rf v1), (2, .int v2), (3, .int v3), (4, va_rf v4)]) dX2_body_46 hl (by decide) (by simp [wv_rfc, wv_kI, wv_kJ, wv_kF, wv_kD]) (fun ls hl => ?_)
  refine wq_aload_n X dX2_body_48 rfl (lv_at hl 1 rfl) ?_
  refine lv_bipush (v := (101 : Int32)) X.hx X.hb dX2_body_49 (by decide) ?_
  refine lv_iload_n X.hx X.hb dX2_body_51 rfl (lv_at hl 3 rfl) ?_
  refine wq_aload_n X dX2_body_52 rfl (lv_at hl 2 rfl) ?_
  refine wq_gAN X S hv ccX22 in_X22 (k := 0) (by decide) q959 dX2_body_53 (fun x53 hv => ?_)
  refine lv_iload_n X.hx X.hb dX2_body_56 rfl (lv_at hl 4 rfl) ?_
  refine wq_aload X dX2_body_57 (lv_at hl 0 rfl) ?_
  refine wq_aload X dX2_body_59 (lv_at hl 5 rfl) ?_
  refine wq_gIN X S hv ccX6 in_X6 (k := 0) (by decide) q1290 dX2_body_61 (fun x61 hv => ?_)
  refine wq_aload_n X dX2_body_64 rfl (lv_at hl 1 rfl) ?_
  refine wq_aload_n X dX2_body_65 rfl (lv_at hl 2 rfl) ?_
  refine wq_aload X dX2_body_66 (lv_at hl 5 rfl) ?_
  refine lv_iload_n X.hx X.hb dX2_body_68 rfl (lv_at hl 3 rfl) ?_
  refine wq_lam X S (j := 1) (d := "(LWeaversgate$Thing;II)I") (sh := wm1_sh) hv (by decide) rfl wv_ck_body rfl (fun h => by cases h) wm1_lays2 rfl (wm1_fit _ _ _ _) rfl (by simp [wv_rfc, wv_kI, wv_kJ, wv_kF, wv_kD]) hl.1 dX2_body_69 (fun a69 w69 H cells slots S hv => ?_)
  refine wq_cV_I X S hv q1027 q1029 qs19 q64 ⟨by decide +kernel, by decide +kernel⟩ (nA := 7) (As := [.int (101 : Int32), .int v2, va_rf x53, .int v3, va_rf s0, .int x61, va_rf (some a69)]) (by decide +kernel) rfl rfl (by simp [wv_rfc, wv_kI, wv_kJ, wv_kF, wv_kD]) hl.1 dX2_body_74 (fun x74 w74 H locs cells slots S hv => ?_) (wq_kx X rfl)
  exact wr_iret X S rfl hv dX2_body_77
set_option maxHeartbeats 4000000 in
theorem wk_X2_body_0 {G : wv_G} {p : Program} {e : Env} {R : Room} {s : State} {m : MethodId} {args : Array Value} {below : List Frame} {meth : Method} {c : Code} {fr : Nat} {P : wv_R → wv_H → Prop} (X : wv_ok G p R s m args meth c fr "Weaversgate$Run" cX2_body 6 (Option.some Jvm.ClassFile.FieldType.int) "body" []) {v0 : Option Nat} {v1 : Option Nat} {v2 : Int32} {v3 : Int32} {w : wv_W} (hv : vc_X2_body_0 G fr P v0 v1 v2 v3 w) : wv_J G p e R s m args below meth c 6 P w 0 [(0, va_rf v0), (1, va_rf v1), (2, .int v2), (3, .int v3)] [] := by
  intro H locs cells slots ls S hl
  unfold vc_X2_body_0 at hv
  refine wq_aload_n X dX2_body_0 rfl (lv_at hl 1 rfl) ?_
  refine wq_gAN X S hv ccX22 in_X22 (k := 0) (by decide) q959 dX2_body_1 (fun x1 hv => ?_)
  refine lv_iload_n X.hx X.hb dX2_body_4 rfl (lv_at hl 2 rfl) ?_
  refine wq_cV_A X S hv q978 q713 q714 q77 ⟨by decide +kernel, by decide +kernel⟩ (nA := 1) (As := [.int v2]) (by decide +kernel) rfl rfl (by simp [wv_rfc, wv_kI, wv_kJ, wv_kF, wv_kD]) hl.1 dX2_body_5 (fun x5 w5 H locs cells slots S hv => ?_) (wq_kx X rfl)
  refine wq_astore X (i := 4) (lv' := [(4, va_rf x5), (0, va_rf v0), (1, va_rf v1), (2, .int v2), (3, .int v3)]) dX2_body_8 hl (by decide) (by simp [wv_rfc, wv_kI, wv_kJ, wv_kF, wv_kD]) (fun ls hl => ?_)
  refine wq_aload X dX2_body_10 (lv_at hl 0 rfl) ?_
  refine wq_ifnonnull (tgt := 24) X dX2_body_12 (by decide) (fun c12 => ?_) (fun c12 => ?_)
  · have hv := hv.1 c12
    refine wq_aload_n X dX2_body_24 rfl (lv_at hl 1 rfl) ?_
    refine wq_gI X S hv ccX2 in_X2 (k := 6) (by decide) q202 dX2_body_25 (fun x25 hv => ?_)
    refine lv_if_eq (tgt := 45) X.hx X.hb dX2_body_28 (by decide) (fun c28 => ?_) (fun c28 => ?_)
    · have hv := hv.1 c28
      refine wq_null (k := 0) X S dX2_body_45 ?_
      exact wk_X2_body_46 X  hv H locs cells slots ls S (lv_sub hl [1, 2, 3, 4, 0] rfl)
    · have hv := hv.2 c28
      refine wq_aload_n X dX2_body_31 rfl (lv_at hl 1 rfl) ?_
      refine wq_gA X S hv ccX2 in_X2 (k := 8) (by decide) q204 dX2_body_32 (fun x32 hv => ?_)
      refine wq_aload X dX2_body_35 (lv_at hl 0 rfl) ?_
      refine lv_iload_n X.hx X.hb dX2_body_37 rfl (lv_at hl 3 rfl) ?_
      refine lv_iconst (v := (0 : Int32)) X.hx X.hb dX2_body_38 (by decide) ?_
      refine wq_cVN_A X S hv q1000 q702 qs5 q703 q60 ⟨by decide +kernel, by decide +kernel⟩ (nA := 3) (As := [va_rf x5, .int v2, .int (0 : Int32)]) (by decide +kernel) rfl rfl (by simp [wv_rfc, wv_kI, wv_kJ, wv_kF, wv_kD]) hl.1 dX2_body_39 (fun x39 w39 H locs cells slots S hv => ?_) (wq_kx X rfl)
      refine lv_goto (tgt := 46) X.hx X.hb dX2_body_42 (by decide) ?_
      exact wk_X2_body_46 X  hv H locs cells slots ls S (lv_sub hl [1, 2, 3, 4, 0] rfl)
  · have hv := hv.2 c12
    refine wq_new X S hv tyX23 tyX23_ok ccX23 in_X23 q943 q979 q109 (fun j hj => by have hj : j < 7 := hj; rcases (show j = 0 ∨ j = 1 ∨ j = 2 ∨ j = 3 ∨ j = 4 ∨ j = 5 ∨ j = 6 by omega) with rfl | rfl | rfl | rfl | rfl | rfl | rfl <;> rfl) dX2_body_15 (fun a15 w15 H cells slots S hv => ?_)
    refine lv_dup X.hx X.hb dX2_body_18 (wv_rfc _) ?_
    refine lv_iconst (v := (4 : Int32)) X.hx X.hb dX2_body_19 (by decide) ?_
    refine wq_cI_V X S hv rfl q987 q988 q989 q109 ⟨by decide +kernel, by decide +kernel⟩ (nA := 1) (As := [.int (4 : Int32)]) (by decide +kernel) rfl rfl (by simp [wv_rfc, wv_kI, wv_kJ, wv_kF, wv_kD]) hl.1 dX2_body_20 (fun w20 H locs cells slots S hv => ?_) (wq_kx X rfl)
    exact wq_athrow X S hv dX2_body_23 (wq_kx X rfl)
theorem wk_X2_body {G : wv_G} (hG : wv_G0 G) {v0 : Option Nat} {v1 : Option Nat} {v2 : Int32} {v3 : Int32} {h : wv_H} {fr kc ks : Nat} {P : wv_R → wv_H → Prop} (hv : vc_X2_body_0 G fr P v0 v1 v2 v3 (h, kc, ks)) : wv_C G yX2_body [va_rf v0, va_rf v1, .int v2, .int v3] h fr kc ks P := by
  refine wv_enter (lv := [(0, va_rf v0), (1, va_rf v1), (2, .int v2), (3, .int v3)]) hG (by decide +kernel) q977 (by decide) (by simp [lg_sl, wv_rfc, wv_kI, wv_kJ, wv_kF, wv_kD]) (by simp [lv_args, wv_rfc, wv_kI, wv_kJ, wv_kF, wv_kD]) ?_
  intro p e R s m args below meth c X H locs cells slots ls S hl
  exact wk_X2_body_0 X hv H locs cells slots ls S (lv_sub hl [0, 1, 2, 3] rfl)

def vc_X2_call_0 (G : wv_G) (fr : Nat) (P : wv_R → wv_H → Prop) (v0 : Option Nat) (v1 : Option Nat) (v2 : Int32) (v3 : Int32) (v4 : Int32) (v5 : Option Nat) (w : wv_W) : Prop :=
  wv_gA w v1 ciX22 0 (fun x5 => wv_mk G fr w 0 [va_rf v0, va_rf v1, .int v2] (fun a16 w16 => wv_cV G fr yX2_point v0 [.int (99 : Int32), .int v2, va_rf x5, .int v3, va_rf v5, .int v4, va_rf (some a16)] w16 (wv_rI (fun x21 w21 => P (.inl (some (.int x21))) w21.1) (wv_pr P))))
set_option maxHeartbeats 4000000 in
theorem wk_X2_call_0 {G : wv_G} {p : Program} {e : Env} {R : Room} {s : State} {m : MethodId} {args : Array Value} {below : List Frame} {meth : Method} {c : Code} {fr : Nat} {P : wv_R → wv_H → Prop} (X : wv_ok G p R s m args meth c fr "Weaversgate$Run" cX2_call 6 (Option.some Jvm.ClassFile.FieldType.int) "call" []) {v0 : Option Nat} {v1 : Option Nat} {v2 : Int32} {v3 : Int32} {v4 : Int32} {v5 : Option Nat} {w : wv_W} (hv : vc_X2_call_0 G fr P v0 v1 v2 v3 v4 v5 w) : wv_J G p e R s m args below meth c 6 P w 0 [(0, va_rf v0), (1, va_rf v1), (2, .int v2), (3, .int v3), (4, .int v4), (5, va_rf v5)] [] := by
  intro H locs cells slots ls S hl
  unfold vc_X2_call_0 at hv
  refine wq_aload_n X dX2_call_0 rfl (lv_at hl 0 rfl) ?_
  refine lv_bipush (v := (99 : Int32)) X.hx X.hb dX2_call_1 (by decide) ?_
  refine lv_iload_n X.hx X.hb dX2_call_3 rfl (lv_at hl 2 rfl) ?_
  refine wq_aload_n X dX2_call_4 rfl (lv_at hl 1 rfl) ?_
  refine wq_gAN X S hv ccX22 in_X22 (k := 0) (by decide) q959 dX2_call_5 (fun x5 hv => ?_)
  refine lv_iload_n X.hx X.hb dX2_call_8 rfl (lv_at hl 3 rfl) ?_
  refine wq_aload X dX2_call_9 (lv_at hl 5 rfl) ?_
  refine lv_iload X.hx X.hb dX2_call_11 (lv_at hl 4 rfl) ?_
  refine wq_aload_n X dX2_call_13 rfl (lv_at hl 0 rfl) ?_
  refine wq_aload_n X dX2_call_14 rfl (lv_at hl 1 rfl) ?_
  refine lv_iload_n X.hx X.hb dX2_call_15 rfl (lv_at hl 2 rfl) ?_
  refine wq_lam X S (j := 0) (d := "(LWeaversgate$Thing;IIILWeaversgate$Place;)I") (sh := wm0_sh) hv (by decide) rfl wv_ck_call rfl (fun h => by cases h) wm0_lays2 rfl (wm0_fit _ _ _) rfl (by simp [wv_rfc, wv_kI, wv_kJ, wv_kF, wv_kD]) hl.1 dX2_call_16 (fun a16 w16 H cells slots S hv => ?_)
  refine wq_cV_I X S hv q1027 q1029 qs19 q64 ⟨by decide +kernel, by decide +kernel⟩ (nA := 7) (As := [.int (99 : Int32), .int v2, va_rf x5, .int v3, va_rf v5, .int v4, va_rf (some a16)]) (by decide +kernel) rfl rfl (by simp [wv_rfc, wv_kI, wv_kJ, wv_kF, wv_kD]) hl.1 dX2_call_21 (fun x21 w21 H locs cells slots S hv => ?_) (wq_kx X rfl)
  exact wr_iret X S rfl hv dX2_call_24
theorem wk_X2_call {G : wv_G} (hG : wv_G0 G) {v0 : Option Nat} {v1 : Option Nat} {v2 : Int32} {v3 : Int32} {v4 : Int32} {v5 : Option Nat} {h : wv_H} {fr kc ks : Nat} {P : wv_R → wv_H → Prop} (hv : vc_X2_call_0 G fr P v0 v1 v2 v3 v4 v5 (h, kc, ks)) : wv_C G yX2_call [va_rf v0, va_rf v1, .int v2, .int v3, .int v4, va_rf v5] h fr kc ks P := by
  refine wv_enter (lv := [(0, va_rf v0), (1, va_rf v1), (2, .int v2), (3, .int v3), (4, .int v4), (5, va_rf v5)]) hG (by decide +kernel) q970 (by decide) (by simp [lg_sl, wv_rfc, wv_kI, wv_kJ, wv_kF, wv_kD]) (by simp [lv_args, wv_rfc, wv_kI, wv_kJ, wv_kF, wv_kD]) ?_
  intro p e R s m args below meth c X H locs cells slots ls S hl
  exact wk_X2_call_0 X hv H locs cells slots ls S (lv_sub hl [0, 1, 2, 3, 4, 5] rfl)

def vc_X2_chosen_151 (G : wv_G) (fr : Nat) (P : wv_R → wv_H → Prop) (K5 : ((Option Nat) × (Option Nat) × (Option Nat) × Int32 × Int32) → wv_W → Prop) (v0 : Option Nat) (v1 : Option Nat) (v2 : Option Nat) (v4 : Int32) (s0 : Int32) (s1 : Int32) (w : wv_W) : Prop :=
  K5 (v0, v1, v2, (s1 ||| s0), (v4 + (1 : Int32))) w
def vc_X2_chosen_135 (G : wv_G) (fr : Nat) (P : wv_R → wv_H → Prop) (K5 : ((Option Nat) × (Option Nat) × (Option Nat) × Int32 × Int32) → wv_W → Prop) (v0 : Option Nat) (v1 : Option Nat) (v2 : Option Nat) (v3 : Int32) (v4 : Int32) (s0 : Int32) (w : wv_W) : Prop :=
  (s0 = 0 → vc_X2_chosen_151 G fr P K5 v0 v1 v2 v4 (0 : Int32) v3 w) ∧ (¬ s0 = 0 → vc_X2_chosen_151 G fr P K5 v0 v1 v2 v4 ((1 : Int32) <<< (v4 &&& 31)) v3 w)
def vc_X2_chosen_80 (G : wv_G) (fr : Nat) (P : wv_R → wv_H → Prop) (K5 : ((Option Nat) × (Option Nat) × (Option Nat) × Int32 × Int32) → wv_W → Prop) (v0 : Option Nat) (v1 : Option Nat) (v2 : Option Nat) (v3 : Int32) (v4 : Int32) (v5 : Option Nat) (v6 : Int32) (s0 : Int32) (s1 : Int32) (s2 : Option Nat) (w : wv_W) : Prop :=
  wv_pt w s2 ciX2 5 (.int (s1 + s0)) (fun w81 => wv_gI w81 v5 ciX19 6 (fun x86 => (x86 = 0 → vc_X2_chosen_135 G fr P K5 v0 v1 v2 v3 v4 (0 : Int32) w81) ∧ (¬ x86 = 0 → (v6 = 0 → wv_gA w81 v5 ciX19 3 (fun x118 => wv_cF G fr (⟨"Weaversgate$Pattern", "holds", "(LWeaversgate$Point;)Z"⟩ : MethodName) x118 [va_rf v1] w81 (wv_rI (fun x122 w122 => (x122 = 0 → vc_X2_chosen_135 G fr P K5 v0 v1 v2 v3 v4 (0 : Int32) w122) ∧ (¬ x122 = 0 → vc_X2_chosen_135 G fr P K5 v0 v1 v2 v3 v4 (1 : Int32) w122)) (wv_pr P)))) ∧ (¬ v6 = 0 → wv_gA w81 v5 ciX19 3 (fun x99 => wv_cF G fr (⟨"Weaversgate$Pattern", "at", "(LWeaversgate$Place;)C"⟩ : MethodName) x99 [va_rf v2] w81 (wv_rI (fun x103 w103 => (¬ x103 = (121 : Int32) → vc_X2_chosen_135 G fr P K5 v0 v1 v2 v3 v4 (0 : Int32) w103) ∧ (x103 = (121 : Int32) → vc_X2_chosen_135 G fr P K5 v0 v1 v2 v3 v4 (1 : Int32) w103)) (wv_pr P)))))))
def vc_X2_chosen_55 (G : wv_G) (fr : Nat) (P : wv_R → wv_H → Prop) (K5 : ((Option Nat) × (Option Nat) × (Option Nat) × Int32 × Int32) → wv_W → Prop) (v0 : Option Nat) (v1 : Option Nat) (v2 : Option Nat) (v3 : Int32) (v4 : Int32) (v5 : Option Nat) (s0 : Int32) (w : wv_W) : Prop :=
  wv_gI w v0 ciX2 5 (fun x59 => wv_gI w v5 ciX19 6 (fun x64 => (x64 = 0 → vc_X2_chosen_80 G fr P K5 v0 v1 v2 v3 v4 v5 s0 (0 : Int32) x59 v0 w) ∧ (¬ x64 = 0 → (¬ s0 = 0 → vc_X2_chosen_80 G fr P K5 v0 v1 v2 v3 v4 v5 s0 (0 : Int32) x59 v0 w) ∧ (s0 = 0 → vc_X2_chosen_80 G fr P K5 v0 v1 v2 v3 v4 v5 s0 (1 : Int32) x59 v0 w))))
def vc_X2_chosen_5 (G : wv_G) (fr : Nat) (P : wv_R → wv_H → Prop) (K5 : ((Option Nat) × (Option Nat) × (Option Nat) × Int32 × Int32) → wv_W → Prop) (v0 : Option Nat) (v1 : Option Nat) (v2 : Option Nat) (v3 : Int32) (v4 : Int32) (w : wv_W) : Prop :=
  wv_gA w v0 ciX2 8 (fun x8 => wv_gA w x8 ciX1 2 (fun x11 => wv_cV G fr yJ2_size x11 [] w (wv_rI (fun x14 w14 => (x14 ≤ v4 → P (.inl (some (.int v3))) w14.1) ∧ (¬ x14 ≤ v4 → wv_gA w14 v0 ciX2 1 (fun x21 => wv_lq G 6 w14 x21 v4 (fun x26 => wv_gI w14 v0 ciX2 6 (fun x30 => (x30 = 0 → vc_X2_chosen_55 G fr P K5 v0 v1 v2 v3 v4 x26 (0 : Int32) w14) ∧ (¬ x30 = 0 → wv_gA w14 x26 ciX19 3 (fun x38 => wv_cFD G fr (⟨"Weaversgate$Pattern", "isAsked", "(LWeaversgate$Place;)Z"⟩ : MethodName) x38 [va_rf v2] w14 (wv_rI (fun x42 w42 => (¬ x42 = 0 → vc_X2_chosen_55 G fr P K5 v0 v1 v2 v3 v4 x26 (0 : Int32) w42) ∧ (x42 = 0 → vc_X2_chosen_55 G fr P K5 v0 v1 v2 v3 v4 x26 (1 : Int32) w42)) (wv_pr P))))))))) (wv_pr P))))
def vc_X2_chosen_0 (G : wv_G) (fr : Nat) (P : wv_R → wv_H → Prop) (v0 : Option Nat) (v1 : Option Nat) (v2 : Option Nat) (w : wv_W) : Prop :=
  wv_L (fun K5 a w => vc_X2_chosen_5 G fr P K5 a.1 a.2.1 a.2.2.1 a.2.2.2.1 a.2.2.2.2 w) (v0, v1, v2, (0 : Int32), (0 : Int32)) w
set_option maxHeartbeats 4000000 in
theorem wk_X2_chosen_151 {G : wv_G} {p : Program} {e : Env} {R : Room} {s : State} {m : MethodId} {args : Array Value} {below : List Frame} {meth : Method} {c : Code} {fr : Nat} {P : wv_R → wv_H → Prop} (X : wv_ok G p R s m args meth c fr "Weaversgate$Run" cX2_chosen 8 (Option.some Jvm.ClassFile.FieldType.int) "chosen" []) {K5 : ((Option Nat) × (Option Nat) × (Option Nat) × Int32 × Int32) → wv_W → Prop} (hK5 : ∀ a w, K5 a w → wv_J G p e R s m args below meth c 8 P w 5 [(0, va_rf a.1), (1, va_rf a.2.1), (2, va_rf a.2.2.1), (3, .int a.2.2.2.1), (4, .int a.2.2.2.2)] []) {v0 : Option Nat} {v1 : Option Nat} {v2 : Option Nat} {v4 : Int32} {s0 : Int32} {s1 : Int32} {w : wv_W} (hv : vc_X2_chosen_151 G fr P K5 v0 v1 v2 v4 s0 s1 w) : wv_J G p e R s m args below meth c 8 P w 151 [(0, va_rf v0), (1, va_rf v1), (2, va_rf v2), (4, .int v4)] [.int s0, .int s1] := by
  intro H locs cells slots ls S hl
  unfold vc_X2_chosen_151 at hv
  refine lv_ior X.hx X.hb dX2_chosen_151 ?_
  refine lv_istore_n X.hx X.hb (i := 3) (lv' := [(3, .int (s1 ||| s0)), (0, va_rf v0), (1, va_rf v1), (2, va_rf v2), (4, .int v4)]) dX2_chosen_152 rfl hl (by decide) (by simp [wv_rfc, wv_kI, wv_kJ, wv_kF, wv_kD]) (fun ls hl => ?_)
  refine lv_iinc (v := (v4 + (1 : Int32))) (lv' := [(4, .int (v4 + (1 : Int32))), (3, .int (s1 ||| s0)), (0, va_rf v0), (1, va_rf v1), (2, va_rf v2)]) X.hx X.hb dX2_chosen_153 hl (k := 4) rfl (by rfl) (by decide) (by simp [wv_rfc, wv_kI, wv_kJ, wv_kF, wv_kD]) (fun ls hl => ?_)
  refine lv_goto (tgt := 5) X.hx X.hb dX2_chosen_156 (by decide) ?_
  exact hK5 _ _ hv H locs cells slots ls S (lv_sub hl [2, 3, 4, 1, 0] rfl)
set_option maxHeartbeats 4000000 in
theorem wk_X2_chosen_135 {G : wv_G} {p : Program} {e : Env} {R : Room} {s : State} {m : MethodId} {args : Array Value} {below : List Frame} {meth : Method} {c : Code} {fr : Nat} {P : wv_R → wv_H → Prop} (X : wv_ok G p R s m args meth c fr "Weaversgate$Run" cX2_chosen 8 (Option.some Jvm.ClassFile.FieldType.int) "chosen" []) {K5 : ((Option Nat) × (Option Nat) × (Option Nat) × Int32 × Int32) → wv_W → Prop} (hK5 : ∀ a w, K5 a w → wv_J G p e R s m args below meth c 8 P w 5 [(0, va_rf a.1), (1, va_rf a.2.1), (2, va_rf a.2.2.1), (3, .int a.2.2.2.1), (4, .int a.2.2.2.2)] []) {v0 : Option Nat} {v1 : Option Nat} {v2 : Option Nat} {v3 : Int32} {v4 : Int32} {s0 : Int32} {w : wv_W} (hv : vc_X2_chosen_135 G fr P K5 v0 v1 v2 v3 v4 s0 w) : wv_J G p e R s m args below meth c 8 P w 135 [(0, va_rf v0), (1, va_rf v1), (2, va_rf v2), (3, .int v3), (4, .int v4)] [.int s0] := by
  intro H locs cells slots ls S hl
  unfold vc_X2_chosen_135 at hv
  refine lv_istore X.hx X.hb (i := 7) (lv' := [(7, .int s0), (0, va_rf v0), (1, va_rf v1), (2, va_rf v2), (3, .int v3), (4, .int v4)]) dX2_chosen_135 hl (by decide) rfl (fun ls hl => ?_)
  refine lv_iload_n X.hx X.hb dX2_chosen_137 rfl (lv_at hl 4 rfl) ?_
  refine lv_iload X.hx X.hb dX2_chosen_138 (lv_at hl 0 rfl) ?_
  refine lv_if_eq (tgt := 150) X.hx X.hb dX2_chosen_140 (by decide) (fun c140 => ?_) (fun c140 => ?_)
  · have hv := hv.1 c140
    refine lv_iconst (v := (0 : Int32)) X.hx X.hb dX2_chosen_150 (by decide) ?_
    exact wk_X2_chosen_151 X hK5 hv H locs cells slots ls S (lv_sub hl [1, 2, 3, 5] rfl)
  · have hv := hv.2 c140
    refine lv_iconst (v := (1 : Int32)) X.hx X.hb dX2_chosen_143 (by decide) ?_
    refine lv_iload X.hx X.hb dX2_chosen_144 (lv_at hl 5 rfl) ?_
    refine lv_ishl X.hx X.hb dX2_chosen_146 ?_
    refine lv_goto (tgt := 151) X.hx X.hb dX2_chosen_147 (by decide) ?_
    exact wk_X2_chosen_151 X hK5 hv H locs cells slots ls S (lv_sub hl [1, 2, 3, 5] rfl)
set_option maxHeartbeats 4000000 in
theorem wk_X2_chosen_80 {G : wv_G} {p : Program} {e : Env} {R : Room} {s : State} {m : MethodId} {args : Array Value} {below : List Frame} {meth : Method} {c : Code} {fr : Nat} {P : wv_R → wv_H → Prop} (X : wv_ok G p R s m args meth c fr "Weaversgate$Run" cX2_chosen 8 (Option.some Jvm.ClassFile.FieldType.int) "chosen" []) {K5 : ((Option Nat) × (Option Nat) × (Option Nat) × Int32 × Int32) → wv_W → Prop} (hK5 : ∀ a w, K5 a w → wv_J G p e R s m args below meth c 8 P w 5 [(0, va_rf a.1), (1, va_rf a.2.1), (2, va_rf a.2.2.1), (3, .int a.2.2.2.1), (4, .int a.2.2.2.2)] []) {v0 : Option Nat} {v1 : Option Nat} {v2 : Option Nat} {v3 : Int32} {v4 : Int32} {v5 : Option Nat} {v6 : Int32} {s0 : Int32} {s1 : Int32} {s2 : Option Nat} {w : wv_W} (hv : vc_X2_chosen_80 G fr P K5 v0 v1 v2 v3 v4 v5 v6 s0 s1 s2 w) : wv_J G p e R s m args below meth c 8 P w 80 [(0, va_rf v0), (1, va_rf v1), (2, va_rf v2), (3, .int v3), (4, .int v4), (5, va_rf v5), (6, .int v6)] [.int s0, .int s1, va_rf s2] := by
  intro H locs cells slots ls S hl
  unfold vc_X2_chosen_80 at hv
  refine lv_iadd X.hx X.hb dX2_chosen_80 ?_
  refine wq_pt X S hv tyX2 tyX2_ok nmX2 ccX2 in_X2 (k := 5) (by decide) q200 rfl rfl rfl rfl dX2_chosen_81 (fun w81 H locs S hv => ?_)
  refine wq_aload X dX2_chosen_84 (lv_at hl 5 rfl) ?_
  refine wq_gIN X S hv ccX19 in_X19 (k := 6) (by decide) q1552 dX2_chosen_86 (fun x86 hv => ?_)
  refine lv_if_eq (tgt := 134) X.hx X.hb dX2_chosen_89 (by decide) (fun c89 => ?_) (fun c89 => ?_)
  · have hv := hv.1 c89
    refine lv_iconst (v := (0 : Int32)) X.hx X.hb dX2_chosen_134 (by decide) ?_
    exact wk_X2_chosen_135 X hK5 hv H locs cells slots ls S (lv_sub hl [0, 1, 2, 3, 4] rfl)
  · have hv := hv.2 c89
    refine lv_iload X.hx X.hb dX2_chosen_92 (lv_at hl 6 rfl) ?_
    refine lv_if_eq (tgt := 116) X.hx X.hb dX2_chosen_94 (by decide) (fun c94 => ?_) (fun c94 => ?_)
    · have hv := hv.1 c94
      refine wq_aload X dX2_chosen_116 (lv_at hl 5 rfl) ?_
      refine wq_gAN X S hv ccX19 in_X19 (k := 3) (by decide) q1545 dX2_chosen_118 (fun x118 hv => ?_)
      refine wq_aload_n X dX2_chosen_121 rfl (lv_at hl 1 rfl) ?_
      refine wq_cF_I X S hv q1115 ⟨by decide +kernel, by decide +kernel⟩ (nA := 1) (As := [va_rf v1]) (by decide +kernel) rfl rfl (by simp [wv_rfc, wv_kI, wv_kJ, wv_kF, wv_kD]) hl.1 dX2_chosen_122 (fun x122 w122 H locs cells slots S hv => ?_) (wq_kx X rfl)
      refine lv_if_eq (tgt := 134) X.hx X.hb dX2_chosen_127 (by decide) (fun c127 => ?_) (fun c127 => ?_)
      · have hv := hv.1 c127
        refine lv_iconst (v := (0 : Int32)) X.hx X.hb dX2_chosen_134 (by decide) ?_
        exact wk_X2_chosen_135 X hK5 hv H locs cells slots ls S (lv_sub hl [0, 1, 2, 3, 4] rfl)
      · have hv := hv.2 c127
        refine lv_iconst (v := (1 : Int32)) X.hx X.hb dX2_chosen_130 (by decide) ?_
        refine lv_goto (tgt := 135) X.hx X.hb dX2_chosen_131 (by decide) ?_
        exact wk_X2_chosen_135 X hK5 hv H locs cells slots ls S (lv_sub hl [0, 1, 2, 3, 4] rfl)
    · have hv := hv.2 c94
      refine wq_aload X dX2_chosen_97 (lv_at hl 5 rfl) ?_
      refine wq_gAN X S hv ccX19 in_X19 (k := 3) (by decide) q1545 dX2_chosen_99 (fun x99 hv => ?_)
      refine wq_aload_n X dX2_chosen_102 rfl (lv_at hl 2 rfl) ?_
      refine wq_cF_I X S hv q1113 ⟨by decide +kernel, by decide +kernel⟩ (nA := 1) (As := [va_rf v2]) (by decide +kernel) rfl rfl (by simp [wv_rfc, wv_kI, wv_kJ, wv_kF, wv_kD]) hl.1 dX2_chosen_103 (fun x103 w103 H locs cells slots S hv => ?_) (wq_kx X rfl)
      refine lv_bipush (v := (121 : Int32)) X.hx X.hb dX2_chosen_108 (by decide) ?_
      refine lv_icmp_ne (tgt := 134) X.hx X.hb dX2_chosen_110 (by decide) (fun c110 => ?_) (fun c110 => ?_)
      · have hv := hv.1 c110
        refine lv_iconst (v := (0 : Int32)) X.hx X.hb dX2_chosen_134 (by decide) ?_
        exact wk_X2_chosen_135 X hK5 hv H locs cells slots ls S (lv_sub hl [0, 1, 2, 3, 4] rfl)
      · have hv := hv.2 c110
        refine lv_goto (tgt := 130) X.hx X.hb dX2_chosen_113 (by decide) ?_
        refine lv_iconst (v := (1 : Int32)) X.hx X.hb dX2_chosen_130 (by decide) ?_
        refine lv_goto (tgt := 135) X.hx X.hb dX2_chosen_131 (by decide) ?_
        exact wk_X2_chosen_135 X hK5 hv H locs cells slots ls S (lv_sub hl [0, 1, 2, 3, 4] rfl)
set_option maxHeartbeats 4000000 in
theorem wk_X2_chosen_55 {G : wv_G} {p : Program} {e : Env} {R : Room} {s : State} {m : MethodId} {args : Array Value} {below : List Frame} {meth : Method} {c : Code} {fr : Nat} {P : wv_R → wv_H → Prop} (X : wv_ok G p R s m args meth c fr "Weaversgate$Run" cX2_chosen 8 (Option.some Jvm.ClassFile.FieldType.int) "chosen" []) {K5 : ((Option Nat) × (Option Nat) × (Option Nat) × Int32 × Int32) → wv_W → Prop} (hK5 : ∀ a w, K5 a w → wv_J G p e R s m args below meth c 8 P w 5 [(0, va_rf a.1), (1, va_rf a.2.1), (2, va_rf a.2.2.1), (3, .int a.2.2.2.1), (4, .int a.2.2.2.2)] []) {v0 : Option Nat} {v1 : Option Nat} {v2 : Option Nat} {v3 : Int32} {v4 : Int32} {v5 : Option Nat} {s0 : Int32} {w : wv_W} (hv : vc_X2_chosen_55 G fr P K5 v0 v1 v2 v3 v4 v5 s0 w) : wv_J G p e R s m args below meth c 8 P w 55 [(0, va_rf v0), (1, va_rf v1), (2, va_rf v2), (3, .int v3), (4, .int v4), (5, va_rf v5)] [.int s0] := by
  intro H locs cells slots ls S hl
  unfold vc_X2_chosen_55 at hv
  refine lv_istore X.hx X.hb (i := 6) (lv' := [(6, .int s0), (0, va_rf v0), (1, va_rf v1), (2, va_rf v2), (3, .int v3), (4, .int v4), (5, va_rf v5)]) dX2_chosen_55 hl (by decide) (by simp [wv_rfc, wv_kI, wv_kJ, wv_kF, wv_kD]) (fun ls hl => ?_)
  refine wq_aload_n X dX2_chosen_57 rfl (lv_at hl 1 rfl) ?_
  refine lv_dup X.hx X.hb dX2_chosen_58 (wv_rfc _) ?_
  refine wq_gI X S hv ccX2 in_X2 (k := 5) (by decide) q200 dX2_chosen_59 (fun x59 hv => ?_)
  refine wq_aload X dX2_chosen_62 (lv_at hl 6 rfl) ?_
  refine wq_gIN X S hv ccX19 in_X19 (k := 6) (by decide) q1552 dX2_chosen_64 (fun x64 hv => ?_)
  refine lv_if_eq (tgt := 79) X.hx X.hb dX2_chosen_67 (by decide) (fun c67 => ?_) (fun c67 => ?_)
  · have hv := hv.1 c67
    refine lv_iconst (v := (0 : Int32)) X.hx X.hb dX2_chosen_79 (by decide) ?_
    exact wk_X2_chosen_80 X hK5 hv H locs cells slots ls S (lv_sub hl [1, 2, 3, 4, 5, 6, 0] rfl)
  · have hv := hv.2 c67
    refine lv_iload X.hx X.hb dX2_chosen_70 (lv_at hl 0 rfl) ?_
    refine lv_if_ne (tgt := 79) X.hx X.hb dX2_chosen_72 (by decide) (fun c72 => ?_) (fun c72 => ?_)
    · have hv := hv.1 c72
      refine lv_iconst (v := (0 : Int32)) X.hx X.hb dX2_chosen_79 (by decide) ?_
      exact wk_X2_chosen_80 X hK5 hv H locs cells slots ls S (lv_sub hl [1, 2, 3, 4, 5, 6, 0] rfl)
    · have hv := hv.2 c72
      refine lv_iconst (v := (1 : Int32)) X.hx X.hb dX2_chosen_75 (by decide) ?_
      refine lv_goto (tgt := 80) X.hx X.hb dX2_chosen_76 (by decide) ?_
      exact wk_X2_chosen_80 X hK5 hv H locs cells slots ls S (lv_sub hl [1, 2, 3, 4, 5, 6, 0] rfl)
set_option maxHeartbeats 4000000 in
theorem wk_X2_chosen_5 {G : wv_G} {p : Program} {e : Env} {R : Room} {s : State} {m : MethodId} {args : Array Value} {below : List Frame} {meth : Method} {c : Code} {fr : Nat} {P : wv_R → wv_H → Prop} (X : wv_ok G p R s m args meth c fr "Weaversgate$Run" cX2_chosen 8 (Option.some Jvm.ClassFile.FieldType.int) "chosen" []) {K5 : ((Option Nat) × (Option Nat) × (Option Nat) × Int32 × Int32) → wv_W → Prop} (hK5 : ∀ a w, K5 a w → wv_J G p e R s m args below meth c 8 P w 5 [(0, va_rf a.1), (1, va_rf a.2.1), (2, va_rf a.2.2.1), (3, .int a.2.2.2.1), (4, .int a.2.2.2.2)] []) {v0 : Option Nat} {v1 : Option Nat} {v2 : Option Nat} {v3 : Int32} {v4 : Int32} {w : wv_W} (hv : vc_X2_chosen_5 G fr P K5 v0 v1 v2 v3 v4 w) : wv_J G p e R s m args below meth c 8 P w 5 [(0, va_rf v0), (1, va_rf v1), (2, va_rf v2), (3, .int v3), (4, .int v4)] [] := by
  intro H locs cells slots ls S hl
  unfold vc_X2_chosen_5 at hv
  refine lv_iload X.hx X.hb dX2_chosen_5 (lv_at hl 4 rfl) ?_
  refine wq_aload_n X dX2_chosen_7 rfl (lv_at hl 0 rfl) ?_
  refine wq_gA X S hv ccX2 in_X2 (k := 8) (by decide) q204 dX2_chosen_8 (fun x8 hv => ?_)
  refine wq_gAN X S hv ccX1 in_X1 (k := 2) (by decide) q228 dX2_chosen_11 (fun x11 hv => ?_)
  refine wq_cV_I X S hv q950 q270 q271 q63 ⟨by decide +kernel, by decide +kernel⟩ (nA := 0) (As := []) (by decide +kernel) rfl rfl (by simp [wv_rfc, wv_kI, wv_kJ, wv_kF, wv_kD]) hl.1 dX2_chosen_14 (fun x14 w14 H locs cells slots S hv => ?_) (wq_kx X rfl)
  refine lv_icmp_ge (tgt := 159) X.hx X.hb dX2_chosen_17 (by decide) (fun c17 => ?_) (fun c17 => ?_)
  · have hv := hv.1 c17
    refine lv_iload_n X.hx X.hb dX2_chosen_159 rfl (lv_at hl 3 rfl) ?_
    exact wr_iret X S rfl hv dX2_chosen_160
  · have hv := hv.2 c17
    refine wq_aload_n X dX2_chosen_20 rfl (lv_at hl 0 rfl) ?_
    refine wq_gA X S hv ccX2 in_X2 (k := 1) (by decide) q193 dX2_chosen_21 (fun x21 hv => ?_)
    refine lv_iload X.hx X.hb dX2_chosen_24 (lv_at hl 4 rfl) ?_
    refine wq_lq6 X S hv dX2_chosen_26 (fun x26 hv => ?_)
    refine wq_astore X (i := 5) (lv' := [(5, va_rf x26), (0, va_rf v0), (1, va_rf v1), (2, va_rf v2), (3, .int v3), (4, .int v4)]) dX2_chosen_27 hl (by decide) (by simp [wv_rfc, wv_kI, wv_kJ, wv_kF, wv_kD]) (fun ls hl => ?_)
    refine wq_aload_n X dX2_chosen_29 rfl (lv_at hl 1 rfl) ?_
    refine wq_gI X S hv ccX2 in_X2 (k := 6) (by decide) q202 dX2_chosen_30 (fun x30 hv => ?_)
    refine lv_if_eq (tgt := 54) X.hx X.hb dX2_chosen_33 (by decide) (fun c33 => ?_) (fun c33 => ?_)
    · have hv := hv.1 c33
      refine lv_iconst (v := (0 : Int32)) X.hx X.hb dX2_chosen_54 (by decide) ?_
      exact wk_X2_chosen_55 X hK5 hv H locs cells slots ls S (lv_sub hl [1, 2, 3, 4, 5, 0] rfl)
    · have hv := hv.2 c33
      refine wq_aload X dX2_chosen_36 (lv_at hl 0 rfl) ?_
      refine wq_gAN X S hv ccX19 in_X19 (k := 3) (by decide) q1545 dX2_chosen_38 (fun x38 hv => ?_)
      refine wq_aload_n X dX2_chosen_41 rfl (lv_at hl 3 rfl) ?_
      refine wq_cFD_I X S hv q1095 ⟨by decide +kernel, by decide +kernel⟩ (nA := 1) (As := [va_rf v2]) (by decide +kernel) rfl rfl (by simp [wv_rfc, wv_kI, wv_kJ, wv_kF, wv_kD]) hl.1 dX2_chosen_42 (fun x42 w42 H locs cells slots S hv => ?_) (wq_kx X rfl)
      refine lv_if_ne (tgt := 54) X.hx X.hb dX2_chosen_47 (by decide) (fun c47 => ?_) (fun c47 => ?_)
      · have hv := hv.1 c47
        refine lv_iconst (v := (0 : Int32)) X.hx X.hb dX2_chosen_54 (by decide) ?_
        exact wk_X2_chosen_55 X hK5 hv H locs cells slots ls S (lv_sub hl [1, 2, 3, 4, 5, 0] rfl)
      · have hv := hv.2 c47
        refine lv_iconst (v := (1 : Int32)) X.hx X.hb dX2_chosen_50 (by decide) ?_
        refine lv_goto (tgt := 55) X.hx X.hb dX2_chosen_51 (by decide) ?_
        exact wk_X2_chosen_55 X hK5 hv H locs cells slots ls S (lv_sub hl [1, 2, 3, 4, 5, 0] rfl)
set_option maxHeartbeats 4000000 in
theorem wk_X2_chosen_0 {G : wv_G} {p : Program} {e : Env} {R : Room} {s : State} {m : MethodId} {args : Array Value} {below : List Frame} {meth : Method} {c : Code} {fr : Nat} {P : wv_R → wv_H → Prop} (X : wv_ok G p R s m args meth c fr "Weaversgate$Run" cX2_chosen 8 (Option.some Jvm.ClassFile.FieldType.int) "chosen" []) {v0 : Option Nat} {v1 : Option Nat} {v2 : Option Nat} {w : wv_W} (hv : vc_X2_chosen_0 G fr P v0 v1 v2 w) : wv_J G p e R s m args below meth c 8 P w 0 [(0, va_rf v0), (1, va_rf v1), (2, va_rf v2)] [] := by
  intro H locs cells slots ls S hl
  unfold vc_X2_chosen_0 at hv
  refine lv_iconst (v := (0 : Int32)) X.hx X.hb dX2_chosen_0 (by decide) ?_
  refine lv_istore_n X.hx X.hb (i := 3) (lv' := [(3, .int (0 : Int32)), (0, va_rf v0), (1, va_rf v1), (2, va_rf v2)]) dX2_chosen_1 rfl hl (by decide) (by simp [wv_rfc, wv_kI, wv_kJ, wv_kF, wv_kD]) (fun ls hl => ?_)
  refine lv_iconst (v := (0 : Int32)) X.hx X.hb dX2_chosen_2 (by decide) ?_
  refine lv_istore X.hx X.hb (i := 4) (lv' := [(4, .int (0 : Int32)), (3, .int (0 : Int32)), (0, va_rf v0), (1, va_rf v1), (2, va_rf v2)]) dX2_chosen_3 hl (by decide) (by simp [wv_rfc, wv_kI, wv_kJ, wv_kF, wv_kD]) (fun ls hl => ?_)
  exact wv_loop (A := (Option Nat) × (Option Nat) × (Option Nat) × Int32 × Int32) (fun a w => wv_J G p e R s m args below meth c 8 P w 5 [(0, va_rf a.1), (1, va_rf a.2.1), (2, va_rf a.2.2.1), (3, .int a.2.2.2.1), (4, .int a.2.2.2.2)] []) (fun K5 hK5 a w hv => wk_X2_chosen_5 X hK5 hv) hv H locs cells slots ls S (lv_sub hl [2, 3, 4, 1, 0] rfl)
theorem wk_X2_chosen {G : wv_G} (hG : wv_G0 G) {v0 : Option Nat} {v1 : Option Nat} {v2 : Option Nat} {h : wv_H} {fr kc ks : Nat} {P : wv_R → wv_H → Prop} (hv : vc_X2_chosen_0 G fr P v0 v1 v2 (h, kc, ks)) : wv_C G yX2_chosen [va_rf v0, va_rf v1, va_rf v2] h fr kc ks P := by
  refine wv_enter (lv := [(0, va_rf v0), (1, va_rf v1), (2, va_rf v2)]) hG (by decide +kernel) q1093 (by decide) (by simp [lg_sl, wv_rfc, wv_kI, wv_kJ, wv_kF, wv_kD]) (by simp [lv_args, wv_rfc, wv_kI, wv_kJ, wv_kF, wv_kD]) ?_
  intro p e R s m args below meth c X H locs cells slots ls S hl
  exact wk_X2_chosen_0 X hv H locs cells slots ls S (lv_sub hl [0, 1, 2] rfl)

def vc_X2_done_362 (G : wv_G) (fr : Nat) (P : wv_R → wv_H → Prop) (s0 : Option Nat) (s1 : Int32) (s2 : Int32) (s3 : Int32) (s4 : Option Nat) (s5 : Option Nat) (w : wv_W) : Prop :=
  wv_cV G fr yX2_call s5 [va_rf s4, .int s3, .int s2, .int s1, va_rf s0] w (wv_rI (fun x362 w362 => P (.inl (some (.int x362))) w362.1) (wv_pr P))
def vc_X2_done_205 (G : wv_G) (fr : Nat) (P : wv_R → wv_H → Prop) (v0 : Option Nat) (v1 : Option Nat) (v2 : Option Nat) (v3 : Int32) (v4 : Option Nat) (v5 : Int32) (v6 : Int32) (v7 : Int32) (v8 : Option Nat) (v10 : Int32) (w : wv_W) : Prop :=
  (v10 = (0 : Int32) → wv_gI w v4 ciX7 1 (fun x248 => P (.inl (some (.int (v6 + x248)))) w.1)) ∧ (¬ v10 = (0 : Int32) → (v10 = (1 : Int32) → wv_gI w v4 ciX7 1 (fun x257 => wv_cV G fr yX2_call v0 [va_rf v1, .int x257, .int v6, .int v7, va_rf v8] w (wv_rI (fun x266 w266 => P (.inl (some (.int x266))) w266.1) (wv_pr P)))) ∧ (¬ v10 = (1 : Int32) → (v10 = (2 : Int32) → wv_no G w (wo_o ciX22 [va_rf none, va_rf none]) 2 (fun a270 w270 => wv_gA w270 v0 ciX2 8 (fun x275 => wv_gA w270 x275 ciX1 0 (fun x278 => wv_gI w270 v4 ciX7 1 (fun x283 => wv_cV G fr yJ2_get x278 [.int x283] w270 (wv_rA (fun x286 w286 => wv_cc G w286 x286 "Weaversgate$Type" (wv_cI G fr yX22_init (some a270) [va_rf x286] w286 (wv_rV (fun w292 => wv_gI w292 v4 ciX7 1 (fun x302 => wv_gA w292 (some a270) ciX22 0 (fun x307 => 49 ≤ fr ∧ (wv_cV G fr yX2_point v0 [.int (109 : Int32), .int x302, va_rf x307, .int v6, va_rf v8, .int v7, va_rf (some (wv_lone G 2))] w292 (wv_rI (fun x321 w321 => wv_gI w321 v4 ciX7 2 (fun x331 => wv_gI w321 v0 ciX2 6 (fun x339 => (x339 = 0 → vc_X2_done_362 G fr P none v7 x321 x331 (some a270) v0 w321) ∧ (¬ x339 = 0 → wv_gA w321 v0 ciX2 8 (fun x346 => wv_cV G fr yX1_placeOf x346 [va_rf v2, .int v3, .int (v5 + (1 : Int32))] w321 (wv_rA (fun x355 w355 => vc_X2_done_362 G fr P x355 v7 x321 x331 (some a270) v0 w355) (wv_pr P))))))) (wv_pr P)))))) (wv_pr P)))) (wv_pr P))))))) ∧ (¬ v10 = (2 : Int32) → (v10 = (3 : Int32) → wv_gI w v4 ciX7 1 (fun x371 => wv_gA w v1 ciX22 0 (fun x375 => wv_mk G fr w 3 [va_rf v1, va_rf v4] (fun a387 w387 => wv_cV G fr yX2_point v0 [.int (103 : Int32), .int x371, va_rf x375, .int v6, va_rf v8, .int v7, va_rf (some a387)] w387 (wv_rI (fun x392 w392 => P (.inl (some (.int x392))) w392.1) (wv_pr P)))))) ∧ (¬ v10 = (3 : Int32) → (v10 = (4 : Int32) → wv_gI w v4 ciX7 1 (fun x401 => wv_gA w v1 ciX22 0 (fun x405 => wv_mk G fr w 4 [va_rf v0, va_rf v1, va_rf v4] (fun a418 w418 => wv_cV G fr yX2_point v0 [.int (115 : Int32), .int x401, va_rf x405, .int v6, va_rf v8, .int v7, va_rf (some a418)] w418 (wv_rI (fun x423 w423 => P (.inl (some (.int x423))) w423.1) (wv_pr P)))))) ∧ (¬ v10 = (4 : Int32) → (v10 = (5 : Int32) → wv_gI w v4 ciX7 2 (fun x431 => (v6 ≤ x431 → P (.inl (some (.int v6))) w.1) ∧ (¬ v6 ≤ x431 → wv_no G w (wo_o ciX23 [va_rf none, va_rf none, va_rf none, va_rf none, va_rf none, .int 0, .int 0]) 7 (fun a437 w437 => wv_gI w437 v4 ciX7 1 (fun x443 => wv_cI G fr yX23_init (some a437) [.int x443] w437 (wv_rV (fun w446 => wv_at w446 (some a437) (wv_pr P)) (wv_pr P))))))) ∧ (¬ v10 = (5 : Int32) → P (.inl (some (.int v6))) w.1))))))
def vc_X2_done_36 (G : wv_G) (fr : Nat) (P : wv_R → wv_H → Prop) (v0 : Option Nat) (v1 : Option Nat) (v2 : Option Nat) (v3 : Int32) (v4 : Option Nat) (v5 : Int32) (v6 : Int32) (v7 : Int32) (s0 : Option Nat) (w : wv_W) : Prop :=
  wv_cV G fr yX7_word v4 [] w (wv_rA (fun x40 w40 => wv_cV G fr yJ8_hashCode x40 [] w40 (wv_rI (fun x50 w50 => (x50 = (96417 : Int32) → wv_cV G fr yJ8_equals x40 [va_rf (some (G.2.2.2.2 407))] w50 (wv_rI (fun x116 w116 => (x116 = 0 → vc_X2_done_205 G fr P v0 v1 v2 v3 v4 v5 v6 v7 s0 (-1 : Int32) w116) ∧ (¬ x116 = 0 → vc_X2_done_205 G fr P v0 v1 v2 v3 v4 v5 v6 v7 s0 (0 : Int32) w116)) (wv_pr P))) ∧ (¬ x50 = (96417 : Int32) → (x50 = (102230 : Int32) → wv_cV G fr yJ8_equals x40 [va_rf (some (G.2.2.2.2 410))] w50 (wv_rI (fun x164 w164 => (x164 = 0 → vc_X2_done_205 G fr P v0 v1 v2 v3 v4 v5 v6 v7 s0 (-1 : Int32) w164) ∧ (¬ x164 = 0 → vc_X2_done_205 G fr P v0 v1 v2 v3 v4 v5 v6 v7 s0 (3 : Int32) w164)) (wv_pr P))) ∧ (¬ x50 = (102230 : Int32) → (x50 = (113762 : Int32) → wv_cV G fr yJ8_equals x40 [va_rf (some (G.2.2.2.2 411))] w50 (wv_rI (fun x180 w180 => (x180 = 0 → vc_X2_done_205 G fr P v0 v1 v2 v3 v4 v5 v6 v7 s0 (-1 : Int32) w180) ∧ (¬ x180 = 0 → vc_X2_done_205 G fr P v0 v1 v2 v3 v4 v5 v6 v7 s0 (4 : Int32) w180)) (wv_pr P))) ∧ (¬ x50 = (113762 : Int32) → (x50 = (3045982 : Int32) → wv_cV G fr yJ8_equals x40 [va_rf (some (G.2.2.2.2 408))] w50 (wv_rI (fun x132 w132 => (x132 = 0 → vc_X2_done_205 G fr P v0 v1 v2 v3 v4 v5 v6 v7 s0 (-1 : Int32) w132) ∧ (¬ x132 = 0 → vc_X2_done_205 G fr P v0 v1 v2 v3 v4 v5 v6 v7 s0 (1 : Int32) w132)) (wv_pr P))) ∧ (¬ x50 = (3045982 : Int32) → (x50 = (3343854 : Int32) → wv_cV G fr yJ8_equals x40 [va_rf (some (G.2.2.2.2 409))] w50 (wv_rI (fun x148 w148 => (x148 = 0 → vc_X2_done_205 G fr P v0 v1 v2 v3 v4 v5 v6 v7 s0 (-1 : Int32) w148) ∧ (¬ x148 = 0 → vc_X2_done_205 G fr P v0 v1 v2 v3 v4 v5 v6 v7 s0 (2 : Int32) w148)) (wv_pr P))) ∧ (¬ x50 = (3343854 : Int32) → (x50 = (110339814 : Int32) → wv_cV G fr yJ8_equals x40 [va_rf (some (G.2.2.2.2 412))] w50 (wv_rI (fun x196 w196 => (x196 = 0 → vc_X2_done_205 G fr P v0 v1 v2 v3 v4 v5 v6 v7 s0 (-1 : Int32) w196) ∧ (¬ x196 = 0 → vc_X2_done_205 G fr P v0 v1 v2 v3 v4 v5 v6 v7 s0 (5 : Int32) w196)) (wv_pr P))) ∧ (¬ x50 = (110339814 : Int32) → vc_X2_done_205 G fr P v0 v1 v2 v3 v4 v5 v6 v7 s0 (-1 : Int32) w50))))))) (wv_pr P))) (wv_pr P))
def vc_X2_done_0 (G : wv_G) (fr : Nat) (P : wv_R → wv_H → Prop) (v0 : Option Nat) (v1 : Option Nat) (v2 : Option Nat) (v3 : Int32) (v4 : Option Nat) (v5 : Int32) (v6 : Int32) (w : wv_W) : Prop :=
  wv_gI w v2 ciX6 0 (fun x1 => wv_gI w v0 ciX2 6 (fun x7 => (x7 = 0 → vc_X2_done_36 G fr P v0 v1 v2 v3 v4 v5 v6 x1 none w) ∧ (¬ x7 = 0 → wv_cV G fr yX7_places v4 [] w (wv_rI (fun x15 w15 => (x15 ≤ 0 → vc_X2_done_36 G fr P v0 v1 v2 v3 v4 v5 v6 x1 none w15) ∧ (¬ x15 ≤ 0 → wv_gA w15 v0 ciX2 8 (fun x22 => wv_cV G fr yX1_placeOf x22 [va_rf v2, .int v3, .int v5] w15 (wv_rA (fun x29 w29 => vc_X2_done_36 G fr P v0 v1 v2 v3 v4 v5 v6 x1 x29 w29) (wv_pr P))))) (wv_pr P)))))
set_option maxHeartbeats 4000000 in
theorem wk_X2_done_362 {G : wv_G} {p : Program} {e : Env} {R : Room} {s : State} {m : MethodId} {args : Array Value} {below : List Frame} {meth : Method} {c : Code} {fr : Nat} {P : wv_R → wv_H → Prop} (X : wv_ok G p R s m args meth c fr "Weaversgate$Run" cX2_done 13 (Option.some Jvm.ClassFile.FieldType.int) "done" []) {s0 : Option Nat} {s1 : Int32} {s2 : Int32} {s3 : Int32} {s4 : Option Nat} {s5 : Option Nat} {w : wv_W} (hv : vc_X2_done_362 G fr P s0 s1 s2 s3 s4 s5 w) : wv_J G p e R s m args below meth c 13 P w 362 [] [va_rf s0, .int s1, .int s2, .int s3, va_rf s4, va_rf s5] := by
  intro H locs cells slots ls S hl
  unfold vc_X2_done_362 at hv
  refine wq_cV_I X S hv q967 q969 qs13 q64 ⟨by decide +kernel, by decide +kernel⟩ (nA := 5) (As := [va_rf s4, .int s3, .int s2, .int s1, va_rf s0]) (by decide +kernel) rfl rfl (by simp [wv_rfc, wv_kI, wv_kJ, wv_kF, wv_kD]) hl.1 dX2_done_362 (fun x362 w362 H locs cells slots S hv => ?_) (wq_kx X rfl)
  exact wr_iret X S rfl hv dX2_done_365
set_option maxHeartbeats 4000000 in
theorem wk_X2_done_205 {G : wv_G} {p : Program} {e : Env} {R : Room} {s : State} {m : MethodId} {args : Array Value} {below : List Frame} {meth : Method} {c : Code} {fr : Nat} {P : wv_R → wv_H → Prop} (X : wv_ok G p R s m args meth c fr "Weaversgate$Run" cX2_done 13 (Option.some Jvm.ClassFile.FieldType.int) "done" []) {v0 : Option Nat} {v1 : Option Nat} {v2 : Option Nat} {v3 : Int32} {v4 : Option Nat} {v5 : Int32} {v6 : Int32} {v7 : Int32} {v8 : Option Nat} {v10 : Int32} {w : wv_W} (hv : vc_X2_done_205 G fr P v0 v1 v2 v3 v4 v5 v6 v7 v8 v10 w) : wv_J G p e R s m args below meth c 13 P w 205 [(0, va_rf v0), (1, va_rf v1), (2, va_rf v2), (3, .int v3), (4, va_rf v4), (5, .int v5), (6, .int v6), (7, .int v7), (8, va_rf v8), (10, .int v10)] [] := by
  intro H locs cells slots ls S hl
  unfold vc_X2_done_205 at hv
  refine lv_iload X.hx X.hb dX2_done_205 (lv_at hl 9 rfl) ?_
  by_cases h207_0 : v10 = (0 : Int32)
  · have hv := hv.1 h207_0
    refine lv_tableIn (tgt := 244) (off := 37) X.hx X.hb dX2_done_207 (by rw [h207_0]; decide) (by rw [h207_0]; decide) (by rw [h207_0]; decide) (by decide) ?_
    refine lv_iload X.hx X.hb dX2_done_244 (lv_at hl 6 rfl) ?_
    refine wq_aload X dX2_done_246 (lv_at hl 4 rfl) ?_
    refine wq_gIN X S hv ccX7 in_X7 (k := 1) (by decide) q1347 dX2_done_248 (fun x248 hv => ?_)
    refine lv_iadd X.hx X.hb dX2_done_251 ?_
    exact wr_iret X S rfl hv dX2_done_252
  · have hv := hv.2 h207_0
    by_cases h207_1 : v10 = (1 : Int32)
    · have hv := hv.1 h207_1
      refine lv_tableIn (tgt := 253) (off := 46) X.hx X.hb dX2_done_207 (by rw [h207_1]; decide) (by rw [h207_1]; decide) (by rw [h207_1]; decide) (by decide) ?_
      refine wq_aload_n X dX2_done_253 rfl (lv_at hl 0 rfl) ?_
      refine wq_aload_n X dX2_done_254 rfl (lv_at hl 1 rfl) ?_
      refine wq_aload X dX2_done_255 (lv_at hl 4 rfl) ?_
      refine wq_gIN X S hv ccX7 in_X7 (k := 1) (by decide) q1347 dX2_done_257 (fun x257 hv => ?_)
      refine lv_iload X.hx X.hb dX2_done_260 (lv_at hl 6 rfl) ?_
      refine lv_iload X.hx X.hb dX2_done_262 (lv_at hl 7 rfl) ?_
      refine wq_aload X dX2_done_264 (lv_at hl 8 rfl) ?_
      refine wq_cV_I X S hv q967 q969 qs13 q64 ⟨by decide +kernel, by decide +kernel⟩ (nA := 5) (As := [va_rf v1, .int x257, .int v6, .int v7, va_rf v8]) (by decide +kernel) rfl rfl (by simp [wv_rfc, wv_kI, wv_kJ, wv_kF, wv_kD]) hl.1 dX2_done_266 (fun x266 w266 H locs cells slots S hv => ?_) (wq_kx X rfl)
      exact wr_iret X S rfl hv dX2_done_269
    · have hv := hv.2 h207_1
      by_cases h207_2 : v10 = (2 : Int32)
      · have hv := hv.1 h207_2
        refine lv_tableIn (tgt := 270) (off := 63) X.hx X.hb dX2_done_207 (by rw [h207_2]; decide) (by rw [h207_2]; decide) (by rw [h207_2]; decide) (by decide) ?_
        refine wq_new X S hv tyX22 tyX22_ok ccX22 in_X22 q952 q953 q108 (fun j hj => by have hj : j < 2 := hj; rcases (show j = 0 ∨ j = 1 by omega) with rfl | rfl <;> rfl) dX2_done_270 (fun a270 w270 H cells slots S hv => ?_)
        refine lv_dup X.hx X.hb dX2_done_273 (wv_rfc _) ?_
        refine wq_aload_n X dX2_done_274 rfl (lv_at hl 0 rfl) ?_
        refine wq_gA X S hv ccX2 in_X2 (k := 8) (by decide) q204 dX2_done_275 (fun x275 hv => ?_)
        refine wq_gAN X S hv ccX1 in_X1 (k := 0) (by decide) q226 dX2_done_278 (fun x278 hv => ?_)
        refine wq_aload X dX2_done_281 (lv_at hl 4 rfl) ?_
        refine wq_gIN X S hv ccX7 in_X7 (k := 1) (by decide) q1347 dX2_done_283 (fun x283 hv => ?_)
        refine wq_cV_A X S hv q951 q274 q275 q63 ⟨by decide +kernel, by decide +kernel⟩ (nA := 1) (As := [.int x283]) (by decide +kernel) rfl rfl (by simp [wv_rfc, wv_kI, wv_kJ, wv_kF, wv_kD]) hl.1 dX2_done_286 (fun x286 w286 H locs cells slots S hv => ?_) (wq_kx X rfl)
        refine wq_cc X S hv q1024 dX2_done_289 (fun hv => ?_)
        refine wq_cI_V X S hv rfl q954 q955 q956 q108 ⟨by decide +kernel, by decide +kernel⟩ (nA := 1) (As := [va_rf x286]) (by decide +kernel) rfl rfl (by simp [wv_rfc, wv_kI, wv_kJ, wv_kF, wv_kD]) hl.1 dX2_done_292 (fun w292 H locs cells slots S hv => ?_) (wq_kx X rfl)
        refine wq_astore X (i := 11) (lv' := [(11, va_rf (some a270)), (0, va_rf v0), (1, va_rf v1), (2, va_rf v2), (3, .int v3), (4, va_rf v4), (5, .int v5), (6, .int v6), (7, .int v7), (8, va_rf v8), (10, .int v10)]) dX2_done_295 hl (by decide) (by simp [wv_rfc, wv_kI, wv_kJ, wv_kF, wv_kD]) (fun ls hl => ?_)
        refine wq_aload_n X dX2_done_297 rfl (lv_at hl 1 rfl) ?_
        refine lv_bipush (v := (109 : Int32)) X.hx X.hb dX2_done_298 (by decide) ?_
        refine wq_aload X dX2_done_300 (lv_at hl 5 rfl) ?_
        refine wq_gIN X S hv ccX7 in_X7 (k := 1) (by decide) q1347 dX2_done_302 (fun x302 hv => ?_)
        refine wq_aload X dX2_done_305 (lv_at hl 0 rfl) ?_
        refine wq_gAN X S hv ccX22 in_X22 (k := 0) (by decide) q959 dX2_done_307 (fun x307 hv => ?_)
        refine lv_iload X.hx X.hb dX2_done_310 (lv_at hl 7 rfl) ?_
        refine wq_aload X dX2_done_312 (lv_at hl 9 rfl) ?_
        refine lv_iload X.hx X.hb dX2_done_314 (lv_at hl 8 rfl) ?_
        refine wq_lam0 X S (j := 2) (d := "(LWeaversgate$Thing;LWeaversgate$Type;ILWeaversgate$Step;II)I") (sh := wm2_sh) hv (by decide) rfl wv_ck_done rfl (by simp [wv_rfc, wv_kI, wv_kJ, wv_kF, wv_kD]) hl.1 dX2_done_316 (fun hv => ?_)
        refine wq_cV_I X S hv q1027 q1029 qs19 q64 ⟨by decide +kernel, by decide +kernel⟩ (nA := 7) (As := [.int (109 : Int32), .int x302, va_rf x307, .int v6, va_rf v8, .int v7, va_rf (some (wv_lone G 2))]) (by decide +kernel) rfl rfl (by simp [wv_rfc, wv_kI, wv_kJ, wv_kF, wv_kD]) hl.1 dX2_done_321 (fun x321 w321 H locs cells slots S hv => ?_) (wq_kx X rfl)
        refine lv_istore X.hx X.hb (i := 12) (lv' := [(12, .int x321), (11, va_rf (some a270)), (0, va_rf v0), (1, va_rf v1), (2, va_rf v2), (3, .int v3), (4, va_rf v4), (5, .int v5), (6, .int v6), (7, .int v7), (8, va_rf v8), (10, .int v10)]) dX2_done_324 hl (by decide) (by simp [wv_rfc, wv_kI, wv_kJ, wv_kF, wv_kD]) (fun ls hl => ?_)
        refine wq_aload_n X dX2_done_326 rfl (lv_at hl 2 rfl) ?_
        refine wq_aload X dX2_done_327 (lv_at hl 1 rfl) ?_
        refine wq_aload X dX2_done_329 (lv_at hl 6 rfl) ?_
        refine wq_gIN X S hv ccX7 in_X7 (k := 2) (by decide) q1350 dX2_done_331 (fun x331 hv => ?_)
        refine lv_iload X.hx X.hb dX2_done_334 (lv_at hl 0 rfl) ?_
        refine lv_iload X.hx X.hb dX2_done_336 (lv_at hl 9 rfl) ?_
        refine wq_aload_n X dX2_done_338 rfl (lv_at hl 2 rfl) ?_
        refine wq_gI X S hv ccX2 in_X2 (k := 6) (by decide) q202 dX2_done_339 (fun x339 hv => ?_)
        refine lv_if_eq (tgt := 361) X.hx X.hb dX2_done_342 (by decide) (fun c342 => ?_) (fun c342 => ?_)
        · have hv := hv.1 c342
          refine wq_null (k := 0) X S dX2_done_361 ?_
          exact wk_X2_done_362 X  hv H locs cells slots ls S (lv_sub hl [] rfl)
        · have hv := hv.2 c342
          refine wq_aload_n X dX2_done_345 rfl (lv_at hl 2 rfl) ?_
          refine wq_gA X S hv ccX2 in_X2 (k := 8) (by decide) q204 dX2_done_346 (fun x346 hv => ?_)
          refine wq_aload_n X dX2_done_349 rfl (lv_at hl 4 rfl) ?_
          refine lv_iload_n X.hx X.hb dX2_done_350 rfl (lv_at hl 5 rfl) ?_
          refine lv_iload X.hx X.hb dX2_done_351 (lv_at hl 7 rfl) ?_
          refine lv_iconst (v := (1 : Int32)) X.hx X.hb dX2_done_353 (by decide) ?_
          refine lv_iadd X.hx X.hb dX2_done_354 ?_
          refine wq_cVN_A X S hv q1000 q702 qs5 q703 q60 ⟨by decide +kernel, by decide +kernel⟩ (nA := 3) (As := [va_rf v2, .int v3, .int (v5 + (1 : Int32))]) (by decide +kernel) rfl rfl (by simp [wv_rfc, wv_kI, wv_kJ, wv_kF, wv_kD]) hl.1 dX2_done_355 (fun x355 w355 H locs cells slots S hv => ?_) (wq_kx X rfl)
          refine lv_goto (tgt := 362) X.hx X.hb dX2_done_358 (by decide) ?_
          exact wk_X2_done_362 X  hv H locs cells slots ls S (lv_sub hl [] rfl)
      · have hv := hv.2 h207_2
        by_cases h207_3 : v10 = (3 : Int32)
        · have hv := hv.1 h207_3
          refine lv_tableIn (tgt := 366) (off := 159) X.hx X.hb dX2_done_207 (by rw [h207_3]; decide) (by rw [h207_3]; decide) (by rw [h207_3]; decide) (by decide) ?_
          refine wq_aload_n X dX2_done_366 rfl (lv_at hl 0 rfl) ?_
          refine lv_bipush (v := (103 : Int32)) X.hx X.hb dX2_done_367 (by decide) ?_
          refine wq_aload X dX2_done_369 (lv_at hl 4 rfl) ?_
          refine wq_gIN X S hv ccX7 in_X7 (k := 1) (by decide) q1347 dX2_done_371 (fun x371 hv => ?_)
          refine wq_aload_n X dX2_done_374 rfl (lv_at hl 1 rfl) ?_
          refine wq_gAN X S hv ccX22 in_X22 (k := 0) (by decide) q959 dX2_done_375 (fun x375 hv => ?_)
          refine lv_iload X.hx X.hb dX2_done_378 (lv_at hl 6 rfl) ?_
          refine wq_aload X dX2_done_380 (lv_at hl 8 rfl) ?_
          refine lv_iload X.hx X.hb dX2_done_382 (lv_at hl 7 rfl) ?_
          refine wq_aload_n X dX2_done_384 rfl (lv_at hl 1 rfl) ?_
          refine wq_aload X dX2_done_385 (lv_at hl 4 rfl) ?_
          refine wq_lam X S (j := 3) (d := "(LWeaversgate$Thing;LWeaversgate$Type;ILWeaversgate$Step;II)I") (sh := wm3_sh) hv (by decide) rfl wv_ck_done rfl (fun h => by cases h) wm3_lays2 rfl (wm3_fit _ _) rfl (by simp [wv_rfc, wv_kI, wv_kJ, wv_kF, wv_kD]) hl.1 dX2_done_387 (fun a387 w387 H cells slots S hv => ?_)
          refine wq_cV_I X S hv q1027 q1029 qs19 q64 ⟨by decide +kernel, by decide +kernel⟩ (nA := 7) (As := [.int (103 : Int32), .int x371, va_rf x375, .int v6, va_rf v8, .int v7, va_rf (some a387)]) (by decide +kernel) rfl rfl (by simp [wv_rfc, wv_kI, wv_kJ, wv_kF, wv_kD]) hl.1 dX2_done_392 (fun x392 w392 H locs cells slots S hv => ?_) (wq_kx X rfl)
          exact wr_iret X S rfl hv dX2_done_395
        · have hv := hv.2 h207_3
          by_cases h207_4 : v10 = (4 : Int32)
          · have hv := hv.1 h207_4
            refine lv_tableIn (tgt := 396) (off := 189) X.hx X.hb dX2_done_207 (by rw [h207_4]; decide) (by rw [h207_4]; decide) (by rw [h207_4]; decide) (by decide) ?_
            refine wq_aload_n X dX2_done_396 rfl (lv_at hl 0 rfl) ?_
            refine lv_bipush (v := (115 : Int32)) X.hx X.hb dX2_done_397 (by decide) ?_
            refine wq_aload X dX2_done_399 (lv_at hl 4 rfl) ?_
            refine wq_gIN X S hv ccX7 in_X7 (k := 1) (by decide) q1347 dX2_done_401 (fun x401 hv => ?_)
            refine wq_aload_n X dX2_done_404 rfl (lv_at hl 1 rfl) ?_
            refine wq_gAN X S hv ccX22 in_X22 (k := 0) (by decide) q959 dX2_done_405 (fun x405 hv => ?_)
            refine lv_iload X.hx X.hb dX2_done_408 (lv_at hl 6 rfl) ?_
            refine wq_aload X dX2_done_410 (lv_at hl 8 rfl) ?_
            refine lv_iload X.hx X.hb dX2_done_412 (lv_at hl 7 rfl) ?_
            refine wq_aload_n X dX2_done_414 rfl (lv_at hl 0 rfl) ?_
            refine wq_aload_n X dX2_done_415 rfl (lv_at hl 1 rfl) ?_
            refine wq_aload X dX2_done_416 (lv_at hl 4 rfl) ?_
            refine wq_lam X S (j := 4) (d := "(LWeaversgate$Thing;LWeaversgate$Type;ILWeaversgate$Step;II)I") (sh := wm4_sh) hv (by decide) rfl wv_ck_done rfl (fun h => by cases h) wm4_lays2 rfl (wm4_fit _ _ _) rfl (by simp [wv_rfc, wv_kI, wv_kJ, wv_kF, wv_kD]) hl.1 dX2_done_418 (fun a418 w418 H cells slots S hv => ?_)
            refine wq_cV_I X S hv q1027 q1029 qs19 q64 ⟨by decide +kernel, by decide +kernel⟩ (nA := 7) (As := [.int (115 : Int32), .int x401, va_rf x405, .int v6, va_rf v8, .int v7, va_rf (some a418)]) (by decide +kernel) rfl rfl (by simp [wv_rfc, wv_kI, wv_kJ, wv_kF, wv_kD]) hl.1 dX2_done_423 (fun x423 w423 H locs cells slots S hv => ?_) (wq_kx X rfl)
            exact wr_iret X S rfl hv dX2_done_426
          · have hv := hv.2 h207_4
            by_cases h207_5 : v10 = (5 : Int32)
            · have hv := hv.1 h207_5
              refine lv_tableIn (tgt := 427) (off := 220) X.hx X.hb dX2_done_207 (by rw [h207_5]; decide) (by rw [h207_5]; decide) (by rw [h207_5]; decide) (by decide) ?_
              refine lv_iload X.hx X.hb dX2_done_427 (lv_at hl 6 rfl) ?_
              refine wq_aload X dX2_done_429 (lv_at hl 4 rfl) ?_
              refine wq_gIN X S hv ccX7 in_X7 (k := 2) (by decide) q1350 dX2_done_431 (fun x431 hv => ?_)
              refine lv_icmp_le (tgt := 450) X.hx X.hb dX2_done_434 (by decide) (fun c434 => ?_) (fun c434 => ?_)
              · have hv := hv.1 c434
                refine lv_iload X.hx X.hb dX2_done_450 (lv_at hl 6 rfl) ?_
                exact wr_iret X S rfl hv dX2_done_452
              · have hv := hv.2 c434
                refine wq_new X S hv tyX23 tyX23_ok ccX23 in_X23 q943 q979 q109 (fun j hj => by have hj : j < 7 := hj; rcases (show j = 0 ∨ j = 1 ∨ j = 2 ∨ j = 3 ∨ j = 4 ∨ j = 5 ∨ j = 6 by omega) with rfl | rfl | rfl | rfl | rfl | rfl | rfl <;> rfl) dX2_done_437 (fun a437 w437 H cells slots S hv => ?_)
                refine lv_dup X.hx X.hb dX2_done_440 (wv_rfc _) ?_
                refine wq_aload X dX2_done_441 (lv_at hl 4 rfl) ?_
                refine wq_gIN X S hv ccX7 in_X7 (k := 1) (by decide) q1347 dX2_done_443 (fun x443 hv => ?_)
                refine wq_cI_V X S hv rfl q987 q988 q989 q109 ⟨by decide +kernel, by decide +kernel⟩ (nA := 1) (As := [.int x443]) (by decide +kernel) rfl rfl (by simp [wv_rfc, wv_kI, wv_kJ, wv_kF, wv_kD]) hl.1 dX2_done_446 (fun w446 H locs cells slots S hv => ?_) (wq_kx X rfl)
                exact wq_athrow X S hv dX2_done_449 (wq_kx X rfl)
            · have hv := hv.2 h207_5
              refine lv_tableOut (tgt := 453) X.hx X.hb dX2_done_207 (by have n0 := lv_neT h207_0 (a := 0) (by decide); have n1 := lv_neT h207_1 (a := 1) (by decide); have n2 := lv_neT h207_2 (a := 2) (by decide); have n3 := lv_neT h207_3 (a := 3) (by decide); have n4 := lv_neT h207_4 (a := 4) (by decide); have n5 := lv_neT h207_5 (a := 5) (by decide); omega) (by decide) ?_
              refine lv_iload X.hx X.hb dX2_done_453 (lv_at hl 6 rfl) ?_
              exact wr_iret X S rfl hv dX2_done_455
set_option maxHeartbeats 4000000 in
theorem wk_X2_done_36 {G : wv_G} {p : Program} {e : Env} {R : Room} {s : State} {m : MethodId} {args : Array Value} {below : List Frame} {meth : Method} {c : Code} {fr : Nat} {P : wv_R → wv_H → Prop} (X : wv_ok G p R s m args meth c fr "Weaversgate$Run" cX2_done 13 (Option.some Jvm.ClassFile.FieldType.int) "done" []) {v0 : Option Nat} {v1 : Option Nat} {v2 : Option Nat} {v3 : Int32} {v4 : Option Nat} {v5 : Int32} {v6 : Int32} {v7 : Int32} {s0 : Option Nat} {w : wv_W} (hv : vc_X2_done_36 G fr P v0 v1 v2 v3 v4 v5 v6 v7 s0 w) : wv_J G p e R s m args below meth c 13 P w 36 [(0, va_rf v0), (1, va_rf v1), (2, va_rf v2), (3, .int v3), (4, va_rf v4), (5, .int v5), (6, .int v6), (7, .int v7)] [va_rf s0] := by
  intro H locs cells slots ls S hl
  unfold vc_X2_done_36 at hv
  refine wq_astore X (i := 8) (lv' := [(8, va_rf s0), (0, va_rf v0), (1, va_rf v1), (2, va_rf v2), (3, .int v3), (4, va_rf v4), (5, .int v5), (6, .int v6), (7, .int v7)]) dX2_done_36 hl (by decide) (by simp [wv_rfc, wv_kI, wv_kJ, wv_kF, wv_kD]) (fun ls hl => ?_)
  refine wq_aload X dX2_done_38 (lv_at hl 5 rfl) ?_
  refine wq_cV_A X S hv q1015 q308 q309 q83 ⟨by decide +kernel, by decide +kernel⟩ (nA := 0) (As := []) (by decide +kernel) rfl rfl (by simp [wv_rfc, wv_kI, wv_kJ, wv_kF, wv_kD]) hl.1 dX2_done_40 (fun x40 w40 H locs cells slots S hv => ?_) (wq_kx X rfl)
  refine wq_astore X (i := 9) (lv' := [(9, va_rf x40), (8, va_rf s0), (0, va_rf v0), (1, va_rf v1), (2, va_rf v2), (3, .int v3), (4, va_rf v4), (5, .int v5), (6, .int v6), (7, .int v7)]) dX2_done_43 hl (by decide) (by simp [wv_rfc, wv_kI, wv_kJ, wv_kF, wv_kD]) (fun ls hl => ?_)
  refine lv_iconst (v := (-1 : Int32)) X.hx X.hb dX2_done_45 (by decide) ?_
  refine lv_istore X.hx X.hb (i := 10) (lv' := [(10, .int (-1 : Int32)), (9, va_rf x40), (8, va_rf s0), (0, va_rf v0), (1, va_rf v1), (2, va_rf v2), (3, .int v3), (4, va_rf v4), (5, .int v5), (6, .int v6), (7, .int v7)]) dX2_done_46 hl (by decide) (by simp [wv_rfc, wv_kI, wv_kJ, wv_kF, wv_kD]) (fun ls hl => ?_)
  refine wq_aload X dX2_done_48 (lv_at hl 1 rfl) ?_
  refine wq_cV_I X S hv q1016 q319 q320 q73 ⟨by decide +kernel, by decide +kernel⟩ (nA := 0) (As := []) (by decide +kernel) rfl rfl (by simp [wv_rfc, wv_kI, wv_kJ, wv_kF, wv_kD]) hl.1 dX2_done_50 (fun x50 w50 H locs cells slots S hv => ?_) (wq_kx X rfl)
  by_cases h53_0 : x50 = (96417 : Int32)
  · have hv := hv.1 h53_0
    refine lv_lookup (tgt := 112) (off := 59) X.hx X.hb dX2_done_53 (by decide) (by rw [h53_0] <;> rfl) (by decide) ?_
    refine wq_aload X dX2_done_112 (lv_at hl 1 rfl) ?_
    refine wq_ldcS X S (k := 7) rfl q1017 dX2_done_114 ?_
    refine wq_cV_I X S hv q1018 q693 q694 q73 ⟨by decide +kernel, by decide +kernel⟩ (nA := 1) (As := [va_rf (some (G.2.2.2.2 407))]) (by decide +kernel) rfl rfl (by simp [wv_rfc, wv_kI, wv_kJ, wv_kF, wv_kD]) hl.1 dX2_done_116 (fun x116 w116 H locs cells slots S hv => ?_) (wq_kx X rfl)
    refine lv_if_eq (tgt := 205) X.hx X.hb dX2_done_119 (by decide) (fun c119 => ?_) (fun c119 => ?_)
    · have hv := hv.1 c119
      exact wk_X2_done_205 X  hv H locs cells slots ls S (lv_sub hl [3, 4, 5, 6, 7, 8, 9, 10, 2, 0] rfl)
    · have hv := hv.2 c119
      refine lv_iconst (v := (0 : Int32)) X.hx X.hb dX2_done_122 (by decide) ?_
      refine lv_istore X.hx X.hb (i := 10) (lv' := [(10, .int (0 : Int32)), (9, va_rf x40), (8, va_rf s0), (0, va_rf v0), (1, va_rf v1), (2, va_rf v2), (3, .int v3), (4, va_rf v4), (5, .int v5), (6, .int v6), (7, .int v7)]) dX2_done_123 hl (by decide) (by simp [wv_rfc, wv_kI, wv_kJ, wv_kF, wv_kD]) (fun ls hl => ?_)
      refine lv_goto (tgt := 205) X.hx X.hb dX2_done_125 (by decide) ?_
      exact wk_X2_done_205 X  hv H locs cells slots ls S (lv_sub hl [3, 4, 5, 6, 7, 8, 9, 10, 2, 0] rfl)
  · have hv := hv.2 h53_0
    by_cases h53_1 : x50 = (102230 : Int32)
    · have hv := hv.1 h53_1
      refine lv_lookup (tgt := 160) (off := 107) X.hx X.hb dX2_done_53 (by decide) (by rw [h53_1] <;> rfl) (by decide) ?_
      refine wq_aload X dX2_done_160 (lv_at hl 1 rfl) ?_
      refine wq_ldcS X S (k := 10) rfl q1021 dX2_done_162 ?_
      refine wq_cV_I X S hv q1018 q693 q694 q73 ⟨by decide +kernel, by decide +kernel⟩ (nA := 1) (As := [va_rf (some (G.2.2.2.2 410))]) (by decide +kernel) rfl rfl (by simp [wv_rfc, wv_kI, wv_kJ, wv_kF, wv_kD]) hl.1 dX2_done_164 (fun x164 w164 H locs cells slots S hv => ?_) (wq_kx X rfl)
      refine lv_if_eq (tgt := 205) X.hx X.hb dX2_done_167 (by decide) (fun c167 => ?_) (fun c167 => ?_)
      · have hv := hv.1 c167
        exact wk_X2_done_205 X  hv H locs cells slots ls S (lv_sub hl [3, 4, 5, 6, 7, 8, 9, 10, 2, 0] rfl)
      · have hv := hv.2 c167
        refine lv_iconst (v := (3 : Int32)) X.hx X.hb dX2_done_170 (by decide) ?_
        refine lv_istore X.hx X.hb (i := 10) (lv' := [(10, .int (3 : Int32)), (9, va_rf x40), (8, va_rf s0), (0, va_rf v0), (1, va_rf v1), (2, va_rf v2), (3, .int v3), (4, va_rf v4), (5, .int v5), (6, .int v6), (7, .int v7)]) dX2_done_171 hl (by decide) (by simp [wv_rfc, wv_kI, wv_kJ, wv_kF, wv_kD]) (fun ls hl => ?_)
        refine lv_goto (tgt := 205) X.hx X.hb dX2_done_173 (by decide) ?_
        exact wk_X2_done_205 X  hv H locs cells slots ls S (lv_sub hl [3, 4, 5, 6, 7, 8, 9, 10, 2, 0] rfl)
    · have hv := hv.2 h53_1
      by_cases h53_2 : x50 = (113762 : Int32)
      · have hv := hv.1 h53_2
        refine lv_lookup (tgt := 176) (off := 123) X.hx X.hb dX2_done_53 (by decide) (by rw [h53_2] <;> rfl) (by decide) ?_
        refine wq_aload X dX2_done_176 (lv_at hl 1 rfl) ?_
        refine wq_ldcS X S (k := 11) rfl q1022 dX2_done_178 ?_
        refine wq_cV_I X S hv q1018 q693 q694 q73 ⟨by decide +kernel, by decide +kernel⟩ (nA := 1) (As := [va_rf (some (G.2.2.2.2 411))]) (by decide +kernel) rfl rfl (by simp [wv_rfc, wv_kI, wv_kJ, wv_kF, wv_kD]) hl.1 dX2_done_180 (fun x180 w180 H locs cells slots S hv => ?_) (wq_kx X rfl)
        refine lv_if_eq (tgt := 205) X.hx X.hb dX2_done_183 (by decide) (fun c183 => ?_) (fun c183 => ?_)
        · have hv := hv.1 c183
          exact wk_X2_done_205 X  hv H locs cells slots ls S (lv_sub hl [3, 4, 5, 6, 7, 8, 9, 10, 2, 0] rfl)
        · have hv := hv.2 c183
          refine lv_iconst (v := (4 : Int32)) X.hx X.hb dX2_done_186 (by decide) ?_
          refine lv_istore X.hx X.hb (i := 10) (lv' := [(10, .int (4 : Int32)), (9, va_rf x40), (8, va_rf s0), (0, va_rf v0), (1, va_rf v1), (2, va_rf v2), (3, .int v3), (4, va_rf v4), (5, .int v5), (6, .int v6), (7, .int v7)]) dX2_done_187 hl (by decide) (by simp [wv_rfc, wv_kI, wv_kJ, wv_kF, wv_kD]) (fun ls hl => ?_)
          refine lv_goto (tgt := 205) X.hx X.hb dX2_done_189 (by decide) ?_
          exact wk_X2_done_205 X  hv H locs cells slots ls S (lv_sub hl [3, 4, 5, 6, 7, 8, 9, 10, 2, 0] rfl)
      · have hv := hv.2 h53_2
        by_cases h53_3 : x50 = (3045982 : Int32)
        · have hv := hv.1 h53_3
          refine lv_lookup (tgt := 128) (off := 75) X.hx X.hb dX2_done_53 (by decide) (by rw [h53_3] <;> rfl) (by decide) ?_
          refine wq_aload X dX2_done_128 (lv_at hl 1 rfl) ?_
          refine wq_ldcS X S (k := 8) rfl q1019 dX2_done_130 ?_
          refine wq_cV_I X S hv q1018 q693 q694 q73 ⟨by decide +kernel, by decide +kernel⟩ (nA := 1) (As := [va_rf (some (G.2.2.2.2 408))]) (by decide +kernel) rfl rfl (by simp [wv_rfc, wv_kI, wv_kJ, wv_kF, wv_kD]) hl.1 dX2_done_132 (fun x132 w132 H locs cells slots S hv => ?_) (wq_kx X rfl)
          refine lv_if_eq (tgt := 205) X.hx X.hb dX2_done_135 (by decide) (fun c135 => ?_) (fun c135 => ?_)
          · have hv := hv.1 c135
            exact wk_X2_done_205 X  hv H locs cells slots ls S (lv_sub hl [3, 4, 5, 6, 7, 8, 9, 10, 2, 0] rfl)
          · have hv := hv.2 c135
            refine lv_iconst (v := (1 : Int32)) X.hx X.hb dX2_done_138 (by decide) ?_
            refine lv_istore X.hx X.hb (i := 10) (lv' := [(10, .int (1 : Int32)), (9, va_rf x40), (8, va_rf s0), (0, va_rf v0), (1, va_rf v1), (2, va_rf v2), (3, .int v3), (4, va_rf v4), (5, .int v5), (6, .int v6), (7, .int v7)]) dX2_done_139 hl (by decide) (by simp [wv_rfc, wv_kI, wv_kJ, wv_kF, wv_kD]) (fun ls hl => ?_)
            refine lv_goto (tgt := 205) X.hx X.hb dX2_done_141 (by decide) ?_
            exact wk_X2_done_205 X  hv H locs cells slots ls S (lv_sub hl [3, 4, 5, 6, 7, 8, 9, 10, 2, 0] rfl)
        · have hv := hv.2 h53_3
          by_cases h53_4 : x50 = (3343854 : Int32)
          · have hv := hv.1 h53_4
            refine lv_lookup (tgt := 144) (off := 91) X.hx X.hb dX2_done_53 (by decide) (by rw [h53_4] <;> rfl) (by decide) ?_
            refine wq_aload X dX2_done_144 (lv_at hl 1 rfl) ?_
            refine wq_ldcS X S (k := 9) rfl q1020 dX2_done_146 ?_
            refine wq_cV_I X S hv q1018 q693 q694 q73 ⟨by decide +kernel, by decide +kernel⟩ (nA := 1) (As := [va_rf (some (G.2.2.2.2 409))]) (by decide +kernel) rfl rfl (by simp [wv_rfc, wv_kI, wv_kJ, wv_kF, wv_kD]) hl.1 dX2_done_148 (fun x148 w148 H locs cells slots S hv => ?_) (wq_kx X rfl)
            refine lv_if_eq (tgt := 205) X.hx X.hb dX2_done_151 (by decide) (fun c151 => ?_) (fun c151 => ?_)
            · have hv := hv.1 c151
              exact wk_X2_done_205 X  hv H locs cells slots ls S (lv_sub hl [3, 4, 5, 6, 7, 8, 9, 10, 2, 0] rfl)
            · have hv := hv.2 c151
              refine lv_iconst (v := (2 : Int32)) X.hx X.hb dX2_done_154 (by decide) ?_
              refine lv_istore X.hx X.hb (i := 10) (lv' := [(10, .int (2 : Int32)), (9, va_rf x40), (8, va_rf s0), (0, va_rf v0), (1, va_rf v1), (2, va_rf v2), (3, .int v3), (4, va_rf v4), (5, .int v5), (6, .int v6), (7, .int v7)]) dX2_done_155 hl (by decide) (by simp [wv_rfc, wv_kI, wv_kJ, wv_kF, wv_kD]) (fun ls hl => ?_)
              refine lv_goto (tgt := 205) X.hx X.hb dX2_done_157 (by decide) ?_
              exact wk_X2_done_205 X  hv H locs cells slots ls S (lv_sub hl [3, 4, 5, 6, 7, 8, 9, 10, 2, 0] rfl)
          · have hv := hv.2 h53_4
            by_cases h53_5 : x50 = (110339814 : Int32)
            · have hv := hv.1 h53_5
              refine lv_lookup (tgt := 192) (off := 139) X.hx X.hb dX2_done_53 (by decide) (by rw [h53_5] <;> rfl) (by decide) ?_
              refine wq_aload X dX2_done_192 (lv_at hl 1 rfl) ?_
              refine wq_ldcS X S (k := 12) rfl q1023 dX2_done_194 ?_
              refine wq_cV_I X S hv q1018 q693 q694 q73 ⟨by decide +kernel, by decide +kernel⟩ (nA := 1) (As := [va_rf (some (G.2.2.2.2 412))]) (by decide +kernel) rfl rfl (by simp [wv_rfc, wv_kI, wv_kJ, wv_kF, wv_kD]) hl.1 dX2_done_196 (fun x196 w196 H locs cells slots S hv => ?_) (wq_kx X rfl)
              refine lv_if_eq (tgt := 205) X.hx X.hb dX2_done_199 (by decide) (fun c199 => ?_) (fun c199 => ?_)
              · have hv := hv.1 c199
                exact wk_X2_done_205 X  hv H locs cells slots ls S (lv_sub hl [3, 4, 5, 6, 7, 8, 9, 10, 2, 0] rfl)
              · have hv := hv.2 c199
                refine lv_iconst (v := (5 : Int32)) X.hx X.hb dX2_done_202 (by decide) ?_
                refine lv_istore X.hx X.hb (i := 10) (lv' := [(10, .int (5 : Int32)), (9, va_rf x40), (8, va_rf s0), (0, va_rf v0), (1, va_rf v1), (2, va_rf v2), (3, .int v3), (4, va_rf v4), (5, .int v5), (6, .int v6), (7, .int v7)]) dX2_done_203 hl (by decide) (by simp [wv_rfc, wv_kI, wv_kJ, wv_kF, wv_kD]) (fun ls hl => ?_)
                exact wk_X2_done_205 X  hv H locs cells slots ls S (lv_sub hl [3, 4, 5, 6, 7, 8, 9, 10, 2, 0] rfl)
            · have hv := hv.2 h53_5
              refine lv_lookup (tgt := 205) (off := 152) X.hx X.hb dX2_done_53 (by decide) (by rw [lv_osw h53_0 (by decide), lv_osw h53_1 (by decide), lv_osw h53_2 (by decide), lv_osw h53_3 (by decide), lv_osw h53_4 (by decide), lv_osw h53_5 (by decide)] <;> rfl) (by decide) ?_
              exact wk_X2_done_205 X  hv H locs cells slots ls S (lv_sub hl [3, 4, 5, 6, 7, 8, 9, 10, 2, 0] rfl)
set_option maxHeartbeats 4000000 in
theorem wk_X2_done_0 {G : wv_G} {p : Program} {e : Env} {R : Room} {s : State} {m : MethodId} {args : Array Value} {below : List Frame} {meth : Method} {c : Code} {fr : Nat} {P : wv_R → wv_H → Prop} (X : wv_ok G p R s m args meth c fr "Weaversgate$Run" cX2_done 13 (Option.some Jvm.ClassFile.FieldType.int) "done" []) {v0 : Option Nat} {v1 : Option Nat} {v2 : Option Nat} {v3 : Int32} {v4 : Option Nat} {v5 : Int32} {v6 : Int32} {w : wv_W} (hv : vc_X2_done_0 G fr P v0 v1 v2 v3 v4 v5 v6 w) : wv_J G p e R s m args below meth c 13 P w 0 [(0, va_rf v0), (1, va_rf v1), (2, va_rf v2), (3, .int v3), (4, va_rf v4), (5, .int v5), (6, .int v6)] [] := by
  intro H locs cells slots ls S hl
  unfold vc_X2_done_0 at hv
  refine wq_aload_n X dX2_done_0 rfl (lv_at hl 2 rfl) ?_
  refine wq_gIN X S hv ccX6 in_X6 (k := 0) (by decide) q1290 dX2_done_1 (fun x1 hv => ?_)
  refine lv_istore X.hx X.hb (i := 7) (lv' := [(7, .int x1), (0, va_rf v0), (1, va_rf v1), (2, va_rf v2), (3, .int v3), (4, va_rf v4), (5, .int v5), (6, .int v6)]) dX2_done_4 hl (by decide) (by simp [wv_rfc, wv_kI, wv_kJ, wv_kF, wv_kD]) (fun ls hl => ?_)
  refine wq_aload_n X dX2_done_6 rfl (lv_at hl 1 rfl) ?_
  refine wq_gI X S hv ccX2 in_X2 (k := 6) (by decide) q202 dX2_done_7 (fun x7 hv => ?_)
  refine lv_if_eq (tgt := 35) X.hx X.hb dX2_done_10 (by decide) (fun c10 => ?_) (fun c10 => ?_)
  · have hv := hv.1 c10
    refine wq_null (k := 0) X S dX2_done_35 ?_
    exact wk_X2_done_36 X  hv H locs cells slots ls S (lv_sub hl [1, 2, 3, 4, 5, 6, 7, 0] rfl)
  · have hv := hv.2 c10
    refine wq_aload X dX2_done_13 (lv_at hl 5 rfl) ?_
    refine wq_cV_I X S hv q1014 q304 q305 q83 ⟨by decide +kernel, by decide +kernel⟩ (nA := 0) (As := []) (by decide +kernel) rfl rfl (by simp [wv_rfc, wv_kI, wv_kJ, wv_kF, wv_kD]) hl.1 dX2_done_15 (fun x15 w15 H locs cells slots S hv => ?_) (wq_kx X rfl)
    refine lv_if_le (tgt := 35) X.hx X.hb dX2_done_18 (by decide) (fun c18 => ?_) (fun c18 => ?_)
    · have hv := hv.1 c18
      refine wq_null (k := 0) X S dX2_done_35 ?_
      exact wk_X2_done_36 X  hv H locs cells slots ls S (lv_sub hl [1, 2, 3, 4, 5, 6, 7, 0] rfl)
    · have hv := hv.2 c18
      refine wq_aload_n X dX2_done_21 rfl (lv_at hl 1 rfl) ?_
      refine wq_gA X S hv ccX2 in_X2 (k := 8) (by decide) q204 dX2_done_22 (fun x22 hv => ?_)
      refine wq_aload_n X dX2_done_25 rfl (lv_at hl 3 rfl) ?_
      refine lv_iload_n X.hx X.hb dX2_done_26 rfl (lv_at hl 4 rfl) ?_
      refine lv_iload X.hx X.hb dX2_done_27 (lv_at hl 6 rfl) ?_
      refine wq_cVN_A X S hv q1000 q702 qs5 q703 q60 ⟨by decide +kernel, by decide +kernel⟩ (nA := 3) (As := [va_rf v2, .int v3, .int v5]) (by decide +kernel) rfl rfl (by simp [wv_rfc, wv_kI, wv_kJ, wv_kF, wv_kD]) hl.1 dX2_done_29 (fun x29 w29 H locs cells slots S hv => ?_) (wq_kx X rfl)
      refine lv_goto (tgt := 36) X.hx X.hb dX2_done_32 (by decide) ?_
      exact wk_X2_done_36 X  hv H locs cells slots ls S (lv_sub hl [1, 2, 3, 4, 5, 6, 7, 0] rfl)
theorem wk_X2_done {G : wv_G} (hG : wv_G0 G) {v0 : Option Nat} {v1 : Option Nat} {v2 : Option Nat} {v3 : Int32} {v4 : Option Nat} {v5 : Int32} {v6 : Int32} {h : wv_H} {fr kc ks : Nat} {P : wv_R → wv_H → Prop} (hv : vc_X2_done_0 G fr P v0 v1 v2 v3 v4 v5 v6 (h, kc, ks)) : wv_C G yX2_done [va_rf v0, va_rf v1, va_rf v2, .int v3, va_rf v4, .int v5, .int v6] h fr kc ks P := by
  refine wv_enter (lv := [(0, va_rf v0), (1, va_rf v1), (2, va_rf v2), (3, .int v3), (4, va_rf v4), (5, .int v5), (6, .int v6)]) hG (by decide +kernel) q1013 (by decide) (by simp [lg_sl, wv_rfc, wv_kI, wv_kJ, wv_kF, wv_kD]) (by simp [lv_args, wv_rfc, wv_kI, wv_kJ, wv_kF, wv_kD]) ?_
  intro p e R s m args below meth c X H locs cells slots ls S hl
  exact wk_X2_done_0 X hv H locs cells slots ls S (lv_sub hl [0, 1, 2, 3, 4, 5, 6] rfl)

def vc_X2_goOn_33 (G : wv_G) (fr : Nat) (P : wv_R → wv_H → Prop) (v0 : Option Nat) (v1 : Int32) (v3 : Int32) (v4 : Option Nat) (v5 : Int32) (w : wv_W) : Prop :=
  wv_gA w v0 ciX2 8 (fun x36 => wv_gA w x36 ciX1 2 (fun x39 => wv_cV G fr yJ2_size x39 [] w (wv_rI (fun x42 w42 => (¬ v5 = x42 → wv_gA w42 v0 ciX2 1 (fun x58 => wv_lq G 6 w42 x58 v5 (fun x63 => wv_gI w42 x63 ciX19 2 (fun x68 => (¬ x68 = (114 : Int32) → wv_gI w42 x63 ciX19 2 (fun x91 => (¬ x91 = (98 : Int32) → wv_cV G fr yX2_behind v0 [va_rf x63, .int v1, .int v5, .int v3, va_rf v4] w42 (wv_rI (fun x131 w131 => P (.inl (some (.int x131))) w131.1) (wv_pr P))) ∧ (x91 = (98 : Int32) → wv_gA w42 v0 ciX2 0 (fun x100 => wv_cV G fr yX3_add x100 [va_rf x63, .int v3] w42 (wv_rV (fun w106 => wv_cV G fr yX2_goOn v0 [.int v1, .int (v5 + (1 : Int32)), .int v3, va_rf v4] w106 (wv_rI (fun x118 w118 => P (.inl (some (.int x118))) w118.1) (wv_pr P))) (wv_pr P)))))) ∧ (x68 = (114 : Int32) → wv_cV G fr yX2_around v0 [va_rf x63, .int v1, .int v5, .int v3, va_rf v4] w42 (wv_rI (fun x85 w85 => P (.inl (some (.int x85))) w85.1) (wv_pr P))))))) ∧ (v5 = x42 → wv_cA G fr v4 v3 w42 (wv_rI (fun x51 w51 => P (.inl (some (.int x51))) w51.1) (wv_pr P)))) (wv_pr P))))
def vc_X2_goOn_3 (G : wv_G) (fr : Nat) (P : wv_R → wv_H → Prop) (K3 : ((Option Nat) × Int32 × Int32 × (Option Nat) × Int32) → wv_W → Prop) (v0 : Option Nat) (v1 : Int32) (v3 : Int32) (v4 : Option Nat) (v5 : Int32) (w : wv_W) : Prop :=
  wv_gA w v0 ciX2 8 (fun x6 => wv_gA w x6 ciX1 2 (fun x9 => wv_cV G fr yJ2_size x9 [] w (wv_rI (fun x12 w12 => (x12 ≤ v5 → vc_X2_goOn_33 G fr P v0 v1 v3 v4 v5 w12) ∧ (¬ x12 ≤ v5 → (¬ ((v1 >>> (v5 &&& 31)) &&& (1 : Int32)) = 0 → vc_X2_goOn_33 G fr P v0 v1 v3 v4 v5 w12) ∧ (((v1 >>> (v5 &&& 31)) &&& (1 : Int32)) = 0 → K3 (v0, v1, v3, v4, (v5 + (1 : Int32))) w12))) (wv_pr P))))
def vc_X2_goOn_0 (G : wv_G) (fr : Nat) (P : wv_R → wv_H → Prop) (v0 : Option Nat) (v1 : Int32) (v2 : Int32) (v3 : Int32) (v4 : Option Nat) (w : wv_W) : Prop :=
  wv_L (fun K3 a w => vc_X2_goOn_3 G fr P K3 a.1 a.2.1 a.2.2.1 a.2.2.2.1 a.2.2.2.2 w) (v0, v1, v3, v4, v2) w
set_option maxHeartbeats 4000000 in
theorem wk_X2_goOn_33 {G : wv_G} {p : Program} {e : Env} {R : Room} {s : State} {m : MethodId} {args : Array Value} {below : List Frame} {meth : Method} {c : Code} {fr : Nat} {P : wv_R → wv_H → Prop} (X : wv_ok G p R s m args meth c fr "Weaversgate$Run" cX2_goOn 7 (Option.some Jvm.ClassFile.FieldType.int) "goOn" []) {v0 : Option Nat} {v1 : Int32} {v3 : Int32} {v4 : Option Nat} {v5 : Int32} {w : wv_W} (hv : vc_X2_goOn_33 G fr P v0 v1 v3 v4 v5 w) : wv_J G p e R s m args below meth c 7 P w 33 [(0, va_rf v0), (1, .int v1), (3, .int v3), (4, va_rf v4), (5, .int v5)] [] := by
  intro H locs cells slots ls S hl
  unfold vc_X2_goOn_33 at hv
  refine lv_iload X.hx X.hb dX2_goOn_33 (lv_at hl 4 rfl) ?_
  refine wq_aload_n X dX2_goOn_35 rfl (lv_at hl 0 rfl) ?_
  refine wq_gA X S hv ccX2 in_X2 (k := 8) (by decide) q204 dX2_goOn_36 (fun x36 hv => ?_)
  refine wq_gAN X S hv ccX1 in_X1 (k := 2) (by decide) q228 dX2_goOn_39 (fun x39 hv => ?_)
  refine wq_cV_I X S hv q950 q270 q271 q63 ⟨by decide +kernel, by decide +kernel⟩ (nA := 0) (As := []) (by decide +kernel) rfl rfl (by simp [wv_rfc, wv_kI, wv_kJ, wv_kF, wv_kD]) hl.1 dX2_goOn_42 (fun x42 w42 H locs cells slots S hv => ?_) (wq_kx X rfl)
  refine lv_icmp_ne (tgt := 57) X.hx X.hb dX2_goOn_45 (by decide) (fun c45 => ?_) (fun c45 => ?_)
  · have hv := hv.1 c45
    refine wq_aload_n X dX2_goOn_57 rfl (lv_at hl 0 rfl) ?_
    refine wq_gA X S hv ccX2 in_X2 (k := 1) (by decide) q193 dX2_goOn_58 (fun x58 hv => ?_)
    refine lv_iload X.hx X.hb dX2_goOn_61 (lv_at hl 4 rfl) ?_
    refine wq_lq6 X S hv dX2_goOn_63 (fun x63 hv => ?_)
    refine wq_astore X (i := 6) (lv' := [(6, va_rf x63), (0, va_rf v0), (1, .int v1), (3, .int v3), (4, va_rf v4), (5, .int v5)]) dX2_goOn_64 hl (by decide) (by simp [wv_rfc, wv_kI, wv_kJ, wv_kF, wv_kD]) (fun ls hl => ?_)
    refine wq_aload X dX2_goOn_66 (lv_at hl 0 rfl) ?_
    refine wq_gIN X S hv ccX19 in_X19 (k := 2) (by decide) q1543 dX2_goOn_68 (fun x68 hv => ?_)
    refine lv_bipush (v := (114 : Int32)) X.hx X.hb dX2_goOn_71 (by decide) ?_
    refine lv_icmp_ne (tgt := 89) X.hx X.hb dX2_goOn_73 (by decide) (fun c73 => ?_) (fun c73 => ?_)
    · have hv := hv.1 c73
      refine wq_aload X dX2_goOn_89 (lv_at hl 0 rfl) ?_
      refine wq_gIN X S hv ccX19 in_X19 (k := 2) (by decide) q1543 dX2_goOn_91 (fun x91 hv => ?_)
      refine lv_bipush (v := (98 : Int32)) X.hx X.hb dX2_goOn_94 (by decide) ?_
      refine lv_icmp_ne (tgt := 122) X.hx X.hb dX2_goOn_96 (by decide) (fun c96 => ?_) (fun c96 => ?_)
      · have hv := hv.1 c96
        refine wq_aload_n X dX2_goOn_122 rfl (lv_at hl 1 rfl) ?_
        refine wq_aload X dX2_goOn_123 (lv_at hl 0 rfl) ?_
        refine lv_iload_n X.hx X.hb dX2_goOn_125 rfl (lv_at hl 2 rfl) ?_
        refine lv_iload X.hx X.hb dX2_goOn_126 (lv_at hl 5 rfl) ?_
        refine lv_iload_n X.hx X.hb dX2_goOn_128 rfl (lv_at hl 3 rfl) ?_
        refine wq_aload X dX2_goOn_129 (lv_at hl 4 rfl) ?_
        refine wq_cV_I X S hv q1189 q1191 qs23 q64 ⟨by decide +kernel, by decide +kernel⟩ (nA := 5) (As := [va_rf x63, .int v1, .int v5, .int v3, va_rf v4]) (by decide +kernel) rfl rfl (by simp [wv_rfc, wv_kI, wv_kJ, wv_kF, wv_kD]) hl.1 dX2_goOn_131 (fun x131 w131 H locs cells slots S hv => ?_) (wq_kx X rfl)
        exact wr_iret X S rfl hv dX2_goOn_134
      · have hv := hv.2 c96
        refine wq_aload_n X dX2_goOn_99 rfl (lv_at hl 1 rfl) ?_
        refine wq_gA X S hv ccX2 in_X2 (k := 0) (by decide) q191 dX2_goOn_100 (fun x100 hv => ?_)
        refine wq_aload X dX2_goOn_103 (lv_at hl 0 rfl) ?_
        refine lv_iload_n X.hx X.hb dX2_goOn_105 rfl (lv_at hl 3 rfl) ?_
        refine wq_cV_V X S hv q1183 q1184 q1185 q65 ⟨by decide +kernel, by decide +kernel⟩ (nA := 2) (As := [va_rf x63, .int v3]) (by decide +kernel) rfl rfl (by simp [wv_rfc, wv_kI, wv_kJ, wv_kF, wv_kD]) hl.1 dX2_goOn_106 (fun w106 H locs cells slots S hv => ?_) (wq_kx X rfl)
        refine wq_aload_n X dX2_goOn_109 rfl (lv_at hl 1 rfl) ?_
        refine lv_iload_n X.hx X.hb dX2_goOn_110 rfl (lv_at hl 2 rfl) ?_
        refine lv_iload X.hx X.hb dX2_goOn_111 (lv_at hl 5 rfl) ?_
        refine lv_iconst (v := (1 : Int32)) X.hx X.hb dX2_goOn_113 (by decide) ?_
        refine lv_iadd X.hx X.hb dX2_goOn_114 ?_
        refine lv_iload_n X.hx X.hb dX2_goOn_115 rfl (lv_at hl 3 rfl) ?_
        refine wq_aload X dX2_goOn_116 (lv_at hl 4 rfl) ?_
        refine wq_cV_I X S hv q1171 q1173 qs21 q64 ⟨by decide +kernel, by decide +kernel⟩ (nA := 4) (As := [.int v1, .int (v5 + (1 : Int32)), .int v3, va_rf v4]) (by decide +kernel) rfl rfl (by simp [wv_rfc, wv_kI, wv_kJ, wv_kF, wv_kD]) hl.1 dX2_goOn_118 (fun x118 w118 H locs cells slots S hv => ?_) (wq_kx X rfl)
        exact wr_iret X S rfl hv dX2_goOn_121
    · have hv := hv.2 c73
      refine wq_aload_n X dX2_goOn_76 rfl (lv_at hl 1 rfl) ?_
      refine wq_aload X dX2_goOn_77 (lv_at hl 0 rfl) ?_
      refine lv_iload_n X.hx X.hb dX2_goOn_79 rfl (lv_at hl 2 rfl) ?_
      refine lv_iload X.hx X.hb dX2_goOn_80 (lv_at hl 5 rfl) ?_
      refine lv_iload_n X.hx X.hb dX2_goOn_82 rfl (lv_at hl 3 rfl) ?_
      refine wq_aload X dX2_goOn_83 (lv_at hl 4 rfl) ?_
      refine wq_cV_I X S hv q1179 q1181 qs22 q64 ⟨by decide +kernel, by decide +kernel⟩ (nA := 5) (As := [va_rf x63, .int v1, .int v5, .int v3, va_rf v4]) (by decide +kernel) rfl rfl (by simp [wv_rfc, wv_kI, wv_kJ, wv_kF, wv_kD]) hl.1 dX2_goOn_85 (fun x85 w85 H locs cells slots S hv => ?_) (wq_kx X rfl)
      exact wr_iret X S rfl hv dX2_goOn_88
  · have hv := hv.2 c45
    refine wq_aload X dX2_goOn_48 (lv_at hl 3 rfl) ?_
    refine lv_iload_n X.hx X.hb dX2_goOn_50 rfl (lv_at hl 2 rfl) ?_
    refine wq_cA X S hv q1176 (by simp [wv_rfc, wv_kI, wv_kJ, wv_kF, wv_kD]) hl.1 dX2_goOn_51 (fun x51 w51 H locs cells slots S hv => ?_) (wq_kx X rfl)
    exact wr_iret X S rfl hv dX2_goOn_56
set_option maxHeartbeats 4000000 in
theorem wk_X2_goOn_3 {G : wv_G} {p : Program} {e : Env} {R : Room} {s : State} {m : MethodId} {args : Array Value} {below : List Frame} {meth : Method} {c : Code} {fr : Nat} {P : wv_R → wv_H → Prop} (X : wv_ok G p R s m args meth c fr "Weaversgate$Run" cX2_goOn 7 (Option.some Jvm.ClassFile.FieldType.int) "goOn" []) {K3 : ((Option Nat) × Int32 × Int32 × (Option Nat) × Int32) → wv_W → Prop} (hK3 : ∀ a w, K3 a w → wv_J G p e R s m args below meth c 7 P w 3 [(0, va_rf a.1), (1, .int a.2.1), (3, .int a.2.2.1), (4, va_rf a.2.2.2.1), (5, .int a.2.2.2.2)] []) {v0 : Option Nat} {v1 : Int32} {v3 : Int32} {v4 : Option Nat} {v5 : Int32} {w : wv_W} (hv : vc_X2_goOn_3 G fr P K3 v0 v1 v3 v4 v5 w) : wv_J G p e R s m args below meth c 7 P w 3 [(0, va_rf v0), (1, .int v1), (3, .int v3), (4, va_rf v4), (5, .int v5)] [] := by
  intro H locs cells slots ls S hl
  unfold vc_X2_goOn_3 at hv
  refine lv_iload X.hx X.hb dX2_goOn_3 (lv_at hl 4 rfl) ?_
  refine wq_aload_n X dX2_goOn_5 rfl (lv_at hl 0 rfl) ?_
  refine wq_gA X S hv ccX2 in_X2 (k := 8) (by decide) q204 dX2_goOn_6 (fun x6 hv => ?_)
  refine wq_gAN X S hv ccX1 in_X1 (k := 2) (by decide) q228 dX2_goOn_9 (fun x9 hv => ?_)
  refine wq_cV_I X S hv q950 q270 q271 q63 ⟨by decide +kernel, by decide +kernel⟩ (nA := 0) (As := []) (by decide +kernel) rfl rfl (by simp [wv_rfc, wv_kI, wv_kJ, wv_kF, wv_kD]) hl.1 dX2_goOn_12 (fun x12 w12 H locs cells slots S hv => ?_) (wq_kx X rfl)
  refine lv_icmp_ge (tgt := 33) X.hx X.hb dX2_goOn_15 (by decide) (fun c15 => ?_) (fun c15 => ?_)
  · have hv := hv.1 c15
    exact wk_X2_goOn_33 X  hv H locs cells slots ls S (lv_sub hl [0, 1, 2, 3, 4] rfl)
  · have hv := hv.2 c15
    refine lv_iload_n X.hx X.hb dX2_goOn_18 rfl (lv_at hl 1 rfl) ?_
    refine lv_iload X.hx X.hb dX2_goOn_19 (lv_at hl 4 rfl) ?_
    refine lv_ishr X.hx X.hb dX2_goOn_21 ?_
    refine lv_iconst (v := (1 : Int32)) X.hx X.hb dX2_goOn_22 (by decide) ?_
    refine lv_iand X.hx X.hb dX2_goOn_23 ?_
    refine lv_if_ne (tgt := 33) X.hx X.hb dX2_goOn_24 (by decide) (fun c24 => ?_) (fun c24 => ?_)
    · have hv := hv.1 c24
      exact wk_X2_goOn_33 X  hv H locs cells slots ls S (lv_sub hl [0, 1, 2, 3, 4] rfl)
    · have hv := hv.2 c24
      refine lv_iinc (v := (v5 + (1 : Int32))) (lv' := [(5, .int (v5 + (1 : Int32))), (0, va_rf v0), (1, .int v1), (3, .int v3), (4, va_rf v4)]) X.hx X.hb dX2_goOn_27 hl (k := 4) rfl (by rfl) (by decide) (by simp [wv_rfc, wv_kI, wv_kJ, wv_kF, wv_kD]) (fun ls hl => ?_)
      refine lv_goto (tgt := 3) X.hx X.hb dX2_goOn_30 (by decide) ?_
      exact hK3 _ _ hv H locs cells slots ls S (lv_sub hl [1, 2, 3, 4, 0] rfl)
set_option maxHeartbeats 4000000 in
theorem wk_X2_goOn_0 {G : wv_G} {p : Program} {e : Env} {R : Room} {s : State} {m : MethodId} {args : Array Value} {below : List Frame} {meth : Method} {c : Code} {fr : Nat} {P : wv_R → wv_H → Prop} (X : wv_ok G p R s m args meth c fr "Weaversgate$Run" cX2_goOn 7 (Option.some Jvm.ClassFile.FieldType.int) "goOn" []) {v0 : Option Nat} {v1 : Int32} {v2 : Int32} {v3 : Int32} {v4 : Option Nat} {w : wv_W} (hv : vc_X2_goOn_0 G fr P v0 v1 v2 v3 v4 w) : wv_J G p e R s m args below meth c 7 P w 0 [(0, va_rf v0), (1, .int v1), (2, .int v2), (3, .int v3), (4, va_rf v4)] [] := by
  intro H locs cells slots ls S hl
  unfold vc_X2_goOn_0 at hv
  refine lv_iload_n X.hx X.hb dX2_goOn_0 rfl (lv_at hl 2 rfl) ?_
  refine lv_istore X.hx X.hb (i := 5) (lv' := [(5, .int v2), (0, va_rf v0), (1, .int v1), (2, .int v2), (3, .int v3), (4, va_rf v4)]) dX2_goOn_1 hl (by decide) (by simp [wv_rfc, wv_kI, wv_kJ, wv_kF, wv_kD]) (fun ls hl => ?_)
  exact wv_loop (A := (Option Nat) × Int32 × Int32 × (Option Nat) × Int32) (fun a w => wv_J G p e R s m args below meth c 7 P w 3 [(0, va_rf a.1), (1, .int a.2.1), (3, .int a.2.2.1), (4, va_rf a.2.2.2.1), (5, .int a.2.2.2.2)] []) (fun K3 hK3 a w hv => wk_X2_goOn_3 X hK3 hv) hv H locs cells slots ls S (lv_sub hl [1, 2, 4, 5, 0] rfl)
theorem wk_X2_goOn {G : wv_G} (hG : wv_G0 G) {v0 : Option Nat} {v1 : Int32} {v2 : Int32} {v3 : Int32} {v4 : Option Nat} {h : wv_H} {fr kc ks : Nat} {P : wv_R → wv_H → Prop} (hv : vc_X2_goOn_0 G fr P v0 v1 v2 v3 v4 (h, kc, ks)) : wv_C G yX2_goOn [va_rf v0, .int v1, .int v2, .int v3, va_rf v4] h fr kc ks P := by
  refine wv_enter (lv := [(0, va_rf v0), (1, .int v1), (2, .int v2), (3, .int v3), (4, va_rf v4)]) hG (by decide +kernel) q1174 (by decide) (by simp [lg_sl, wv_rfc, wv_kI, wv_kJ, wv_kF, wv_kD]) (by simp [lv_args, wv_rfc, wv_kI, wv_kJ, wv_kF, wv_kD]) ?_
  intro p e R s m args below meth c X H locs cells slots ls S hl
  exact wk_X2_goOn_0 X hv H locs cells slots ls S (lv_sub hl [0, 1, 2, 3, 4] rfl)

def vc_X2_handled_136 (G : wv_G) (fr : Nat) (P : wv_R → wv_H → Prop) (v0 : Option Nat) (v1 : Option Nat) (v2 : Option Nat) (v5 : Option Nat) (s0 : Option Nat) (w : wv_W) : Prop :=
  wv_gI w v5 ciX23 6 (fun x143 => wv_gA w v1 ciX22 0 (fun x147 => wv_gI w v2 ciX6 0 (fun x154 => 49 ≤ fr ∧ (wv_cV G fr yX2_point v0 [.int (104 : Int32), .int x143, va_rf x147, .int (0 : Int32), va_rf s0, .int x154, va_rf (some (wv_lone G 5))] w (wv_rI (fun x162 w162 => P (.inl (some (.int x162))) w162.1) (wv_pr P))))))
def vc_X2_handled_83 (G : wv_G) (fr : Nat) (P : wv_R → wv_H → Prop) (K83 : ((Option Nat) × (Option Nat) × (Option Nat) × Int32 × (Option Nat) × (Option Nat) × Int32 × Int32 × Int32) → wv_W → Prop) (v0 : Option Nat) (v1 : Option Nat) (v2 : Option Nat) (v3 : Int32) (v5 : Option Nat) (v6 : Option Nat) (v7 : Int32) (v8 : Int32) (v9 : Int32) (w : wv_W) : Prop :=
  (v7 ≤ v9 → wv_gI w v0 ciX2 6 (fun x115 => (x115 = 0 → vc_X2_handled_136 G fr P v0 v1 v2 v5 none w) ∧ (¬ x115 = 0 → wv_gA w v0 ciX2 8 (fun x122 => wv_cV G fr yX1_placeOf x122 [va_rf v2, .int v3, .int v8] w (wv_rA (fun x129 w129 => vc_X2_handled_136 G fr P v0 v1 v2 v5 x129 w129) (wv_pr P)))))) ∧ (¬ v7 ≤ v9 → wv_cV G fr yJ2_get v6 [.int v9] w (wv_rA (fun x96 w96 => wv_cc G w96 x96 "Weaversgate$Step" (wv_cV G fr yX7_places x96 [] w96 (wv_rI (fun x102 w102 => K83 (v0, v1, v2, v3, v5, v6, v7, (v8 + x102), (v9 + (1 : Int32))) w102) (wv_pr P)))) (wv_pr P)))
def vc_X2_handled_69 (G : wv_G) (fr : Nat) (P : wv_R → wv_H → Prop) (v0 : Option Nat) (v1 : Option Nat) (v2 : Option Nat) (v3 : Int32) (v5 : Option Nat) (v6 : Option Nat) (v7 : Int32) (w : wv_W) : Prop :=
  (0 ≤ v7 → wv_L (fun K83 a w => vc_X2_handled_83 G fr P K83 a.1 a.2.1 a.2.2.1 a.2.2.2.1 a.2.2.2.2.1 a.2.2.2.2.2.1 a.2.2.2.2.2.2.1 a.2.2.2.2.2.2.2.1 a.2.2.2.2.2.2.2.2 w) (v0, v1, v2, v3, v5, v6, v7, (1 : Int32), (0 : Int32)) w) ∧ (¬ 0 ≤ v7 → wv_at w v5 (wv_pr P))
def vc_X2_handled_63 (G : wv_G) (fr : Nat) (P : wv_R → wv_H → Prop) (K19 : ((Option Nat) × (Option Nat) × (Option Nat) × Int32 × (Option Nat) × (Option Nat) × Int32) → wv_W → Prop) (v0 : Option Nat) (v1 : Option Nat) (v2 : Option Nat) (v3 : Int32) (v5 : Option Nat) (v6 : Option Nat) (v7 : Int32) (w : wv_W) : Prop :=
  K19 (v0, v1, v2, v3, v5, v6, (v7 + (-1 : Int32))) w
def vc_X2_handled_19 (G : wv_G) (fr : Nat) (P : wv_R → wv_H → Prop) (K19 : ((Option Nat) × (Option Nat) × (Option Nat) × Int32 × (Option Nat) × (Option Nat) × Int32) → wv_W → Prop) (v0 : Option Nat) (v1 : Option Nat) (v2 : Option Nat) (v3 : Int32) (v5 : Option Nat) (v6 : Option Nat) (v7 : Int32) (w : wv_W) : Prop :=
  (v7 < 0 → vc_X2_handled_69 G fr P v0 v1 v2 v3 v5 v6 v7 w) ∧ (¬ v7 < 0 → wv_cV G fr yJ2_get v6 [.int v7] w (wv_rA (fun x28 w28 => wv_cc G w28 x28 "Weaversgate$Step" (wv_gI w28 x28 ciX7 0 (fun x34 => (¬ x34 = (104 : Int32) → vc_X2_handled_63 G fr P K19 v0 v1 v2 v3 v5 v6 v7 w28) ∧ (x34 = (104 : Int32) → wv_gI w28 v5 ciX23 6 (fun x44 => wv_cV G fr yJ2_get v6 [.int v7] w28 (wv_rA (fun x51 w51 => wv_cc G w51 x51 "Weaversgate$Step" (wv_gI w51 x51 ciX7 1 (fun x57 => (x44 ≤ x57 → vc_X2_handled_69 G fr P v0 v1 v2 v3 v5 v6 v7 w51) ∧ (¬ x44 ≤ x57 → vc_X2_handled_63 G fr P K19 v0 v1 v2 v3 v5 v6 v7 w51)))) (wv_pr P))))))) (wv_pr P)))
def vc_X2_handled_0 (G : wv_G) (fr : Nat) (P : wv_R → wv_H → Prop) (v0 : Option Nat) (v1 : Option Nat) (v2 : Option Nat) (v3 : Int32) (v4 : Int32) (v5 : Option Nat) (w : wv_W) : Prop :=
  wv_gA w v2 ciX6 2 (fun x1 => wv_cV G fr yJ2_get x1 [.int v3] w (wv_rA (fun x5 w5 => wv_cc G w5 x5 "java/util/ArrayList" (wv_L (fun K19 a w => vc_X2_handled_19 G fr P K19 a.1 a.2.1 a.2.2.1 a.2.2.2.1 a.2.2.2.2.1 a.2.2.2.2.2.1 a.2.2.2.2.2.2 w) (v0, v1, v2, v3, v5, x5, (v4 - (1 : Int32))) w5)) (wv_pr P)))
set_option maxHeartbeats 4000000 in
theorem wk_X2_handled_136 {G : wv_G} {p : Program} {e : Env} {R : Room} {s : State} {m : MethodId} {args : Array Value} {below : List Frame} {meth : Method} {c : Code} {fr : Nat} {P : wv_R → wv_H → Prop} (X : wv_ok G p R s m args meth c fr "Weaversgate$Run" cX2_handled 10 (Option.some Jvm.ClassFile.FieldType.int) "handled" []) {v0 : Option Nat} {v1 : Option Nat} {v2 : Option Nat} {v5 : Option Nat} {s0 : Option Nat} {w : wv_W} (hv : vc_X2_handled_136 G fr P v0 v1 v2 v5 s0 w) : wv_J G p e R s m args below meth c 10 P w 136 [(0, va_rf v0), (1, va_rf v1), (2, va_rf v2), (5, va_rf v5)] [va_rf s0] := by
  intro H locs cells slots ls S hl
  unfold vc_X2_handled_136 at hv
  refine wq_astore X (i := 9) (lv' := [(9, va_rf s0), (0, va_rf v0), (1, va_rf v1), (2, va_rf v2), (5, va_rf v5)]) dX2_handled_136 hl (by decide) rfl (fun ls hl => ?_)
  refine wq_aload_n X dX2_handled_138 rfl (lv_at hl 1 rfl) ?_
  refine lv_bipush (v := (104 : Int32)) X.hx X.hb dX2_handled_139 (by decide) ?_
  refine wq_aload X dX2_handled_141 (lv_at hl 4 rfl) ?_
  refine wq_gIN X S hv ccX23 in_X23 (k := 6) (by decide) q995 dX2_handled_143 (fun x143 hv => ?_)
  refine wq_aload_n X dX2_handled_146 rfl (lv_at hl 2 rfl) ?_
  refine wq_gAN X S hv ccX22 in_X22 (k := 0) (by decide) q959 dX2_handled_147 (fun x147 hv => ?_)
  refine lv_iconst (v := (0 : Int32)) X.hx X.hb dX2_handled_150 (by decide) ?_
  refine wq_aload X dX2_handled_151 (lv_at hl 0 rfl) ?_
  refine wq_aload_n X dX2_handled_153 rfl (lv_at hl 3 rfl) ?_
  refine wq_gIN X S hv ccX6 in_X6 (k := 0) (by decide) q1290 dX2_handled_154 (fun x154 hv => ?_)
  refine wq_lam0 X S (j := 5) (d := "(LWeaversgate$Thing;LWeaversgate$Type;IILWeaversgate$Thrown;)I") (sh := wm5_sh) hv (by decide) rfl wv_ck_handled rfl (by simp [wv_rfc, wv_kI, wv_kJ, wv_kF, wv_kD]) hl.1 dX2_handled_157 (fun hv => ?_)
  refine wq_cV_I X S hv q1027 q1029 qs19 q64 ⟨by decide +kernel, by decide +kernel⟩ (nA := 7) (As := [.int (104 : Int32), .int x143, va_rf x147, .int (0 : Int32), va_rf s0, .int x154, va_rf (some (wv_lone G 5))]) (by decide +kernel) rfl rfl (by simp [wv_rfc, wv_kI, wv_kJ, wv_kF, wv_kD]) hl.1 dX2_handled_162 (fun x162 w162 H locs cells slots S hv => ?_) (wq_kx X rfl)
  exact wr_iret X S rfl hv dX2_handled_165
set_option maxHeartbeats 4000000 in
theorem wk_X2_handled_83 {G : wv_G} {p : Program} {e : Env} {R : Room} {s : State} {m : MethodId} {args : Array Value} {below : List Frame} {meth : Method} {c : Code} {fr : Nat} {P : wv_R → wv_H → Prop} (X : wv_ok G p R s m args meth c fr "Weaversgate$Run" cX2_handled 10 (Option.some Jvm.ClassFile.FieldType.int) "handled" []) {K83 : ((Option Nat) × (Option Nat) × (Option Nat) × Int32 × (Option Nat) × (Option Nat) × Int32 × Int32 × Int32) → wv_W → Prop} (hK83 : ∀ a w, K83 a w → wv_J G p e R s m args below meth c 10 P w 83 [(0, va_rf a.1), (1, va_rf a.2.1), (2, va_rf a.2.2.1), (3, .int a.2.2.2.1), (5, va_rf a.2.2.2.2.1), (6, va_rf a.2.2.2.2.2.1), (7, .int a.2.2.2.2.2.2.1), (8, .int a.2.2.2.2.2.2.2.1), (9, .int a.2.2.2.2.2.2.2.2)] []) {v0 : Option Nat} {v1 : Option Nat} {v2 : Option Nat} {v3 : Int32} {v5 : Option Nat} {v6 : Option Nat} {v7 : Int32} {v8 : Int32} {v9 : Int32} {w : wv_W} (hv : vc_X2_handled_83 G fr P K83 v0 v1 v2 v3 v5 v6 v7 v8 v9 w) : wv_J G p e R s m args below meth c 10 P w 83 [(0, va_rf v0), (1, va_rf v1), (2, va_rf v2), (3, .int v3), (5, va_rf v5), (6, va_rf v6), (7, .int v7), (8, .int v8), (9, .int v9)] [] := by
  intro H locs cells slots ls S hl
  unfold vc_X2_handled_83 at hv
  refine lv_iload X.hx X.hb dX2_handled_83 (lv_at hl 8 rfl) ?_
  refine lv_iload X.hx X.hb dX2_handled_85 (lv_at hl 6 rfl) ?_
  refine lv_icmp_ge (tgt := 114) X.hx X.hb dX2_handled_87 (by decide) (fun c87 => ?_) (fun c87 => ?_)
  · have hv := hv.1 c87
    refine wq_aload_n X dX2_handled_114 rfl (lv_at hl 0 rfl) ?_
    refine wq_gI X S hv ccX2 in_X2 (k := 6) (by decide) q202 dX2_handled_115 (fun x115 hv => ?_)
    refine lv_if_eq (tgt := 135) X.hx X.hb dX2_handled_118 (by decide) (fun c118 => ?_) (fun c118 => ?_)
    · have hv := hv.1 c118
      refine wq_null (k := 0) X S dX2_handled_135 ?_
      exact wk_X2_handled_136 X  hv H locs cells slots ls S (lv_sub hl [0, 1, 2, 4] rfl)
    · have hv := hv.2 c118
      refine wq_aload_n X dX2_handled_121 rfl (lv_at hl 0 rfl) ?_
      refine wq_gA X S hv ccX2 in_X2 (k := 8) (by decide) q204 dX2_handled_122 (fun x122 hv => ?_)
      refine wq_aload_n X dX2_handled_125 rfl (lv_at hl 2 rfl) ?_
      refine lv_iload_n X.hx X.hb dX2_handled_126 rfl (lv_at hl 3 rfl) ?_
      refine lv_iload X.hx X.hb dX2_handled_127 (lv_at hl 7 rfl) ?_
      refine wq_cVN_A X S hv q1000 q702 qs5 q703 q60 ⟨by decide +kernel, by decide +kernel⟩ (nA := 3) (As := [va_rf v2, .int v3, .int v8]) (by decide +kernel) rfl rfl (by simp [wv_rfc, wv_kI, wv_kJ, wv_kF, wv_kD]) hl.1 dX2_handled_129 (fun x129 w129 H locs cells slots S hv => ?_) (wq_kx X rfl)
      refine lv_goto (tgt := 136) X.hx X.hb dX2_handled_132 (by decide) ?_
      exact wk_X2_handled_136 X  hv H locs cells slots ls S (lv_sub hl [0, 1, 2, 4] rfl)
  · have hv := hv.2 c87
    refine lv_iload X.hx X.hb dX2_handled_90 (lv_at hl 7 rfl) ?_
    refine wq_aload X dX2_handled_92 (lv_at hl 5 rfl) ?_
    refine lv_iload X.hx X.hb dX2_handled_94 (lv_at hl 8 rfl) ?_
    refine wq_cV_A X S hv q951 q274 q275 q63 ⟨by decide +kernel, by decide +kernel⟩ (nA := 1) (As := [.int v9]) (by decide +kernel) rfl rfl (by simp [wv_rfc, wv_kI, wv_kJ, wv_kF, wv_kD]) hl.1 dX2_handled_96 (fun x96 w96 H locs cells slots S hv => ?_) (wq_kx X rfl)
    refine wq_cc X S hv q1009 dX2_handled_99 (fun hv => ?_)
    refine wq_cV_I X S hv q1014 q304 q305 q83 ⟨by decide +kernel, by decide +kernel⟩ (nA := 0) (As := []) (by decide +kernel) rfl rfl (by simp [wv_rfc, wv_kI, wv_kJ, wv_kF, wv_kD]) hl.1 dX2_handled_102 (fun x102 w102 H locs cells slots S hv => ?_) (wq_kx X rfl)
    refine lv_iadd X.hx X.hb dX2_handled_105 ?_
    refine lv_istore X.hx X.hb (i := 8) (lv' := [(8, .int (v8 + x102)), (0, va_rf v0), (1, va_rf v1), (2, va_rf v2), (3, .int v3), (5, va_rf v5), (6, va_rf v6), (7, .int v7), (9, .int v9)]) dX2_handled_106 hl (by decide) (by simp [wv_rfc, wv_kI, wv_kJ, wv_kF, wv_kD]) (fun ls hl => ?_)
    refine lv_iinc (v := (v9 + (1 : Int32))) (lv' := [(9, .int (v9 + (1 : Int32))), (8, .int (v8 + x102)), (0, va_rf v0), (1, va_rf v1), (2, va_rf v2), (3, .int v3), (5, va_rf v5), (6, va_rf v6), (7, .int v7)]) X.hx X.hb dX2_handled_108 hl (k := 8) rfl (by rfl) (by decide) (by simp [wv_rfc, wv_kI, wv_kJ, wv_kF, wv_kD]) (fun ls hl => ?_)
    refine lv_goto (tgt := 83) X.hx X.hb dX2_handled_111 (by decide) ?_
    exact hK83 _ _ hv H locs cells slots ls S (lv_sub hl [2, 3, 4, 5, 6, 7, 8, 1, 0] rfl)
set_option maxHeartbeats 4000000 in
theorem wk_X2_handled_69 {G : wv_G} {p : Program} {e : Env} {R : Room} {s : State} {m : MethodId} {args : Array Value} {below : List Frame} {meth : Method} {c : Code} {fr : Nat} {P : wv_R → wv_H → Prop} (X : wv_ok G p R s m args meth c fr "Weaversgate$Run" cX2_handled 10 (Option.some Jvm.ClassFile.FieldType.int) "handled" []) {v0 : Option Nat} {v1 : Option Nat} {v2 : Option Nat} {v3 : Int32} {v5 : Option Nat} {v6 : Option Nat} {v7 : Int32} {w : wv_W} (hv : vc_X2_handled_69 G fr P v0 v1 v2 v3 v5 v6 v7 w) : wv_J G p e R s m args below meth c 10 P w 69 [(0, va_rf v0), (1, va_rf v1), (2, va_rf v2), (3, .int v3), (5, va_rf v5), (6, va_rf v6), (7, .int v7)] [] := by
  intro H locs cells slots ls S hl
  unfold vc_X2_handled_69 at hv
  refine lv_iload X.hx X.hb dX2_handled_69 (lv_at hl 6 rfl) ?_
  refine lv_if_ge (tgt := 77) X.hx X.hb dX2_handled_71 (by decide) (fun c71 => ?_) (fun c71 => ?_)
  · have hv := hv.1 c71
    refine lv_iconst (v := (1 : Int32)) X.hx X.hb dX2_handled_77 (by decide) ?_
    refine lv_istore X.hx X.hb (i := 8) (lv' := [(8, .int (1 : Int32)), (0, va_rf v0), (1, va_rf v1), (2, va_rf v2), (3, .int v3), (5, va_rf v5), (6, va_rf v6), (7, .int v7)]) dX2_handled_78 hl (by decide) (by simp [wv_rfc, wv_kI, wv_kJ, wv_kF, wv_kD]) (fun ls hl => ?_)
    refine lv_iconst (v := (0 : Int32)) X.hx X.hb dX2_handled_80 (by decide) ?_
    refine lv_istore X.hx X.hb (i := 9) (lv' := [(9, .int (0 : Int32)), (8, .int (1 : Int32)), (0, va_rf v0), (1, va_rf v1), (2, va_rf v2), (3, .int v3), (5, va_rf v5), (6, va_rf v6), (7, .int v7)]) dX2_handled_81 hl (by decide) (by simp [wv_rfc, wv_kI, wv_kJ, wv_kF, wv_kD]) (fun ls hl => ?_)
    exact wv_loop (A := (Option Nat) × (Option Nat) × (Option Nat) × Int32 × (Option Nat) × (Option Nat) × Int32 × Int32 × Int32) (fun a w => wv_J G p e R s m args below meth c 10 P w 83 [(0, va_rf a.1), (1, va_rf a.2.1), (2, va_rf a.2.2.1), (3, .int a.2.2.2.1), (5, va_rf a.2.2.2.2.1), (6, va_rf a.2.2.2.2.2.1), (7, .int a.2.2.2.2.2.2.1), (8, .int a.2.2.2.2.2.2.2.1), (9, .int a.2.2.2.2.2.2.2.2)] []) (fun K83 hK83 a w hv => wk_X2_handled_83 X hK83 hv) hv H locs cells slots ls S (lv_sub hl [2, 3, 4, 5, 6, 7, 8, 1, 0] rfl)
  · have hv := hv.2 c71
    refine wq_aload X dX2_handled_74 (lv_at hl 4 rfl) ?_
    exact wq_athrow X S hv dX2_handled_76 (wq_kx X rfl)
set_option maxHeartbeats 4000000 in
theorem wk_X2_handled_63 {G : wv_G} {p : Program} {e : Env} {R : Room} {s : State} {m : MethodId} {args : Array Value} {below : List Frame} {meth : Method} {c : Code} {fr : Nat} {P : wv_R → wv_H → Prop} (X : wv_ok G p R s m args meth c fr "Weaversgate$Run" cX2_handled 10 (Option.some Jvm.ClassFile.FieldType.int) "handled" []) {K19 : ((Option Nat) × (Option Nat) × (Option Nat) × Int32 × (Option Nat) × (Option Nat) × Int32) → wv_W → Prop} (hK19 : ∀ a w, K19 a w → wv_J G p e R s m args below meth c 10 P w 19 [(0, va_rf a.1), (1, va_rf a.2.1), (2, va_rf a.2.2.1), (3, .int a.2.2.2.1), (5, va_rf a.2.2.2.2.1), (6, va_rf a.2.2.2.2.2.1), (7, .int a.2.2.2.2.2.2)] []) {v0 : Option Nat} {v1 : Option Nat} {v2 : Option Nat} {v3 : Int32} {v5 : Option Nat} {v6 : Option Nat} {v7 : Int32} {w : wv_W} (hv : vc_X2_handled_63 G fr P K19 v0 v1 v2 v3 v5 v6 v7 w) : wv_J G p e R s m args below meth c 10 P w 63 [(0, va_rf v0), (1, va_rf v1), (2, va_rf v2), (3, .int v3), (5, va_rf v5), (6, va_rf v6), (7, .int v7)] [] := by
  intro H locs cells slots ls S hl
  unfold vc_X2_handled_63 at hv
  refine lv_iinc (v := (v7 + (-1 : Int32))) (lv' := [(7, .int (v7 + (-1 : Int32))), (0, va_rf v0), (1, va_rf v1), (2, va_rf v2), (3, .int v3), (5, va_rf v5), (6, va_rf v6)]) X.hx X.hb dX2_handled_63 hl (k := 6) rfl (by rfl) (by decide) (by simp [wv_rfc, wv_kI, wv_kJ, wv_kF, wv_kD]) (fun ls hl => ?_)
  refine lv_goto (tgt := 19) X.hx X.hb dX2_handled_66 (by decide) ?_
  exact hK19 _ _ hv H locs cells slots ls S (lv_sub hl [1, 2, 3, 4, 5, 6, 0] rfl)
set_option maxHeartbeats 4000000 in
theorem wk_X2_handled_19 {G : wv_G} {p : Program} {e : Env} {R : Room} {s : State} {m : MethodId} {args : Array Value} {below : List Frame} {meth : Method} {c : Code} {fr : Nat} {P : wv_R → wv_H → Prop} (X : wv_ok G p R s m args meth c fr "Weaversgate$Run" cX2_handled 10 (Option.some Jvm.ClassFile.FieldType.int) "handled" []) {K19 : ((Option Nat) × (Option Nat) × (Option Nat) × Int32 × (Option Nat) × (Option Nat) × Int32) → wv_W → Prop} (hK19 : ∀ a w, K19 a w → wv_J G p e R s m args below meth c 10 P w 19 [(0, va_rf a.1), (1, va_rf a.2.1), (2, va_rf a.2.2.1), (3, .int a.2.2.2.1), (5, va_rf a.2.2.2.2.1), (6, va_rf a.2.2.2.2.2.1), (7, .int a.2.2.2.2.2.2)] []) {v0 : Option Nat} {v1 : Option Nat} {v2 : Option Nat} {v3 : Int32} {v5 : Option Nat} {v6 : Option Nat} {v7 : Int32} {w : wv_W} (hv : vc_X2_handled_19 G fr P K19 v0 v1 v2 v3 v5 v6 v7 w) : wv_J G p e R s m args below meth c 10 P w 19 [(0, va_rf v0), (1, va_rf v1), (2, va_rf v2), (3, .int v3), (5, va_rf v5), (6, va_rf v6), (7, .int v7)] [] := by
  intro H locs cells slots ls S hl
  unfold vc_X2_handled_19 at hv
  refine lv_iload X.hx X.hb dX2_handled_19 (lv_at hl 6 rfl) ?_
  refine lv_if_lt (tgt := 69) X.hx X.hb dX2_handled_21 (by decide) (fun c21 => ?_) (fun c21 => ?_)
  · have hv := hv.1 c21
    exact wk_X2_handled_69 X  hv H locs cells slots ls S (lv_sub hl [0, 1, 2, 3, 4, 5, 6] rfl)
  · have hv := hv.2 c21
    refine wq_aload X dX2_handled_24 (lv_at hl 5 rfl) ?_
    refine lv_iload X.hx X.hb dX2_handled_26 (lv_at hl 6 rfl) ?_
    refine wq_cV_A X S hv q951 q274 q275 q63 ⟨by decide +kernel, by decide +kernel⟩ (nA := 1) (As := [.int v7]) (by decide +kernel) rfl rfl (by simp [wv_rfc, wv_kI, wv_kJ, wv_kF, wv_kD]) hl.1 dX2_handled_28 (fun x28 w28 H locs cells slots S hv => ?_) (wq_kx X rfl)
    refine wq_cc X S hv q1009 dX2_handled_31 (fun hv => ?_)
    refine wq_gIN X S hv ccX7 in_X7 (k := 0) (by decide) q1344 dX2_handled_34 (fun x34 hv => ?_)
    refine lv_bipush (v := (104 : Int32)) X.hx X.hb dX2_handled_37 (by decide) ?_
    refine lv_icmp_ne (tgt := 63) X.hx X.hb dX2_handled_39 (by decide) (fun c39 => ?_) (fun c39 => ?_)
    · have hv := hv.1 c39
      exact wk_X2_handled_63 X hK19 hv H locs cells slots ls S (lv_sub hl [0, 1, 2, 3, 4, 5, 6] rfl)
    · have hv := hv.2 c39
      refine wq_aload X dX2_handled_42 (lv_at hl 4 rfl) ?_
      refine wq_gIN X S hv ccX23 in_X23 (k := 6) (by decide) q995 dX2_handled_44 (fun x44 hv => ?_)
      refine wq_aload X dX2_handled_47 (lv_at hl 5 rfl) ?_
      refine lv_iload X.hx X.hb dX2_handled_49 (lv_at hl 6 rfl) ?_
      refine wq_cV_A X S hv q951 q274 q275 q63 ⟨by decide +kernel, by decide +kernel⟩ (nA := 1) (As := [.int v7]) (by decide +kernel) rfl rfl (by simp [wv_rfc, wv_kI, wv_kJ, wv_kF, wv_kD]) hl.1 dX2_handled_51 (fun x51 w51 H locs cells slots S hv => ?_) (wq_kx X rfl)
      refine wq_cc X S hv q1009 dX2_handled_54 (fun hv => ?_)
      refine wq_gIN X S hv ccX7 in_X7 (k := 1) (by decide) q1347 dX2_handled_57 (fun x57 hv => ?_)
      refine lv_icmp_le (tgt := 69) X.hx X.hb dX2_handled_60 (by decide) (fun c60 => ?_) (fun c60 => ?_)
      · have hv := hv.1 c60
        exact wk_X2_handled_69 X  hv H locs cells slots ls S (lv_sub hl [0, 1, 2, 3, 4, 5, 6] rfl)
      · have hv := hv.2 c60
        exact wk_X2_handled_63 X hK19 hv H locs cells slots ls S (lv_sub hl [0, 1, 2, 3, 4, 5, 6] rfl)
set_option maxHeartbeats 4000000 in
theorem wk_X2_handled_0 {G : wv_G} {p : Program} {e : Env} {R : Room} {s : State} {m : MethodId} {args : Array Value} {below : List Frame} {meth : Method} {c : Code} {fr : Nat} {P : wv_R → wv_H → Prop} (X : wv_ok G p R s m args meth c fr "Weaversgate$Run" cX2_handled 10 (Option.some Jvm.ClassFile.FieldType.int) "handled" []) {v0 : Option Nat} {v1 : Option Nat} {v2 : Option Nat} {v3 : Int32} {v4 : Int32} {v5 : Option Nat} {w : wv_W} (hv : vc_X2_handled_0 G fr P v0 v1 v2 v3 v4 v5 w) : wv_J G p e R s m args below meth c 10 P w 0 [(0, va_rf v0), (1, va_rf v1), (2, va_rf v2), (3, .int v3), (4, .int v4), (5, va_rf v5)] [] := by
  intro H locs cells slots ls S hl
  unfold vc_X2_handled_0 at hv
  refine wq_aload_n X dX2_handled_0 rfl (lv_at hl 2 rfl) ?_
  refine wq_gAN X S hv ccX6 in_X6 (k := 2) (by decide) q1294 dX2_handled_1 (fun x1 hv => ?_)
  refine lv_iload_n X.hx X.hb dX2_handled_4 rfl (lv_at hl 3 rfl) ?_
  refine wq_cV_A X S hv q951 q274 q275 q63 ⟨by decide +kernel, by decide +kernel⟩ (nA := 1) (As := [.int v3]) (by decide +kernel) rfl rfl (by simp [wv_rfc, wv_kI, wv_kJ, wv_kF, wv_kD]) hl.1 dX2_handled_5 (fun x5 w5 H locs cells slots S hv => ?_) (wq_kx X rfl)
  refine wq_cc X S hv q1008 dX2_handled_8 (fun hv => ?_)
  refine wq_astore X (i := 6) (lv' := [(6, va_rf x5), (0, va_rf v0), (1, va_rf v1), (2, va_rf v2), (3, .int v3), (4, .int v4), (5, va_rf v5)]) dX2_handled_11 hl (by decide) (by simp [wv_rfc, wv_kI, wv_kJ, wv_kF, wv_kD]) (fun ls hl => ?_)
  refine lv_iload X.hx X.hb dX2_handled_13 (lv_at hl 5 rfl) ?_
  refine lv_iconst (v := (1 : Int32)) X.hx X.hb dX2_handled_15 (by decide) ?_
  refine lv_isub X.hx X.hb dX2_handled_16 ?_
  refine lv_istore X.hx X.hb (i := 7) (lv' := [(7, .int (v4 - (1 : Int32))), (6, va_rf x5), (0, va_rf v0), (1, va_rf v1), (2, va_rf v2), (3, .int v3), (4, .int v4), (5, va_rf v5)]) dX2_handled_17 hl (by decide) (by simp [wv_rfc, wv_kI, wv_kJ, wv_kF, wv_kD]) (fun ls hl => ?_)
  exact wv_loop (A := (Option Nat) × (Option Nat) × (Option Nat) × Int32 × (Option Nat) × (Option Nat) × Int32) (fun a w => wv_J G p e R s m args below meth c 10 P w 19 [(0, va_rf a.1), (1, va_rf a.2.1), (2, va_rf a.2.2.1), (3, .int a.2.2.2.1), (5, va_rf a.2.2.2.2.1), (6, va_rf a.2.2.2.2.2.1), (7, .int a.2.2.2.2.2.2)] []) (fun K19 hK19 a w hv => wk_X2_handled_19 X hK19 hv) hv H locs cells slots ls S (lv_sub hl [2, 3, 4, 5, 7, 1, 0] rfl)
theorem wk_X2_handled {G : wv_G} (hG : wv_G0 G) {v0 : Option Nat} {v1 : Option Nat} {v2 : Option Nat} {v3 : Int32} {v4 : Int32} {v5 : Option Nat} {h : wv_H} {fr kc ks : Nat} {P : wv_R → wv_H → Prop} (hv : vc_X2_handled_0 G fr P v0 v1 v2 v3 v4 v5 (h, kc, ks)) : wv_C G yX2_handled [va_rf v0, va_rf v1, va_rf v2, .int v3, .int v4, va_rf v5] h fr kc ks P := by
  refine wv_enter (lv := [(0, va_rf v0), (1, va_rf v1), (2, va_rf v2), (3, .int v3), (4, .int v4), (5, va_rf v5)]) hG (by decide +kernel) q1205 (by decide) (by simp [lg_sl, wv_rfc, wv_kI, wv_kJ, wv_kF, wv_kD]) (by simp [lv_args, wv_rfc, wv_kI, wv_kJ, wv_kF, wv_kD]) ?_
  intro p e R s m args below meth c X H locs cells slots ls S hl
  exact wk_X2_handled_0 X hv H locs cells slots ls S (lv_sub hl [0, 1, 2, 3, 4, 5] rfl)

def vc_X2_init_0 (G : wv_G) (fr : Nat) (P : wv_R → wv_H → Prop) (v0 : Option Nat) (v1 : Option Nat) (w : wv_W) : Prop :=
  wv_pt w v0 ciX2 8 (va_rf v1) (fun w2 => (∃ a, v0 = some a) ∧ 1 ≤ fr ∧ (wv_no G w2 (wo_o ciX3 [va_rf none, va_rf none, va_rf none, .int 0]) 4 (fun a10 w10 => wv_cI G fr yX3_init (some a10) [] w10 (wv_rV (fun w14 => wv_pt w14 v0 ciX2 0 (va_rf (some a10)) (fun w17 => wv_na G w17 (12 : Int32) (fun N => wo_q (wv_A G 6) N (fun _ => none)) (fun a23 w23 => wv_pt w23 v0 ciX2 1 (va_rf (some a23)) (fun w26 => wv_fit .char (45 : Int32) ∧ wv_pt w26 v0 ciX2 2 (.int (45 : Int32)) (fun w32 => P (.inl none) w32.1))))) (wv_pr P)))))
set_option maxHeartbeats 4000000 in
theorem wk_X2_init_0 {G : wv_G} {p : Program} {e : Env} {R : Room} {s : State} {m : MethodId} {args : Array Value} {below : List Frame} {meth : Method} {c : Code} {fr : Nat} {P : wv_R → wv_H → Prop} (X : wv_ok G p R s m args meth c fr "Weaversgate$Run" cX2_init 2 (Option.none : Option Jvm.ClassFile.FieldType) "<init>" []) {v0 : Option Nat} {v1 : Option Nat} {w : wv_W} (hv : vc_X2_init_0 G fr P v0 v1 w) : wv_J G p e R s m args below meth c 2 P w 0 [(0, va_rf v0), (1, va_rf v1)] [] := by
  intro H locs cells slots ls S hl
  unfold vc_X2_init_0 at hv
  refine wq_aload_n X dX2_init_0 rfl (lv_at hl 0 rfl) ?_
  refine wq_aload_n X dX2_init_1 rfl (lv_at hl 1 rfl) ?_
  refine wq_ptF X S hv tyX2 tyX2_ok nmX2 ccX2 in_X2 (k := 8) (by decide) q204 rfl rfl rfl (wv_fnA (Or.inl ⟨_, rfl⟩)).1 (wv_fnA (Or.inl ⟨_, rfl⟩)).2 dX2_init_2 (fun w2 H locs S hv => ?_)
  refine wq_aload_n X dX2_init_5 rfl (lv_at hl 0 rfl) ?_
  obtain ⟨⟨_, hr⟩, h1, hv⟩ := hv
  refine wq_objInit X hr q163 q125 q126 h1 (by simp [wv_rfc, wv_kI, wv_kJ, wv_kF, wv_kD]) hl.1 dX2_init_6 ?_
  refine wq_aload_n X dX2_init_9 rfl (lv_at hl 0 rfl) ?_
  refine wq_new X S hv tyX3 tyX3_ok ccX3 in_X3 q164 q165 q65 (fun j hj => by have hj : j < 4 := hj; rcases (show j = 0 ∨ j = 1 ∨ j = 2 ∨ j = 3 by omega) with rfl | rfl | rfl | rfl <;> rfl) dX2_init_10 (fun a10 w10 H cells slots S hv => ?_)
  refine lv_dup X.hx X.hb dX2_init_13 (wv_rfc _) ?_
  refine wq_cIN_V X S hv rfl q166 q167 q168 q65 ⟨by decide +kernel, by decide +kernel⟩ (nA := 0) (As := []) (by decide +kernel) rfl rfl (by simp [wv_rfc, wv_kI, wv_kJ, wv_kF, wv_kD]) hl.1 dX2_init_14 (fun w14 H locs cells slots S hv => ?_) (wq_kx X rfl)
  refine wq_ptF X S hv tyX2 tyX2_ok nmX2 ccX2 in_X2 (k := 0) (by decide) q191 rfl rfl rfl (wv_fnA (Or.inl ⟨_, rfl⟩)).1 (wv_fnA (Or.inl ⟨_, rfl⟩)).2 dX2_init_17 (fun w17 H locs S hv => ?_)
  refine wq_aload_n X dX2_init_20 rfl (lv_at hl 0 rfl) ?_
  refine lv_bipush (v := (12 : Int32)) X.hx X.hb dX2_init_21 (by decide) ?_
  refine wq_nwq6 X S hv q189 q190 dX2_init_23 (fun a23 w23 H cells slots S hv => ?_)
  refine wq_ptF X S hv tyX2 tyX2_ok nmX2 ccX2 in_X2 (k := 1) (by decide) q193 rfl rfl rfl (wv_fnA (Or.inr ⟨_, rfl⟩)).1 (wv_fnA (Or.inr ⟨_, rfl⟩)).2 dX2_init_26 (fun w26 H locs S hv => ?_)
  refine wq_aload_n X dX2_init_29 rfl (lv_at hl 0 rfl) ?_
  refine lv_bipush (v := (45 : Int32)) X.hx X.hb dX2_init_30 (by decide) ?_
  have hv32 := hv.1
  have hv := hv.2
  refine wq_pt X S hv tyX2 tyX2_ok nmX2 ccX2 in_X2 (k := 2) (by decide) q194 rfl rfl hv32.1 hv32.2 dX2_init_32 (fun w32 H locs S hv => ?_)
  exact wr_vret X S hv dX2_init_35
theorem wk_X2_init {G : wv_G} (hG : wv_G0 G) {v0 : Option Nat} {v1 : Option Nat} {h : wv_H} {fr kc ks : Nat} {P : wv_R → wv_H → Prop} (hv : vc_X2_init_0 G fr P v0 v1 (h, kc, ks)) : wv_C G yX2_init [va_rf v0, va_rf v1] h fr kc ks P := by
  refine wv_enter (lv := [(0, va_rf v0), (1, va_rf v1)]) hG (by decide +kernel) q162 (by decide) (by simp [lg_sl, wv_rfc, wv_kI, wv_kJ, wv_kF, wv_kD]) (by simp [lv_args, wv_rfc, wv_kI, wv_kJ, wv_kF, wv_kD]) ?_
  intro p e R s m args below meth c X H locs cells slots ls S hl
  exact wk_X2_init_0 X hv H locs cells slots ls S (lv_sub hl [0, 1] rfl)

def vc_X2_lambda_body_1_0 (G : wv_G) (fr : Nat) (P : wv_R → wv_H → Prop) (v0 : Option Nat) (v1 : Option Nat) (v2 : Option Nat) (v3 : Int32) (v4 : Int32) (w : wv_W) : Prop :=
  wv_cV G fr yX2_steps v0 [va_rf v1, va_rf v2, .int v3, .int v4] w (wv_rI (fun x6 w6 => P (.inl (some (.int x6))) w6.1) (wv_pr P))
set_option maxHeartbeats 4000000 in
theorem wk_X2_lambda_body_1_0 {G : wv_G} {p : Program} {e : Env} {R : Room} {s : State} {m : MethodId} {args : Array Value} {below : List Frame} {meth : Method} {c : Code} {fr : Nat} {P : wv_R → wv_H → Prop} (X : wv_ok G p R s m args meth c fr "Weaversgate$Run" cX2_lambda_body_1 5 (Option.some Jvm.ClassFile.FieldType.int) "lambda$body$1" []) {v0 : Option Nat} {v1 : Option Nat} {v2 : Option Nat} {v3 : Int32} {v4 : Int32} {w : wv_W} (hv : vc_X2_lambda_body_1_0 G fr P v0 v1 v2 v3 v4 w) : wv_J G p e R s m args below meth c 5 P w 0 [(0, va_rf v0), (1, va_rf v1), (2, va_rf v2), (3, .int v3), (4, .int v4)] [] := by
  intro H locs cells slots ls S hl
  unfold vc_X2_lambda_body_1_0 at hv
  refine wq_aload_n X dX2_lambda_body_1_0 rfl (lv_at hl 0 rfl) ?_
  refine wq_aload_n X dX2_lambda_body_1_1 rfl (lv_at hl 1 rfl) ?_
  refine wq_aload_n X dX2_lambda_body_1_2 rfl (lv_at hl 2 rfl) ?_
  refine lv_iload_n X.hx X.hb dX2_lambda_body_1_3 rfl (lv_at hl 3 rfl) ?_
  refine lv_iload X.hx X.hb dX2_lambda_body_1_4 (lv_at hl 4 rfl) ?_
  refine wq_cV_I X S hv q1004 q1006 qs17 q64 ⟨by decide +kernel, by decide +kernel⟩ (nA := 4) (As := [va_rf v1, va_rf v2, .int v3, .int v4]) (by decide +kernel) rfl rfl (by simp [wv_rfc, wv_kI, wv_kJ, wv_kF, wv_kD]) hl.1 dX2_lambda_body_1_6 (fun x6 w6 H locs cells slots S hv => ?_) (wq_kx X rfl)
  exact wr_iret X S rfl hv dX2_lambda_body_1_9
theorem wk_X2_lambda_body_1 {G : wv_G} (hG : wv_G0 G) {v0 : Option Nat} {v1 : Option Nat} {v2 : Option Nat} {v3 : Int32} {v4 : Int32} {h : wv_H} {fr kc ks : Nat} {P : wv_R → wv_H → Prop} (hv : vc_X2_lambda_body_1_0 G fr P v0 v1 v2 v3 v4 (h, kc, ks)) : wv_C G yX2_lambda_body_1 [va_rf v0, va_rf v1, va_rf v2, .int v3, .int v4] h fr kc ks P := by
  refine wv_enter (lv := [(0, va_rf v0), (1, va_rf v1), (2, va_rf v2), (3, .int v3), (4, .int v4)]) hG (by decide +kernel) q1003 (by decide) (by simp [lg_sl, wv_rfc, wv_kI, wv_kJ, wv_kF, wv_kD]) (by simp [lv_args, wv_rfc, wv_kI, wv_kJ, wv_kF, wv_kD]) ?_
  intro p e R s m args below meth c X H locs cells slots ls S hl
  exact wk_X2_lambda_body_1_0 X hv H locs cells slots ls S (lv_sub hl [0, 1, 2, 3, 4] rfl)

def vc_X2_lambda_call_0_0 (G : wv_G) (fr : Nat) (P : wv_R → wv_H → Prop) (v0 : Option Nat) (v1 : Option Nat) (v2 : Int32) (v3 : Int32) (w : wv_W) : Prop :=
  wv_cV G fr yX2_body v0 [va_rf v1, .int v2, .int v3] w (wv_rI (fun x4 w4 => P (.inl (some (.int x4))) w4.1) (wv_pr P))
set_option maxHeartbeats 4000000 in
theorem wk_X2_lambda_call_0_0 {G : wv_G} {p : Program} {e : Env} {R : Room} {s : State} {m : MethodId} {args : Array Value} {below : List Frame} {meth : Method} {c : Code} {fr : Nat} {P : wv_R → wv_H → Prop} (X : wv_ok G p R s m args meth c fr "Weaversgate$Run" cX2_lambda_call_0 4 (Option.some Jvm.ClassFile.FieldType.int) "lambda$call$0" []) {v0 : Option Nat} {v1 : Option Nat} {v2 : Int32} {v3 : Int32} {w : wv_W} (hv : vc_X2_lambda_call_0_0 G fr P v0 v1 v2 v3 w) : wv_J G p e R s m args below meth c 4 P w 0 [(0, va_rf v0), (1, va_rf v1), (2, .int v2), (3, .int v3)] [] := by
  intro H locs cells slots ls S hl
  unfold vc_X2_lambda_call_0_0 at hv
  refine wq_aload_n X dX2_lambda_call_0_0 rfl (lv_at hl 0 rfl) ?_
  refine wq_aload_n X dX2_lambda_call_0_1 rfl (lv_at hl 1 rfl) ?_
  refine lv_iload_n X.hx X.hb dX2_lambda_call_0_2 rfl (lv_at hl 2 rfl) ?_
  refine lv_iload_n X.hx X.hb dX2_lambda_call_0_3 rfl (lv_at hl 3 rfl) ?_
  refine wq_cV_I X S hv q974 q976 qs15 q64 ⟨by decide +kernel, by decide +kernel⟩ (nA := 3) (As := [va_rf v1, .int v2, .int v3]) (by decide +kernel) rfl rfl (by simp [wv_rfc, wv_kI, wv_kJ, wv_kF, wv_kD]) hl.1 dX2_lambda_call_0_4 (fun x4 w4 H locs cells slots S hv => ?_) (wq_kx X rfl)
  exact wr_iret X S rfl hv dX2_lambda_call_0_7
theorem wk_X2_lambda_call_0 {G : wv_G} (hG : wv_G0 G) {v0 : Option Nat} {v1 : Option Nat} {v2 : Int32} {v3 : Int32} {h : wv_H} {fr kc ks : Nat} {P : wv_R → wv_H → Prop} (hv : vc_X2_lambda_call_0_0 G fr P v0 v1 v2 v3 (h, kc, ks)) : wv_C G yX2_lambda_call_0 [va_rf v0, va_rf v1, .int v2, .int v3] h fr kc ks P := by
  refine wv_enter (lv := [(0, va_rf v0), (1, va_rf v1), (2, .int v2), (3, .int v3)]) hG (by decide +kernel) q973 (by decide) (by simp [lg_sl, wv_rfc, wv_kI, wv_kJ, wv_kF, wv_kD]) (by simp [lv_args, wv_rfc, wv_kI, wv_kJ, wv_kF, wv_kD]) ?_
  intro p e R s m args below meth c X H locs cells slots ls S hl
  exact wk_X2_lambda_call_0_0 X hv H locs cells slots ls S (lv_sub hl [0, 1, 2, 3] rfl)

def vc_X2_lambda_done_2_0 (G : wv_G) (fr : Nat) (P : wv_R → wv_H → Prop) (v0 : Int32) (w : wv_W) : Prop :=
  P (.inl (some (.int v0))) w.1
set_option maxHeartbeats 4000000 in
theorem wk_X2_lambda_done_2_0 {G : wv_G} {p : Program} {e : Env} {R : Room} {s : State} {m : MethodId} {args : Array Value} {below : List Frame} {meth : Method} {c : Code} {fr : Nat} {P : wv_R → wv_H → Prop} (X : wv_ok G p R s m args meth c fr "Weaversgate$Run" cX2_lambda_done_2 1 (Option.some Jvm.ClassFile.FieldType.int) "lambda$done$2" []) {v0 : Int32} {w : wv_W} (hv : vc_X2_lambda_done_2_0 G fr P v0 w) : wv_J G p e R s m args below meth c 1 P w 0 [(0, .int v0)] [] := by
  intro H locs cells slots ls S hl
  unfold vc_X2_lambda_done_2_0 at hv
  refine lv_iload_n X.hx X.hb dX2_lambda_done_2_0 rfl (lv_at hl 0 rfl) ?_
  exact wr_iret X S rfl hv dX2_lambda_done_2_1
theorem wk_X2_lambda_done_2 {G : wv_G} (hG : wv_G0 G) {v0 : Int32} {h : wv_H} {fr kc ks : Nat} {P : wv_R → wv_H → Prop} (hv : vc_X2_lambda_done_2_0 G fr P v0 (h, kc, ks)) : wv_C G yX2_lambda_done_2 [.int v0] h fr kc ks P := by
  refine wv_enter (lv := [(0, .int v0)]) hG (by decide +kernel) q1026 (by decide) (by simp [lg_sl, wv_rfc, wv_kI, wv_kJ, wv_kF, wv_kD]) (by simp [lv_args, wv_rfc, wv_kI, wv_kJ, wv_kF, wv_kD]) ?_
  intro p e R s m args below meth c X H locs cells slots ls S hl
  exact wk_X2_lambda_done_2_0 X hv H locs cells slots ls S (lv_sub hl [0] rfl)

def vc_X2_lambda_done_3_0 (G : wv_G) (fr : Nat) (P : wv_R → wv_H → Prop) (v0 : Option Nat) (v1 : Option Nat) (v2 : Int32) (w : wv_W) : Prop :=
  wv_gA w v0 ciX22 1 (fun x2 => wv_gI w v1 ciX7 1 (fun x6 => wv_li G 0 w x2 x6 (fun x9 => P (.inl (some (.int (v2 + x9)))) w.1)))
set_option maxHeartbeats 4000000 in
theorem wk_X2_lambda_done_3_0 {G : wv_G} {p : Program} {e : Env} {R : Room} {s : State} {m : MethodId} {args : Array Value} {below : List Frame} {meth : Method} {c : Code} {fr : Nat} {P : wv_R → wv_H → Prop} (X : wv_ok G p R s m args meth c fr "Weaversgate$Run" cX2_lambda_done_3 3 (Option.some Jvm.ClassFile.FieldType.int) "lambda$done$3" []) {v0 : Option Nat} {v1 : Option Nat} {v2 : Int32} {w : wv_W} (hv : vc_X2_lambda_done_3_0 G fr P v0 v1 v2 w) : wv_J G p e R s m args below meth c 3 P w 0 [(0, va_rf v0), (1, va_rf v1), (2, .int v2)] [] := by
  intro H locs cells slots ls S hl
  unfold vc_X2_lambda_done_3_0 at hv
  refine lv_iload_n X.hx X.hb dX2_lambda_done_3_0 rfl (lv_at hl 2 rfl) ?_
  refine wq_aload_n X dX2_lambda_done_3_1 rfl (lv_at hl 0 rfl) ?_
  refine wq_gAN X S hv ccX22 in_X22 (k := 1) (by decide) q961 dX2_lambda_done_3_2 (fun x2 hv => ?_)
  refine wq_aload_n X dX2_lambda_done_3_5 rfl (lv_at hl 1 rfl) ?_
  refine wq_gIN X S hv ccX7 in_X7 (k := 1) (by decide) q1347 dX2_lambda_done_3_6 (fun x6 hv => ?_)
  refine wq_li0 X S hv dX2_lambda_done_3_9 (fun x9 hv => ?_)
  refine lv_iadd X.hx X.hb dX2_lambda_done_3_10 ?_
  exact wr_iret X S rfl hv dX2_lambda_done_3_11
theorem wk_X2_lambda_done_3 {G : wv_G} (hG : wv_G0 G) {v0 : Option Nat} {v1 : Option Nat} {v2 : Int32} {h : wv_H} {fr kc ks : Nat} {P : wv_R → wv_H → Prop} (hv : vc_X2_lambda_done_3_0 G fr P v0 v1 v2 (h, kc, ks)) : wv_C G yX2_lambda_done_3 [va_rf v0, va_rf v1, .int v2] h fr kc ks P := by
  refine wv_enter (lv := [(0, va_rf v0), (1, va_rf v1), (2, .int v2)]) hG (by decide +kernel) q1194 (by decide) (by simp [lg_sl, wv_rfc, wv_kI, wv_kJ, wv_kF, wv_kD]) (by simp [lv_args, wv_rfc, wv_kI, wv_kJ, wv_kF, wv_kD]) ?_
  intro p e R s m args below meth c X H locs cells slots ls S hl
  exact wk_X2_lambda_done_3_0 X hv H locs cells slots ls S (lv_sub hl [0, 1, 2] rfl)

def vc_X2_lambda_done_4_0 (G : wv_G) (fr : Nat) (P : wv_R → wv_H → Prop) (v0 : Option Nat) (v1 : Option Nat) (v2 : Option Nat) (v3 : Int32) (w : wv_W) : Prop :=
  wv_gI w v2 ciX7 1 (fun x3 => wv_cV G fr yX2_put v0 [va_rf v1, .int x3, .int v3] w (wv_rI (fun x7 w7 => P (.inl (some (.int x7))) w7.1) (wv_pr P)))
set_option maxHeartbeats 4000000 in
theorem wk_X2_lambda_done_4_0 {G : wv_G} {p : Program} {e : Env} {R : Room} {s : State} {m : MethodId} {args : Array Value} {below : List Frame} {meth : Method} {c : Code} {fr : Nat} {P : wv_R → wv_H → Prop} (X : wv_ok G p R s m args meth c fr "Weaversgate$Run" cX2_lambda_done_4 4 (Option.some Jvm.ClassFile.FieldType.int) "lambda$done$4" []) {v0 : Option Nat} {v1 : Option Nat} {v2 : Option Nat} {v3 : Int32} {w : wv_W} (hv : vc_X2_lambda_done_4_0 G fr P v0 v1 v2 v3 w) : wv_J G p e R s m args below meth c 4 P w 0 [(0, va_rf v0), (1, va_rf v1), (2, va_rf v2), (3, .int v3)] [] := by
  intro H locs cells slots ls S hl
  unfold vc_X2_lambda_done_4_0 at hv
  refine wq_aload_n X dX2_lambda_done_4_0 rfl (lv_at hl 0 rfl) ?_
  refine wq_aload_n X dX2_lambda_done_4_1 rfl (lv_at hl 1 rfl) ?_
  refine wq_aload_n X dX2_lambda_done_4_2 rfl (lv_at hl 2 rfl) ?_
  refine wq_gIN X S hv ccX7 in_X7 (k := 1) (by decide) q1347 dX2_lambda_done_4_3 (fun x3 hv => ?_)
  refine lv_iload_n X.hx X.hb dX2_lambda_done_4_6 rfl (lv_at hl 3 rfl) ?_
  refine wq_cV_I X S hv q1198 q1200 qs25 q64 ⟨by decide +kernel, by decide +kernel⟩ (nA := 3) (As := [va_rf v1, .int x3, .int v3]) (by decide +kernel) rfl rfl (by simp [wv_rfc, wv_kI, wv_kJ, wv_kF, wv_kD]) hl.1 dX2_lambda_done_4_7 (fun x7 w7 H locs cells slots S hv => ?_) (wq_kx X rfl)
  exact wr_iret X S rfl hv dX2_lambda_done_4_10
theorem wk_X2_lambda_done_4 {G : wv_G} (hG : wv_G0 G) {v0 : Option Nat} {v1 : Option Nat} {v2 : Option Nat} {v3 : Int32} {h : wv_H} {fr kc ks : Nat} {P : wv_R → wv_H → Prop} (hv : vc_X2_lambda_done_4_0 G fr P v0 v1 v2 v3 (h, kc, ks)) : wv_C G yX2_lambda_done_4 [va_rf v0, va_rf v1, va_rf v2, .int v3] h fr kc ks P := by
  refine wv_enter (lv := [(0, va_rf v0), (1, va_rf v1), (2, va_rf v2), (3, .int v3)]) hG (by decide +kernel) q1197 (by decide) (by simp [lg_sl, wv_rfc, wv_kI, wv_kJ, wv_kF, wv_kD]) (by simp [lv_args, wv_rfc, wv_kI, wv_kJ, wv_kF, wv_kD]) ?_
  intro p e R s m args below meth c X H locs cells slots ls S hl
  exact wk_X2_lambda_done_4_0 X hv H locs cells slots ls S (lv_sub hl [0, 1, 2, 3] rfl)

def vc_X2_lambda_handled_5_0 (G : wv_G) (fr : Nat) (P : wv_R → wv_H → Prop) (v0 : Int32) (w : wv_W) : Prop :=
  P (.inl (some (.int v0))) w.1
set_option maxHeartbeats 4000000 in
theorem wk_X2_lambda_handled_5_0 {G : wv_G} {p : Program} {e : Env} {R : Room} {s : State} {m : MethodId} {args : Array Value} {below : List Frame} {meth : Method} {c : Code} {fr : Nat} {P : wv_R → wv_H → Prop} (X : wv_ok G p R s m args meth c fr "Weaversgate$Run" cX2_lambda_handled_5 1 (Option.some Jvm.ClassFile.FieldType.int) "lambda$handled$5" []) {v0 : Int32} {w : wv_W} (hv : vc_X2_lambda_handled_5_0 G fr P v0 w) : wv_J G p e R s m args below meth c 1 P w 0 [(0, .int v0)] [] := by
  intro H locs cells slots ls S hl
  unfold vc_X2_lambda_handled_5_0 at hv
  refine lv_iload_n X.hx X.hb dX2_lambda_handled_5_0 rfl (lv_at hl 0 rfl) ?_
  exact wr_iret X S rfl hv dX2_lambda_handled_5_1
theorem wk_X2_lambda_handled_5 {G : wv_G} (hG : wv_G0 G) {v0 : Int32} {h : wv_H} {fr kc ks : Nat} {P : wv_R → wv_H → Prop} (hv : vc_X2_lambda_handled_5_0 G fr P v0 (h, kc, ks)) : wv_C G yX2_lambda_handled_5 [.int v0] h fr kc ks P := by
  refine wv_enter (lv := [(0, .int v0)]) hG (by decide +kernel) q1207 (by decide) (by simp [lg_sl, wv_rfc, wv_kI, wv_kJ, wv_kF, wv_kD]) (by simp [lv_args, wv_rfc, wv_kI, wv_kJ, wv_kF, wv_kD]) ?_
  intro p e R s m args below meth c X H locs cells slots ls S hl
  exact wk_X2_lambda_handled_5_0 X hv H locs cells slots ls S (lv_sub hl [0] rfl)

def vc_X2_order_82 (G : wv_G) (fr : Nat) (P : wv_R → wv_H → Prop) (K4 : ((Option Nat) × Int32 × Int32) → wv_W → Prop) (K21 : ((Option Nat) × Int32 × Int32 × Int32 × Int32) → wv_W → Prop) (v0 : Option Nat) (v1 : Int32) (v2 : Int32) (v3 : Int32) (v4 : Int32) (w : wv_W) : Prop :=
  K21 (v0, v1, v2, v3, (v4 + (1 : Int32))) w
def vc_X2_order_21 (G : wv_G) (fr : Nat) (P : wv_R → wv_H → Prop) (K4 : ((Option Nat) × Int32 × Int32) → wv_W → Prop) (K21 : ((Option Nat) × Int32 × Int32 × Int32 × Int32) → wv_W → Prop) (v0 : Option Nat) (v1 : Int32) (v2 : Int32) (v3 : Int32) (v4 : Int32) (w : wv_W) : Prop :=
  wv_gA w v0 ciX2 8 (fun x24 => wv_gA w x24 ciX1 2 (fun x27 => wv_cV G fr yJ2_size x27 [] w (wv_rI (fun x30 w30 => (x30 ≤ v4 → K4 (v0, v1, (v2 + (1 : Int32))) w30) ∧ (¬ x30 ≤ v4 → wv_gA w30 v0 ciX2 8 (fun x37 => wv_gA w30 x37 ciX1 2 (fun x40 => wv_cV G fr yJ2_get x40 [.int v4] w30 (wv_rA (fun x45 w45 => wv_cc G w45 x45 "Weaversgate$Advice" (wv_gI w45 x45 ciX19 1 (fun x51 => (¬ x51 = v3 → vc_X2_order_82 G fr P K4 K21 v0 v1 v2 v3 v4 w45) ∧ (x51 = v3 → wv_gA w45 v0 ciX2 1 (fun x59 => wv_gA w45 v0 ciX2 8 (fun x64 => wv_gA w45 x64 ciX1 2 (fun x67 => wv_cV G fr yJ2_get x67 [.int v4] w45 (wv_rA (fun x72 w72 => wv_cc G w72 x72 "Weaversgate$Advice" (wv_sq G 6 "Weaversgate$Advice" w72 x59 v1 x72 (fun w78 => vc_X2_order_82 G fr P K4 K21 v0 (v1 + (1 : Int32)) v2 v3 v4 w78))) (wv_pr P))))))))) (wv_pr P)))))) (wv_pr P))))
def vc_X2_order_4 (G : wv_G) (fr : Nat) (P : wv_R → wv_H → Prop) (K4 : ((Option Nat) × Int32 × Int32) → wv_W → Prop) (v0 : Option Nat) (v1 : Int32) (v2 : Int32) (w : wv_W) : Prop :=
  ((4 : Int32) ≤ v2 → P (.inl none) w.1) ∧ (¬ (4 : Int32) ≤ v2 → wv_gA w v0 ciX2 8 (fun x10 => wv_cV G fr yX1_aspectOf x10 [.int v2] w (wv_rI (fun x14 w14 => wv_L (fun K21 a w => vc_X2_order_21 G fr P K4 K21 a.1 a.2.1 a.2.2.1 a.2.2.2.1 a.2.2.2.2 w) (v0, v1, v2, x14, (0 : Int32)) w14) (wv_pr P))))
def vc_X2_order_0 (G : wv_G) (fr : Nat) (P : wv_R → wv_H → Prop) (v0 : Option Nat) (w : wv_W) : Prop :=
  wv_L (fun K4 a w => vc_X2_order_4 G fr P K4 a.1 a.2.1 a.2.2 w) (v0, (0 : Int32), (0 : Int32)) w
set_option maxHeartbeats 4000000 in
theorem wk_X2_order_82 {G : wv_G} {p : Program} {e : Env} {R : Room} {s : State} {m : MethodId} {args : Array Value} {below : List Frame} {meth : Method} {c : Code} {fr : Nat} {P : wv_R → wv_H → Prop} (X : wv_ok G p R s m args meth c fr "Weaversgate$Run" cX2_order 5 (Option.none : Option Jvm.ClassFile.FieldType) "order" []) {K4 : ((Option Nat) × Int32 × Int32) → wv_W → Prop} (hK4 : ∀ a w, K4 a w → wv_J G p e R s m args below meth c 5 P w 4 [(0, va_rf a.1), (1, .int a.2.1), (2, .int a.2.2)] []) {K21 : ((Option Nat) × Int32 × Int32 × Int32 × Int32) → wv_W → Prop} (hK21 : ∀ a w, K21 a w → wv_J G p e R s m args below meth c 5 P w 21 [(0, va_rf a.1), (1, .int a.2.1), (2, .int a.2.2.1), (3, .int a.2.2.2.1), (4, .int a.2.2.2.2)] []) {v0 : Option Nat} {v1 : Int32} {v2 : Int32} {v3 : Int32} {v4 : Int32} {w : wv_W} (hv : vc_X2_order_82 G fr P K4 K21 v0 v1 v2 v3 v4 w) : wv_J G p e R s m args below meth c 5 P w 82 [(0, va_rf v0), (1, .int v1), (2, .int v2), (3, .int v3), (4, .int v4)] [] := by
  intro H locs cells slots ls S hl
  unfold vc_X2_order_82 at hv
  refine lv_iinc (v := (v4 + (1 : Int32))) (lv' := [(4, .int (v4 + (1 : Int32))), (0, va_rf v0), (1, .int v1), (2, .int v2), (3, .int v3)]) X.hx X.hb dX2_order_82 hl (k := 4) rfl (by rfl) (by decide) (by simp [wv_rfc, wv_kI, wv_kJ, wv_kF, wv_kD]) (fun ls hl => ?_)
  refine lv_goto (tgt := 21) X.hx X.hb dX2_order_85 (by decide) ?_
  exact hK21 _ _ hv H locs cells slots ls S (lv_sub hl [1, 2, 3, 4, 0] rfl)
set_option maxHeartbeats 4000000 in
theorem wk_X2_order_21 {G : wv_G} {p : Program} {e : Env} {R : Room} {s : State} {m : MethodId} {args : Array Value} {below : List Frame} {meth : Method} {c : Code} {fr : Nat} {P : wv_R → wv_H → Prop} (X : wv_ok G p R s m args meth c fr "Weaversgate$Run" cX2_order 5 (Option.none : Option Jvm.ClassFile.FieldType) "order" []) {K4 : ((Option Nat) × Int32 × Int32) → wv_W → Prop} (hK4 : ∀ a w, K4 a w → wv_J G p e R s m args below meth c 5 P w 4 [(0, va_rf a.1), (1, .int a.2.1), (2, .int a.2.2)] []) {K21 : ((Option Nat) × Int32 × Int32 × Int32 × Int32) → wv_W → Prop} (hK21 : ∀ a w, K21 a w → wv_J G p e R s m args below meth c 5 P w 21 [(0, va_rf a.1), (1, .int a.2.1), (2, .int a.2.2.1), (3, .int a.2.2.2.1), (4, .int a.2.2.2.2)] []) {v0 : Option Nat} {v1 : Int32} {v2 : Int32} {v3 : Int32} {v4 : Int32} {w : wv_W} (hv : vc_X2_order_21 G fr P K4 K21 v0 v1 v2 v3 v4 w) : wv_J G p e R s m args below meth c 5 P w 21 [(0, va_rf v0), (1, .int v1), (2, .int v2), (3, .int v3), (4, .int v4)] [] := by
  intro H locs cells slots ls S hl
  unfold vc_X2_order_21 at hv
  refine lv_iload X.hx X.hb dX2_order_21 (lv_at hl 4 rfl) ?_
  refine wq_aload_n X dX2_order_23 rfl (lv_at hl 0 rfl) ?_
  refine wq_gA X S hv ccX2 in_X2 (k := 8) (by decide) q204 dX2_order_24 (fun x24 hv => ?_)
  refine wq_gAN X S hv ccX1 in_X1 (k := 2) (by decide) q228 dX2_order_27 (fun x27 hv => ?_)
  refine wq_cV_I X S hv q950 q270 q271 q63 ⟨by decide +kernel, by decide +kernel⟩ (nA := 0) (As := []) (by decide +kernel) rfl rfl (by simp [wv_rfc, wv_kI, wv_kJ, wv_kF, wv_kD]) hl.1 dX2_order_30 (fun x30 w30 H locs cells slots S hv => ?_) (wq_kx X rfl)
  refine lv_icmp_ge (tgt := 88) X.hx X.hb dX2_order_33 (by decide) (fun c33 => ?_) (fun c33 => ?_)
  · have hv := hv.1 c33
    refine lv_iinc (v := (v2 + (1 : Int32))) (lv' := [(2, .int (v2 + (1 : Int32))), (0, va_rf v0), (1, .int v1), (3, .int v3), (4, .int v4)]) X.hx X.hb dX2_order_88 hl (k := 2) rfl (by rfl) (by decide) (by simp [wv_rfc, wv_kI, wv_kJ, wv_kF, wv_kD]) (fun ls hl => ?_)
    refine lv_goto (tgt := 4) X.hx X.hb dX2_order_91 (by decide) ?_
    exact hK4 _ _ hv H locs cells slots ls S (lv_sub hl [1, 2, 0] rfl)
  · have hv := hv.2 c33
    refine wq_aload_n X dX2_order_36 rfl (lv_at hl 0 rfl) ?_
    refine wq_gA X S hv ccX2 in_X2 (k := 8) (by decide) q204 dX2_order_37 (fun x37 hv => ?_)
    refine wq_gAN X S hv ccX1 in_X1 (k := 2) (by decide) q228 dX2_order_40 (fun x40 hv => ?_)
    refine lv_iload X.hx X.hb dX2_order_43 (lv_at hl 4 rfl) ?_
    refine wq_cV_A X S hv q951 q274 q275 q63 ⟨by decide +kernel, by decide +kernel⟩ (nA := 1) (As := [.int v4]) (by decide +kernel) rfl rfl (by simp [wv_rfc, wv_kI, wv_kJ, wv_kF, wv_kD]) hl.1 dX2_order_45 (fun x45 w45 H locs cells slots S hv => ?_) (wq_kx X rfl)
    refine wq_cc X S hv q189 dX2_order_48 (fun hv => ?_)
    refine wq_gIN X S hv ccX19 in_X19 (k := 1) (by decide) q1540 dX2_order_51 (fun x51 hv => ?_)
    refine lv_iload_n X.hx X.hb dX2_order_54 rfl (lv_at hl 3 rfl) ?_
    refine lv_icmp_ne (tgt := 82) X.hx X.hb dX2_order_55 (by decide) (fun c55 => ?_) (fun c55 => ?_)
    · have hv := hv.1 c55
      exact wk_X2_order_82 X hK4 hK21 hv H locs cells slots ls S (lv_sub hl [0, 1, 2, 3, 4] rfl)
    · have hv := hv.2 c55
      refine wq_aload_n X dX2_order_58 rfl (lv_at hl 0 rfl) ?_
      refine wq_gA X S hv ccX2 in_X2 (k := 1) (by decide) q193 dX2_order_59 (fun x59 hv => ?_)
      refine lv_iload_n X.hx X.hb dX2_order_62 rfl (lv_at hl 1 rfl) ?_
      refine wq_aload_n X dX2_order_63 rfl (lv_at hl 0 rfl) ?_
      refine wq_gA X S hv ccX2 in_X2 (k := 8) (by decide) q204 dX2_order_64 (fun x64 hv => ?_)
      refine wq_gAN X S hv ccX1 in_X1 (k := 2) (by decide) q228 dX2_order_67 (fun x67 hv => ?_)
      refine lv_iload X.hx X.hb dX2_order_70 (lv_at hl 4 rfl) ?_
      refine wq_cV_A X S hv q951 q274 q275 q63 ⟨by decide +kernel, by decide +kernel⟩ (nA := 1) (As := [.int v4]) (by decide +kernel) rfl rfl (by simp [wv_rfc, wv_kI, wv_kJ, wv_kF, wv_kD]) hl.1 dX2_order_72 (fun x72 w72 H locs cells slots S hv => ?_) (wq_kx X rfl)
      refine wq_cc X S hv q189 dX2_order_75 (fun hv => ?_)
      refine wq_sq6 X S hv dX2_order_78 (fun w78 H locs S hv => ?_)
      refine lv_iinc (v := (v1 + (1 : Int32))) (lv' := [(1, .int (v1 + (1 : Int32))), (0, va_rf v0), (2, .int v2), (3, .int v3), (4, .int v4)]) X.hx X.hb dX2_order_79 hl (k := 1) rfl (by rfl) (by decide) (by simp [wv_rfc, wv_kI, wv_kJ, wv_kF, wv_kD]) (fun ls hl => ?_)
      exact wk_X2_order_82 X hK4 hK21 hv H locs cells slots ls S (lv_sub hl [1, 0, 2, 3, 4] rfl)
set_option maxHeartbeats 4000000 in
theorem wk_X2_order_4 {G : wv_G} {p : Program} {e : Env} {R : Room} {s : State} {m : MethodId} {args : Array Value} {below : List Frame} {meth : Method} {c : Code} {fr : Nat} {P : wv_R → wv_H → Prop} (X : wv_ok G p R s m args meth c fr "Weaversgate$Run" cX2_order 5 (Option.none : Option Jvm.ClassFile.FieldType) "order" []) {K4 : ((Option Nat) × Int32 × Int32) → wv_W → Prop} (hK4 : ∀ a w, K4 a w → wv_J G p e R s m args below meth c 5 P w 4 [(0, va_rf a.1), (1, .int a.2.1), (2, .int a.2.2)] []) {v0 : Option Nat} {v1 : Int32} {v2 : Int32} {w : wv_W} (hv : vc_X2_order_4 G fr P K4 v0 v1 v2 w) : wv_J G p e R s m args below meth c 5 P w 4 [(0, va_rf v0), (1, .int v1), (2, .int v2)] [] := by
  intro H locs cells slots ls S hl
  unfold vc_X2_order_4 at hv
  refine lv_iload_n X.hx X.hb dX2_order_4 rfl (lv_at hl 2 rfl) ?_
  refine lv_iconst (v := (4 : Int32)) X.hx X.hb dX2_order_5 (by decide) ?_
  refine lv_icmp_ge (tgt := 94) X.hx X.hb dX2_order_6 (by decide) (fun c6 => ?_) (fun c6 => ?_)
  · have hv := hv.1 c6
    exact wr_vret X S hv dX2_order_94
  · have hv := hv.2 c6
    refine wq_aload_n X dX2_order_9 rfl (lv_at hl 0 rfl) ?_
    refine wq_gA X S hv ccX2 in_X2 (k := 8) (by decide) q204 dX2_order_10 (fun x10 hv => ?_)
    refine lv_iload_n X.hx X.hb dX2_order_13 rfl (lv_at hl 2 rfl) ?_
    refine wq_cVN_I X S hv q949 q259 qs1 q260 q60 ⟨by decide +kernel, by decide +kernel⟩ (nA := 1) (As := [.int v2]) (by decide +kernel) rfl rfl (by simp [wv_rfc, wv_kI, wv_kJ, wv_kF, wv_kD]) hl.1 dX2_order_14 (fun x14 w14 H locs cells slots S hv => ?_) (wq_kx X rfl)
    refine lv_istore_n X.hx X.hb (i := 3) (lv' := [(3, .int x14), (0, va_rf v0), (1, .int v1), (2, .int v2)]) dX2_order_17 rfl hl (by decide) (by simp [wv_rfc, wv_kI, wv_kJ, wv_kF, wv_kD]) (fun ls hl => ?_)
    refine lv_iconst (v := (0 : Int32)) X.hx X.hb dX2_order_18 (by decide) ?_
    refine lv_istore X.hx X.hb (i := 4) (lv' := [(4, .int (0 : Int32)), (3, .int x14), (0, va_rf v0), (1, .int v1), (2, .int v2)]) dX2_order_19 hl (by decide) (by simp [wv_rfc, wv_kI, wv_kJ, wv_kF, wv_kD]) (fun ls hl => ?_)
    exact wv_loop (A := (Option Nat) × Int32 × Int32 × Int32 × Int32) (fun a w => wv_J G p e R s m args below meth c 5 P w 21 [(0, va_rf a.1), (1, .int a.2.1), (2, .int a.2.2.1), (3, .int a.2.2.2.1), (4, .int a.2.2.2.2)] []) (fun K21 hK21 a w hv => wk_X2_order_21 X hK4 hK21 hv) hv H locs cells slots ls S (lv_sub hl [2, 3, 4, 1, 0] rfl)
set_option maxHeartbeats 4000000 in
theorem wk_X2_order_0 {G : wv_G} {p : Program} {e : Env} {R : Room} {s : State} {m : MethodId} {args : Array Value} {below : List Frame} {meth : Method} {c : Code} {fr : Nat} {P : wv_R → wv_H → Prop} (X : wv_ok G p R s m args meth c fr "Weaversgate$Run" cX2_order 5 (Option.none : Option Jvm.ClassFile.FieldType) "order" []) {v0 : Option Nat} {w : wv_W} (hv : vc_X2_order_0 G fr P v0 w) : wv_J G p e R s m args below meth c 5 P w 0 [(0, va_rf v0)] [] := by
  intro H locs cells slots ls S hl
  unfold vc_X2_order_0 at hv
  refine lv_iconst (v := (0 : Int32)) X.hx X.hb dX2_order_0 (by decide) ?_
  refine lv_istore_n X.hx X.hb (i := 1) (lv' := [(1, .int (0 : Int32)), (0, va_rf v0)]) dX2_order_1 rfl hl (by decide) (by simp [wv_rfc, wv_kI, wv_kJ, wv_kF, wv_kD]) (fun ls hl => ?_)
  refine lv_iconst (v := (0 : Int32)) X.hx X.hb dX2_order_2 (by decide) ?_
  refine lv_istore_n X.hx X.hb (i := 2) (lv' := [(2, .int (0 : Int32)), (1, .int (0 : Int32)), (0, va_rf v0)]) dX2_order_3 rfl hl (by decide) (by simp [wv_rfc, wv_kI, wv_kJ, wv_kF, wv_kD]) (fun ls hl => ?_)
  exact wv_loop (A := (Option Nat) × Int32 × Int32) (fun a w => wv_J G p e R s m args below meth c 5 P w 4 [(0, va_rf a.1), (1, .int a.2.1), (2, .int a.2.2)] []) (fun K4 hK4 a w hv => wk_X2_order_4 X hK4 hv) hv H locs cells slots ls S (lv_sub hl [2, 1, 0] rfl)
theorem wk_X2_order {G : wv_G} (hG : wv_G0 G) {v0 : Option Nat} {h : wv_H} {fr kc ks : Nat} {P : wv_R → wv_H → Prop} (hv : vc_X2_order_0 G fr P v0 (h, kc, ks)) : wv_C G yX2_order [va_rf v0] h fr kc ks P := by
  refine wv_enter (lv := [(0, va_rf v0)]) hG (by decide +kernel) q948 (by decide) (by simp [lg_sl, wv_rfc, wv_kI, wv_kJ, wv_kF, wv_kD]) (by simp [lv_args, wv_rfc, wv_kI, wv_kJ, wv_kF, wv_kD]) ?_
  intro p e R s m args below meth c X H locs cells slots ls S hl
  exact wk_X2_order_0 X hv H locs cells slots ls S (lv_sub hl [0] rfl)

def vc_X2_point_102 (G : wv_G) (fr : Nat) (P : wv_R → wv_H → Prop) (v0 : Option Nat) (v8 : Option Nat) (s0 : Option Nat) (w : wv_W) : Prop :=
  wv_pt w v0 ciX2 7 (va_rf v8) (fun w107 => wv_at w107 s0 (wv_pr P))
def vc_X2_point_38 (G : wv_G) (fr : Nat) (P : wv_R → wv_H → Prop) (v0 : Option Nat) (v1 : Int32) (v2 : Int32) (v3 : Option Nat) (v4 : Int32) (v5 : Option Nat) (v6 : Int32) (v7 : Option Nat) (v8 : Option Nat) (w : wv_W) : Prop :=
  wv_gI w v0 ciX2 4 (fun x40 => wv_pt w v0 ciX2 4 (.int (x40 + (1 : Int32))) (fun w45 => wv_no G w45 (wo_o ciX25 [.int 0, .int 0, va_rf none, .int 0, .int 0, va_rf none, .int 0, .int 0]) 8 (fun a49 w49 => wv_cI G fr yX25_init (some a49) [.int v1, .int v2, va_rf v3, .int v6, .int v4, va_rf v8] w49 (wv_rV (fun w62 => wv_pt w62 v0 ciX2 7 (va_rf (some a49)) (fun w65 => wv_gA w65 v0 ciX2 7 (fun x70 => wv_cV G fr yX2_chosen v0 [va_rf x70, va_rf v5] w65 (wv_rI (fun x75 w75 => wv_cV G fr yX2_goOn v0 [.int x75, .int (0 : Int32), .int v4, va_rf v7] w75 (wv_rI (fun x88 w88 => wv_pt w88 v0 ciX2 7 (va_rf v8) (fun w96 => P (.inl (some (.int x88))) w96.1)) (fun E q w => vc_X2_point_102 G fr P v0 v8 (some q) w))) (fun E q w => vc_X2_point_102 G fr P v0 v8 (some q) w))))) (wv_pr P)))))
def vc_X2_point_30 (G : wv_G) (fr : Nat) (P : wv_R → wv_H → Prop) (w : wv_W) : Prop :=
  wv_no G w (wo_o ciX24 [va_rf none, va_rf none, va_rf none, va_rf none, va_rf none, .int 0]) 6 (fun a30 w30 => wv_cI G fr yX24_init (some a30) [] w30 (wv_rV (fun w34 => wv_at w34 (some a30) (wv_pr P)) (wv_pr P)))
def vc_X2_point_0 (G : wv_G) (fr : Nat) (P : wv_R → wv_H → Prop) (v0 : Option Nat) (v1 : Int32) (v2 : Int32) (v3 : Option Nat) (v4 : Int32) (v5 : Option Nat) (v6 : Int32) (v7 : Option Nat) (w : wv_W) : Prop :=
  wv_gA w v0 ciX2 7 (fun x1 => wv_gI w v0 ciX2 4 (fun x7 => (x7 = (120 : Int32) → vc_X2_point_30 G fr P w) ∧ (¬ x7 = (120 : Int32) → (x1 = none → vc_X2_point_38 G fr P v0 v1 v2 v3 v4 v5 v6 v7 x1 w) ∧ (¬ x1 = none → wv_cV G fr yX25_goingOn x1 [] w (wv_rI (fun x22 w22 => (¬ x22 = (20 : Int32) → vc_X2_point_38 G fr P v0 v1 v2 v3 v4 v5 v6 v7 x1 w22) ∧ (x22 = (20 : Int32) → vc_X2_point_30 G fr P w22)) (wv_pr P))))))
set_option maxHeartbeats 4000000 in
theorem wk_X2_point_102 {G : wv_G} {p : Program} {e : Env} {R : Room} {s : State} {m : MethodId} {args : Array Value} {below : List Frame} {meth : Method} {c : Code} {fr : Nat} {P : wv_R → wv_H → Prop} (X : wv_ok G p R s m args meth c fr "Weaversgate$Run" cX2_point 12 (Option.some Jvm.ClassFile.FieldType.int) "point" [(68, 93, 102, 0), (102, 104, 102, 0)]) {v0 : Option Nat} {v8 : Option Nat} {s0 : Option Nat} {w : wv_W} (hv : vc_X2_point_102 G fr P v0 v8 s0 w) : wv_J G p e R s m args below meth c 12 P w 102 [(0, va_rf v0), (8, va_rf v8)] [va_rf s0] := by
  intro H locs cells slots ls S hl
  unfold vc_X2_point_102 at hv
  refine wq_astore X (i := 11) (lv' := [(11, va_rf s0), (0, va_rf v0), (8, va_rf v8)]) dX2_point_102 hl (by decide) rfl (fun ls hl => ?_)
  refine wq_aload_n X dX2_point_104 rfl (lv_at hl 1 rfl) ?_
  refine wq_aload X dX2_point_105 (lv_at hl 2 rfl) ?_
  refine wq_pt X S hv tyX2 tyX2_ok nmX2 ccX2 in_X2 (k := 7) (by decide) q203 rfl rfl (wv_fnA (Or.inl ⟨_, rfl⟩)).1 (wv_fnA (Or.inl ⟨_, rfl⟩)).2 dX2_point_107 (fun w107 H locs S hv => ?_)
  refine wq_aload X dX2_point_110 (lv_at hl 0 rfl) ?_
  exact wq_athrow X S hv dX2_point_112 (wq_kx X rfl)
set_option maxHeartbeats 4000000 in
theorem wk_X2_point_38 {G : wv_G} {p : Program} {e : Env} {R : Room} {s : State} {m : MethodId} {args : Array Value} {below : List Frame} {meth : Method} {c : Code} {fr : Nat} {P : wv_R → wv_H → Prop} (X : wv_ok G p R s m args meth c fr "Weaversgate$Run" cX2_point 12 (Option.some Jvm.ClassFile.FieldType.int) "point" [(68, 93, 102, 0), (102, 104, 102, 0)]) {v0 : Option Nat} {v1 : Int32} {v2 : Int32} {v3 : Option Nat} {v4 : Int32} {v5 : Option Nat} {v6 : Int32} {v7 : Option Nat} {v8 : Option Nat} {w : wv_W} (hv : vc_X2_point_38 G fr P v0 v1 v2 v3 v4 v5 v6 v7 v8 w) : wv_J G p e R s m args below meth c 12 P w 38 [(0, va_rf v0), (1, .int v1), (2, .int v2), (3, va_rf v3), (4, .int v4), (5, va_rf v5), (6, .int v6), (7, va_rf v7), (8, va_rf v8)] [] := by
  intro H locs cells slots ls S hl
  unfold vc_X2_point_38 at hv
  refine wq_aload_n X dX2_point_38 rfl (lv_at hl 0 rfl) ?_
  refine lv_dup X.hx X.hb dX2_point_39 (wv_rfc _) ?_
  refine wq_gI X S hv ccX2 in_X2 (k := 4) (by decide) q198 dX2_point_40 (fun x40 hv => ?_)
  refine lv_iconst (v := (1 : Int32)) X.hx X.hb dX2_point_43 (by decide) ?_
  refine lv_iadd X.hx X.hb dX2_point_44 ?_
  refine wq_pt X S hv tyX2 tyX2_ok nmX2 ccX2 in_X2 (k := 4) (by decide) q198 rfl rfl rfl rfl dX2_point_45 (fun w45 H locs S hv => ?_)
  refine wq_aload_n X dX2_point_48 rfl (lv_at hl 0 rfl) ?_
  refine wq_new X S hv tyX25 tyX25_ok ccX25 in_X25 q1053 q1054 q111 (fun j hj => by have hj : j < 8 := hj; rcases (show j = 0 ∨ j = 1 ∨ j = 2 ∨ j = 3 ∨ j = 4 ∨ j = 5 ∨ j = 6 ∨ j = 7 by omega) with rfl | rfl | rfl | rfl | rfl | rfl | rfl | rfl <;> rfl) dX2_point_49 (fun a49 w49 H cells slots S hv => ?_)
  refine lv_dup X.hx X.hb dX2_point_52 (wv_rfc _) ?_
  refine lv_iload_n X.hx X.hb dX2_point_53 rfl (lv_at hl 1 rfl) ?_
  refine lv_iload_n X.hx X.hb dX2_point_54 rfl (lv_at hl 2 rfl) ?_
  refine wq_aload_n X dX2_point_55 rfl (lv_at hl 3 rfl) ?_
  refine lv_iload X.hx X.hb dX2_point_56 (lv_at hl 6 rfl) ?_
  refine lv_iload X.hx X.hb dX2_point_58 (lv_at hl 4 rfl) ?_
  refine wq_aload X dX2_point_60 (lv_at hl 8 rfl) ?_
  refine wq_cI_V X S hv rfl q1055 q1056 q1057 q111 ⟨by decide +kernel, by decide +kernel⟩ (nA := 6) (As := [.int v1, .int v2, va_rf v3, .int v6, .int v4, va_rf v8]) (by decide +kernel) rfl rfl (by simp [wv_rfc, wv_kI, wv_kJ, wv_kF, wv_kD]) hl.1 dX2_point_62 (fun w62 H locs cells slots S hv => ?_) (wq_kx X rfl)
  refine wq_pt X S hv tyX2 tyX2_ok nmX2 ccX2 in_X2 (k := 7) (by decide) q203 rfl rfl (wv_fnA (Or.inl ⟨_, rfl⟩)).1 (wv_fnA (Or.inl ⟨_, rfl⟩)).2 dX2_point_65 (fun w65 H locs S hv => ?_)
  refine wq_aload_n X dX2_point_68 rfl (lv_at hl 0 rfl) ?_
  refine wq_aload_n X dX2_point_69 rfl (lv_at hl 0 rfl) ?_
  refine wq_gA X S hv ccX2 in_X2 (k := 7) (by decide) q203 dX2_point_70 (fun x70 hv => ?_)
  refine wq_aload X dX2_point_73 (lv_at hl 5 rfl) ?_
  refine wq_cV_I X S hv q1090 q1092 qs20 q64 ⟨by decide +kernel, by decide +kernel⟩ (nA := 2) (As := [va_rf x70, va_rf v5]) (by decide +kernel) rfl rfl (by simp [wv_rfc, wv_kI, wv_kJ, wv_kF, wv_kD]) hl.1 dX2_point_75 (fun x75 w75 H locs cells slots S hv => ?_) ?_
  · refine lv_istore X.hx X.hb (i := 9) (lv' := [(9, .int x75), (0, va_rf v0), (1, .int v1), (2, .int v2), (3, va_rf v3), (4, .int v4), (5, va_rf v5), (6, .int v6), (7, va_rf v7), (8, va_rf v8)]) dX2_point_78 hl (by decide) (by simp [wv_rfc, wv_kI, wv_kJ, wv_kF, wv_kD]) (fun ls hl => ?_)
    refine wq_aload_n X dX2_point_80 rfl (lv_at hl 1 rfl) ?_
    refine lv_iload X.hx X.hb dX2_point_81 (lv_at hl 0 rfl) ?_
    refine lv_iconst (v := (0 : Int32)) X.hx X.hb dX2_point_83 (by decide) ?_
    refine lv_iload X.hx X.hb dX2_point_84 (lv_at hl 5 rfl) ?_
    refine wq_aload X dX2_point_86 (lv_at hl 8 rfl) ?_
    refine wq_cV_I X S hv q1171 q1173 qs21 q64 ⟨by decide +kernel, by decide +kernel⟩ (nA := 4) (As := [.int x75, .int (0 : Int32), .int v4, va_rf v7]) (by decide +kernel) rfl rfl (by simp [wv_rfc, wv_kI, wv_kJ, wv_kF, wv_kD]) hl.1 dX2_point_88 (fun x88 w88 H locs cells slots S hv => ?_) ?_
    · refine lv_istore X.hx X.hb (i := 10) (lv' := [(10, .int x88), (9, .int x75), (0, va_rf v0), (1, .int v1), (2, .int v2), (3, va_rf v3), (4, .int v4), (5, va_rf v5), (6, .int v6), (7, va_rf v7), (8, va_rf v8)]) dX2_point_91 hl (by decide) (by simp [wv_rfc, wv_kI, wv_kJ, wv_kF, wv_kD]) (fun ls hl => ?_)
      refine wq_aload_n X dX2_point_93 rfl (lv_at hl 2 rfl) ?_
      refine wq_aload X dX2_point_94 (lv_at hl 10 rfl) ?_
      refine wq_pt X S hv tyX2 tyX2_ok nmX2 ccX2 in_X2 (k := 7) (by decide) q203 rfl rfl (wv_fnA (Or.inl ⟨_, rfl⟩)).1 (wv_fnA (Or.inl ⟨_, rfl⟩)).2 dX2_point_96 (fun w96 H locs S hv => ?_)
      refine lv_iload X.hx X.hb dX2_point_99 (lv_at hl 0 rfl) ?_
      exact wr_iret X S rfl hv dX2_point_101
    · intro E q w H locs cells slots S hv hth
      refine wr_catchAny X [] (68, 93, 102, 0) [(102, 104, 102, 0)] rfl (fun z hz => by cases hz) rfl rfl hth ?_
      exact wk_X2_point_102 X  hv H locs cells slots ls S (lv_sub hl [1, 9] rfl)
  · intro E q w H locs cells slots S hv hth
    refine wr_catchAny X [] (68, 93, 102, 0) [(102, 104, 102, 0)] rfl (fun z hz => by cases hz) rfl rfl hth ?_
    exact wk_X2_point_102 X  hv H locs cells slots ls S (lv_sub hl [0, 8] rfl)
set_option maxHeartbeats 4000000 in
theorem wk_X2_point_30 {G : wv_G} {p : Program} {e : Env} {R : Room} {s : State} {m : MethodId} {args : Array Value} {below : List Frame} {meth : Method} {c : Code} {fr : Nat} {P : wv_R → wv_H → Prop} (X : wv_ok G p R s m args meth c fr "Weaversgate$Run" cX2_point 12 (Option.some Jvm.ClassFile.FieldType.int) "point" [(68, 93, 102, 0), (102, 104, 102, 0)]) {w : wv_W} (hv : vc_X2_point_30 G fr P w) : wv_J G p e R s m args below meth c 12 P w 30 [] [] := by
  intro H locs cells slots ls S hl
  unfold vc_X2_point_30 at hv
  refine wq_new X S hv tyX24 tyX24_ok ccX24 in_X24 q944 q1036 q110 (fun j hj => by have hj : j < 6 := hj; rcases (show j = 0 ∨ j = 1 ∨ j = 2 ∨ j = 3 ∨ j = 4 ∨ j = 5 by omega) with rfl | rfl | rfl | rfl | rfl | rfl <;> rfl) dX2_point_30 (fun a30 w30 H cells slots S hv => ?_)
  refine lv_dup X.hx X.hb dX2_point_33 (wv_rfc _) ?_
  refine wq_cIN_V X S hv rfl q1044 q1045 q1046 q110 ⟨by decide +kernel, by decide +kernel⟩ (nA := 0) (As := []) (by decide +kernel) rfl rfl (by simp [wv_rfc, wv_kI, wv_kJ, wv_kF, wv_kD]) hl.1 dX2_point_34 (fun w34 H locs cells slots S hv => ?_) (wq_kx X rfl)
  exact wq_athrow X S hv dX2_point_37 (wq_kx X rfl)
set_option maxHeartbeats 4000000 in
theorem wk_X2_point_0 {G : wv_G} {p : Program} {e : Env} {R : Room} {s : State} {m : MethodId} {args : Array Value} {below : List Frame} {meth : Method} {c : Code} {fr : Nat} {P : wv_R → wv_H → Prop} (X : wv_ok G p R s m args meth c fr "Weaversgate$Run" cX2_point 12 (Option.some Jvm.ClassFile.FieldType.int) "point" [(68, 93, 102, 0), (102, 104, 102, 0)]) {v0 : Option Nat} {v1 : Int32} {v2 : Int32} {v3 : Option Nat} {v4 : Int32} {v5 : Option Nat} {v6 : Int32} {v7 : Option Nat} {w : wv_W} (hv : vc_X2_point_0 G fr P v0 v1 v2 v3 v4 v5 v6 v7 w) : wv_J G p e R s m args below meth c 12 P w 0 [(0, va_rf v0), (1, .int v1), (2, .int v2), (3, va_rf v3), (4, .int v4), (5, va_rf v5), (6, .int v6), (7, va_rf v7)] [] := by
  intro H locs cells slots ls S hl
  unfold vc_X2_point_0 at hv
  refine wq_aload_n X dX2_point_0 rfl (lv_at hl 0 rfl) ?_
  refine wq_gA X S hv ccX2 in_X2 (k := 7) (by decide) q203 dX2_point_1 (fun x1 hv => ?_)
  refine wq_astore X (i := 8) (lv' := [(8, va_rf x1), (0, va_rf v0), (1, .int v1), (2, .int v2), (3, va_rf v3), (4, .int v4), (5, va_rf v5), (6, .int v6), (7, va_rf v7)]) dX2_point_4 hl (by decide) (by simp [wv_rfc, wv_kI, wv_kJ, wv_kF, wv_kD]) (fun ls hl => ?_)
  refine wq_aload_n X dX2_point_6 rfl (lv_at hl 1 rfl) ?_
  refine wq_gI X S hv ccX2 in_X2 (k := 4) (by decide) q198 dX2_point_7 (fun x7 hv => ?_)
  refine lv_bipush (v := (120 : Int32)) X.hx X.hb dX2_point_10 (by decide) ?_
  refine lv_icmp_eq (tgt := 30) X.hx X.hb dX2_point_12 (by decide) (fun c12 => ?_) (fun c12 => ?_)
  · have hv := hv.1 c12
    exact wk_X2_point_30 X  hv H locs cells slots ls S (lv_sub hl [] rfl)
  · have hv := hv.2 c12
    refine wq_aload X dX2_point_15 (lv_at hl 0 rfl) ?_
    refine wq_ifnull (tgt := 38) X dX2_point_17 (by decide) (fun c17 => ?_) (fun c17 => ?_)
    · have hv := hv.1 c17
      exact wk_X2_point_38 X  hv H locs cells slots ls S (lv_sub hl [1, 2, 3, 4, 5, 6, 7, 8, 0] rfl)
    · have hv := hv.2 c17
      refine wq_aload X dX2_point_20 (lv_at hl 0 rfl) ?_
      refine wq_cV_I X S hv q1031 q1032 q1033 q111 ⟨by decide +kernel, by decide +kernel⟩ (nA := 0) (As := []) (by decide +kernel) rfl rfl (by simp [wv_rfc, wv_kI, wv_kJ, wv_kF, wv_kD]) hl.1 dX2_point_22 (fun x22 w22 H locs cells slots S hv => ?_) (wq_kx X rfl)
      refine lv_bipush (v := (20 : Int32)) X.hx X.hb dX2_point_25 (by decide) ?_
      refine lv_icmp_ne (tgt := 38) X.hx X.hb dX2_point_27 (by decide) (fun c27 => ?_) (fun c27 => ?_)
      · have hv := hv.1 c27
        exact wk_X2_point_38 X  hv H locs cells slots ls S (lv_sub hl [1, 2, 3, 4, 5, 6, 7, 8, 0] rfl)
      · have hv := hv.2 c27
        exact wk_X2_point_30 X  hv H locs cells slots ls S (lv_sub hl [] rfl)
theorem wk_X2_point {G : wv_G} (hG : wv_G0 G) {v0 : Option Nat} {v1 : Int32} {v2 : Int32} {v3 : Option Nat} {v4 : Int32} {v5 : Option Nat} {v6 : Int32} {v7 : Option Nat} {h : wv_H} {fr kc ks : Nat} {P : wv_R → wv_H → Prop} (hv : vc_X2_point_0 G fr P v0 v1 v2 v3 v4 v5 v6 v7 (h, kc, ks)) : wv_C G yX2_point [va_rf v0, .int v1, .int v2, va_rf v3, .int v4, va_rf v5, .int v6, va_rf v7] h fr kc ks P := by
  refine wv_enterW (lv := [(0, va_rf v0), (1, .int v1), (2, .int v2), (3, va_rf v3), (4, .int v4), (5, va_rf v5), (6, .int v6), (7, va_rf v7)]) hG (by decide +kernel) q1030 (by decide) (by simp [lg_sl, wv_rfc, wv_kI, wv_kJ, wv_kF, wv_kD]) (by simp [lv_args, wv_rfc, wv_kI, wv_kJ, wv_kF, wv_kD]) ?_
  intro p e R s m args below meth c X H locs cells slots ls S hl
  exact wk_X2_point_0 X hv H locs cells slots ls S (lv_sub hl [0, 1, 2, 3, 4, 5, 6, 7] rfl)

def vc_X2_put_0 (G : wv_G) (fr : Nat) (P : wv_R → wv_H → Prop) (v1 : Option Nat) (v2 : Int32) (v3 : Int32) (w : wv_W) : Prop :=
  wv_gA w v1 ciX22 1 (fun x1 => wv_si G 0 w x1 v2 v3 (fun w6 => P (.inl (some (.int v3))) w6.1))
set_option maxHeartbeats 4000000 in
theorem wk_X2_put_0 {G : wv_G} {p : Program} {e : Env} {R : Room} {s : State} {m : MethodId} {args : Array Value} {below : List Frame} {meth : Method} {c : Code} {fr : Nat} {P : wv_R → wv_H → Prop} (X : wv_ok G p R s m args meth c fr "Weaversgate$Run" cX2_put 4 (Option.some Jvm.ClassFile.FieldType.int) "put" []) {v1 : Option Nat} {v2 : Int32} {v3 : Int32} {w : wv_W} (hv : vc_X2_put_0 G fr P v1 v2 v3 w) : wv_J G p e R s m args below meth c 4 P w 0 [(1, va_rf v1), (2, .int v2), (3, .int v3)] [] := by
  intro H locs cells slots ls S hl
  unfold vc_X2_put_0 at hv
  refine wq_aload_n X dX2_put_0 rfl (lv_at hl 0 rfl) ?_
  refine wq_gAN X S hv ccX22 in_X22 (k := 1) (by decide) q961 dX2_put_1 (fun x1 hv => ?_)
  refine lv_iload_n X.hx X.hb dX2_put_4 rfl (lv_at hl 1 rfl) ?_
  refine lv_iload_n X.hx X.hb dX2_put_5 rfl (lv_at hl 2 rfl) ?_
  refine wq_si0 X S hv dX2_put_6 (fun w6 H locs S hv => ?_)
  refine lv_iload_n X.hx X.hb dX2_put_7 rfl (lv_at hl 2 rfl) ?_
  exact wr_iret X S rfl hv dX2_put_8
theorem wk_X2_put {G : wv_G} (hG : wv_G0 G) {v0 : Option Nat} {v1 : Option Nat} {v2 : Int32} {v3 : Int32} {h : wv_H} {fr kc ks : Nat} {P : wv_R → wv_H → Prop} (hv : vc_X2_put_0 G fr P v1 v2 v3 (h, kc, ks)) : wv_C G yX2_put [va_rf v0, va_rf v1, .int v2, .int v3] h fr kc ks P := by
  refine wv_enter (lv := [(0, va_rf v0), (1, va_rf v1), (2, .int v2), (3, .int v3)]) hG (by decide +kernel) q1201 (by decide) (by simp [lg_sl, wv_rfc, wv_kI, wv_kJ, wv_kF, wv_kD]) (by simp [lv_args, wv_rfc, wv_kI, wv_kJ, wv_kF, wv_kD]) ?_
  intro p e R s m args below meth c X H locs cells slots ls S hl
  exact wk_X2_put_0 X hv H locs cells slots ls S (lv_sub hl [1, 2, 3] rfl)

def vc_X2_steps_78 (G : wv_G) (fr : Nat) (P : wv_R → wv_H → Prop) (K23 : ((Option Nat) × (Option Nat) × (Option Nat) × Int32 × (Option Nat) × Int32 × Int32 × Int32) → wv_W → Prop) (v0 : Option Nat) (v1 : Option Nat) (v2 : Option Nat) (v3 : Int32) (v5 : Option Nat) (v6 : Int32) (v7 : Int32) (v8 : Int32) (v9 : Option Nat) (w : wv_W) : Prop :=
  wv_cV G fr yX7_places v9 [] w (wv_rI (fun x82 w82 => K23 (v0, v1, v2, v3, v5, v6, (v7 + x82), (v8 + (1 : Int32))) w82) (wv_pr P))
def vc_X2_steps_63 (G : wv_G) (fr : Nat) (P : wv_R → wv_H → Prop) (K23 : ((Option Nat) × (Option Nat) × (Option Nat) × Int32 × (Option Nat) × Int32 × Int32 × Int32) → wv_W → Prop) (v0 : Option Nat) (v1 : Option Nat) (v2 : Option Nat) (v3 : Int32) (v5 : Option Nat) (v7 : Int32) (v8 : Int32) (v9 : Option Nat) (s0 : Option Nat) (w : wv_W) : Prop :=
  wv_cV G fr yX2_handled v0 [va_rf v1, va_rf v2, .int v3, .int v8, va_rf s0] w (wv_rI (fun x73 w73 => vc_X2_steps_78 G fr P K23 v0 v1 v2 v3 v5 x73 v7 v8 v9 w73) (wv_pr P))
def vc_X2_steps_23 (G : wv_G) (fr : Nat) (P : wv_R → wv_H → Prop) (K23 : ((Option Nat) × (Option Nat) × (Option Nat) × Int32 × (Option Nat) × Int32 × Int32 × Int32) → wv_W → Prop) (v0 : Option Nat) (v1 : Option Nat) (v2 : Option Nat) (v3 : Int32) (v5 : Option Nat) (v6 : Int32) (v7 : Int32) (v8 : Int32) (w : wv_W) : Prop :=
  wv_cV G fr yJ2_size v5 [] w (wv_rI (fun x27 w27 => (x27 ≤ v8 → P (.inl (some (.int v6))) w27.1) ∧ (¬ x27 ≤ v8 → wv_cV G fr yJ2_get v5 [.int v8] w27 (wv_rA (fun x37 w37 => wv_cc G w37 x37 "Weaversgate$Step" (wv_cV G fr yX2_done v0 [va_rf v1, va_rf v2, .int v3, va_rf x37, .int v7, .int v6] w37 (wv_rI (fun x55 w55 => vc_X2_steps_78 G fr P K23 v0 v1 v2 v3 v5 x55 v7 v8 x37 w55) (fun E q w => (E = "Weaversgate$Thrown" → vc_X2_steps_63 G fr P K23 v0 v1 v2 v3 v5 v7 v8 x37 (some q) w) ∧ (¬ E = "Weaversgate$Thrown" → (va_Nc E "Weaversgate$Thrown" G.2.1 ∧ P (.inr (E, q)) w.1)))))) (wv_pr P)))) (wv_pr P))
def vc_X2_steps_0 (G : wv_G) (fr : Nat) (P : wv_R → wv_H → Prop) (v0 : Option Nat) (v1 : Option Nat) (v2 : Option Nat) (v3 : Int32) (v4 : Int32) (w : wv_W) : Prop :=
  wv_gA w v2 ciX6 2 (fun x1 => wv_cV G fr yJ2_get x1 [.int v3] w (wv_rA (fun x5 w5 => wv_cc G w5 x5 "java/util/ArrayList" (wv_L (fun K23 a w => vc_X2_steps_23 G fr P K23 a.1 a.2.1 a.2.2.1 a.2.2.2.1 a.2.2.2.2.1 a.2.2.2.2.2.1 a.2.2.2.2.2.2.1 a.2.2.2.2.2.2.2 w) (v0, v1, v2, v3, x5, v4, (1 : Int32), (0 : Int32)) w5)) (wv_pr P)))
set_option maxHeartbeats 4000000 in
theorem wk_X2_steps_78 {G : wv_G} {p : Program} {e : Env} {R : Room} {s : State} {m : MethodId} {args : Array Value} {below : List Frame} {meth : Method} {c : Code} {fr : Nat} {P : wv_R → wv_H → Prop} (X : wv_ok G p R s m args meth c fr "Weaversgate$Run" cX2_steps 11 (Option.some Jvm.ClassFile.FieldType.int) "steps" [(45, 60, 63, 65)]) {K23 : ((Option Nat) × (Option Nat) × (Option Nat) × Int32 × (Option Nat) × Int32 × Int32 × Int32) → wv_W → Prop} (hK23 : ∀ a w, K23 a w → wv_J G p e R s m args below meth c 11 P w 23 [(0, va_rf a.1), (1, va_rf a.2.1), (2, va_rf a.2.2.1), (3, .int a.2.2.2.1), (5, va_rf a.2.2.2.2.1), (6, .int a.2.2.2.2.2.1), (7, .int a.2.2.2.2.2.2.1), (8, .int a.2.2.2.2.2.2.2)] []) {v0 : Option Nat} {v1 : Option Nat} {v2 : Option Nat} {v3 : Int32} {v5 : Option Nat} {v6 : Int32} {v7 : Int32} {v8 : Int32} {v9 : Option Nat} {w : wv_W} (hv : vc_X2_steps_78 G fr P K23 v0 v1 v2 v3 v5 v6 v7 v8 v9 w) : wv_J G p e R s m args below meth c 11 P w 78 [(0, va_rf v0), (1, va_rf v1), (2, va_rf v2), (3, .int v3), (5, va_rf v5), (6, .int v6), (7, .int v7), (8, .int v8), (9, va_rf v9)] [] := by
  intro H locs cells slots ls S hl
  unfold vc_X2_steps_78 at hv
  refine lv_iload X.hx X.hb dX2_steps_78 (lv_at hl 6 rfl) ?_
  refine wq_aload X dX2_steps_80 (lv_at hl 8 rfl) ?_
  refine wq_cV_I X S hv q1014 q304 q305 q83 ⟨by decide +kernel, by decide +kernel⟩ (nA := 0) (As := []) (by decide +kernel) rfl rfl (by simp [wv_rfc, wv_kI, wv_kJ, wv_kF, wv_kD]) hl.1 dX2_steps_82 (fun x82 w82 H locs cells slots S hv => ?_) (wq_kx X rfl)
  refine lv_iadd X.hx X.hb dX2_steps_85 ?_
  refine lv_istore X.hx X.hb (i := 7) (lv' := [(7, .int (v7 + x82)), (0, va_rf v0), (1, va_rf v1), (2, va_rf v2), (3, .int v3), (5, va_rf v5), (6, .int v6), (8, .int v8), (9, va_rf v9)]) dX2_steps_86 hl (by decide) (by simp [wv_rfc, wv_kI, wv_kJ, wv_kF, wv_kD]) (fun ls hl => ?_)
  refine lv_iinc (v := (v8 + (1 : Int32))) (lv' := [(8, .int (v8 + (1 : Int32))), (7, .int (v7 + x82)), (0, va_rf v0), (1, va_rf v1), (2, va_rf v2), (3, .int v3), (5, va_rf v5), (6, .int v6), (9, va_rf v9)]) X.hx X.hb dX2_steps_88 hl (k := 7) rfl (by rfl) (by decide) (by simp [wv_rfc, wv_kI, wv_kJ, wv_kF, wv_kD]) (fun ls hl => ?_)
  refine lv_goto (tgt := 23) X.hx X.hb dX2_steps_91 (by decide) ?_
  exact hK23 _ _ hv H locs cells slots ls S (lv_sub hl [2, 3, 4, 5, 6, 7, 1, 0] rfl)
set_option maxHeartbeats 4000000 in
theorem wk_X2_steps_63 {G : wv_G} {p : Program} {e : Env} {R : Room} {s : State} {m : MethodId} {args : Array Value} {below : List Frame} {meth : Method} {c : Code} {fr : Nat} {P : wv_R → wv_H → Prop} (X : wv_ok G p R s m args meth c fr "Weaversgate$Run" cX2_steps 11 (Option.some Jvm.ClassFile.FieldType.int) "steps" [(45, 60, 63, 65)]) {K23 : ((Option Nat) × (Option Nat) × (Option Nat) × Int32 × (Option Nat) × Int32 × Int32 × Int32) → wv_W → Prop} (hK23 : ∀ a w, K23 a w → wv_J G p e R s m args below meth c 11 P w 23 [(0, va_rf a.1), (1, va_rf a.2.1), (2, va_rf a.2.2.1), (3, .int a.2.2.2.1), (5, va_rf a.2.2.2.2.1), (6, .int a.2.2.2.2.2.1), (7, .int a.2.2.2.2.2.2.1), (8, .int a.2.2.2.2.2.2.2)] []) {v0 : Option Nat} {v1 : Option Nat} {v2 : Option Nat} {v3 : Int32} {v5 : Option Nat} {v7 : Int32} {v8 : Int32} {v9 : Option Nat} {s0 : Option Nat} {w : wv_W} (hv : vc_X2_steps_63 G fr P K23 v0 v1 v2 v3 v5 v7 v8 v9 s0 w) : wv_J G p e R s m args below meth c 11 P w 63 [(0, va_rf v0), (1, va_rf v1), (2, va_rf v2), (3, .int v3), (5, va_rf v5), (7, .int v7), (8, .int v8), (9, va_rf v9)] [va_rf s0] := by
  intro H locs cells slots ls S hl
  unfold vc_X2_steps_63 at hv
  refine wq_astore X (i := 10) (lv' := [(10, va_rf s0), (0, va_rf v0), (1, va_rf v1), (2, va_rf v2), (3, .int v3), (5, va_rf v5), (7, .int v7), (8, .int v8), (9, va_rf v9)]) dX2_steps_63 hl (by decide) (by simp [wv_rfc, wv_kI, wv_kJ, wv_kF, wv_kD]) (fun ls hl => ?_)
  refine wq_aload_n X dX2_steps_65 rfl (lv_at hl 1 rfl) ?_
  refine wq_aload_n X dX2_steps_66 rfl (lv_at hl 2 rfl) ?_
  refine wq_aload_n X dX2_steps_67 rfl (lv_at hl 3 rfl) ?_
  refine lv_iload_n X.hx X.hb dX2_steps_68 rfl (lv_at hl 4 rfl) ?_
  refine lv_iload X.hx X.hb dX2_steps_69 (lv_at hl 7 rfl) ?_
  refine wq_aload X dX2_steps_71 (lv_at hl 0 rfl) ?_
  refine wq_cV_I X S hv q1202 q1204 qs26 q64 ⟨by decide +kernel, by decide +kernel⟩ (nA := 5) (As := [va_rf v1, va_rf v2, .int v3, .int v8, va_rf s0]) (by decide +kernel) rfl rfl (by simp [wv_rfc, wv_kI, wv_kJ, wv_kF, wv_kD]) hl.1 dX2_steps_73 (fun x73 w73 H locs cells slots S hv => ?_) (wq_kx X rfl)
  refine lv_istore X.hx X.hb (i := 6) (lv' := [(6, .int x73), (10, va_rf s0), (0, va_rf v0), (1, va_rf v1), (2, va_rf v2), (3, .int v3), (5, va_rf v5), (7, .int v7), (8, .int v8), (9, va_rf v9)]) dX2_steps_76 hl (by decide) (by simp [wv_rfc, wv_kI, wv_kJ, wv_kF, wv_kD]) (fun ls hl => ?_)
  exact wk_X2_steps_78 X hK23 hv H locs cells slots ls S (lv_sub hl [2, 3, 4, 5, 6, 0, 7, 8, 9] rfl)
set_option maxHeartbeats 4000000 in
theorem wk_X2_steps_23 {G : wv_G} {p : Program} {e : Env} {R : Room} {s : State} {m : MethodId} {args : Array Value} {below : List Frame} {meth : Method} {c : Code} {fr : Nat} {P : wv_R → wv_H → Prop} (X : wv_ok G p R s m args meth c fr "Weaversgate$Run" cX2_steps 11 (Option.some Jvm.ClassFile.FieldType.int) "steps" [(45, 60, 63, 65)]) {K23 : ((Option Nat) × (Option Nat) × (Option Nat) × Int32 × (Option Nat) × Int32 × Int32 × Int32) → wv_W → Prop} (hK23 : ∀ a w, K23 a w → wv_J G p e R s m args below meth c 11 P w 23 [(0, va_rf a.1), (1, va_rf a.2.1), (2, va_rf a.2.2.1), (3, .int a.2.2.2.1), (5, va_rf a.2.2.2.2.1), (6, .int a.2.2.2.2.2.1), (7, .int a.2.2.2.2.2.2.1), (8, .int a.2.2.2.2.2.2.2)] []) {v0 : Option Nat} {v1 : Option Nat} {v2 : Option Nat} {v3 : Int32} {v5 : Option Nat} {v6 : Int32} {v7 : Int32} {v8 : Int32} {w : wv_W} (hv : vc_X2_steps_23 G fr P K23 v0 v1 v2 v3 v5 v6 v7 v8 w) : wv_J G p e R s m args below meth c 11 P w 23 [(0, va_rf v0), (1, va_rf v1), (2, va_rf v2), (3, .int v3), (5, va_rf v5), (6, .int v6), (7, .int v7), (8, .int v8)] [] := by
  intro H locs cells slots ls S hl
  unfold vc_X2_steps_23 at hv
  refine lv_iload X.hx X.hb dX2_steps_23 (lv_at hl 7 rfl) ?_
  refine wq_aload X dX2_steps_25 (lv_at hl 4 rfl) ?_
  refine wq_cV_I X S hv q950 q270 q271 q63 ⟨by decide +kernel, by decide +kernel⟩ (nA := 0) (As := []) (by decide +kernel) rfl rfl (by simp [wv_rfc, wv_kI, wv_kJ, wv_kF, wv_kD]) hl.1 dX2_steps_27 (fun x27 w27 H locs cells slots S hv => ?_) (wq_kx X rfl)
  refine lv_icmp_ge (tgt := 94) X.hx X.hb dX2_steps_30 (by decide) (fun c30 => ?_) (fun c30 => ?_)
  · have hv := hv.1 c30
    refine lv_iload X.hx X.hb dX2_steps_94 (lv_at hl 5 rfl) ?_
    exact wr_iret X S rfl hv dX2_steps_96
  · have hv := hv.2 c30
    refine wq_aload X dX2_steps_33 (lv_at hl 4 rfl) ?_
    refine lv_iload X.hx X.hb dX2_steps_35 (lv_at hl 7 rfl) ?_
    refine wq_cV_A X S hv q951 q274 q275 q63 ⟨by decide +kernel, by decide +kernel⟩ (nA := 1) (As := [.int v8]) (by decide +kernel) rfl rfl (by simp [wv_rfc, wv_kI, wv_kJ, wv_kF, wv_kD]) hl.1 dX2_steps_37 (fun x37 w37 H locs cells slots S hv => ?_) (wq_kx X rfl)
    refine wq_cc X S hv q1009 dX2_steps_40 (fun hv => ?_)
    refine wq_astore X (i := 9) (lv' := [(9, va_rf x37), (0, va_rf v0), (1, va_rf v1), (2, va_rf v2), (3, .int v3), (5, va_rf v5), (6, .int v6), (7, .int v7), (8, .int v8)]) dX2_steps_43 hl (by decide) (by simp [wv_rfc, wv_kI, wv_kJ, wv_kF, wv_kD]) (fun ls hl => ?_)
    refine wq_aload_n X dX2_steps_45 rfl (lv_at hl 1 rfl) ?_
    refine wq_aload_n X dX2_steps_46 rfl (lv_at hl 2 rfl) ?_
    refine wq_aload_n X dX2_steps_47 rfl (lv_at hl 3 rfl) ?_
    refine lv_iload_n X.hx X.hb dX2_steps_48 rfl (lv_at hl 4 rfl) ?_
    refine wq_aload X dX2_steps_49 (lv_at hl 0 rfl) ?_
    refine lv_iload X.hx X.hb dX2_steps_51 (lv_at hl 7 rfl) ?_
    refine lv_iload X.hx X.hb dX2_steps_53 (lv_at hl 6 rfl) ?_
    refine wq_cV_I X S hv q1010 q1012 qs18 q64 ⟨by decide +kernel, by decide +kernel⟩ (nA := 6) (As := [va_rf v1, va_rf v2, .int v3, va_rf x37, .int v7, .int v6]) (by decide +kernel) rfl rfl (by simp [wv_rfc, wv_kI, wv_kJ, wv_kF, wv_kD]) hl.1 dX2_steps_55 (fun x55 w55 H locs cells slots S hv => ?_) ?_
    · refine lv_istore X.hx X.hb (i := 6) (lv' := [(6, .int x55), (9, va_rf x37), (0, va_rf v0), (1, va_rf v1), (2, va_rf v2), (3, .int v3), (5, va_rf v5), (7, .int v7), (8, .int v8)]) dX2_steps_58 hl (by decide) (by simp [wv_rfc, wv_kI, wv_kJ, wv_kF, wv_kD]) (fun ls hl => ?_)
      refine lv_goto (tgt := 78) X.hx X.hb dX2_steps_60 (by decide) ?_
      exact wk_X2_steps_78 X hK23 hv H locs cells slots ls S (lv_sub hl [2, 3, 4, 5, 6, 0, 7, 8, 1] rfl)
    · intro E q w H locs cells slots S hv hth
      by_cases hE : E = "Weaversgate$Thrown"
      · subst hE
        have hv := hv.1 rfl
        refine wr_catch X [] (45, 60, 63, 65) [] rfl (fun z hz => by cases hz) rfl (by decide) q943 q980 hth ?_
        exact wk_X2_steps_63 X hK23 hv H locs cells slots ls S (lv_sub hl [1, 2, 3, 4, 5, 7, 8, 0] rfl)
      · have hv := hv.2 hE
        have hN0 := va_Nc.moved X.hW.alike hv.1
        have hv := hv.2
        exact wr_outP X S hv hth (List.forall_mem_cons.mpr ⟨(Or.inr ⟨by decide, "Weaversgate$Thrown", q943, hN0⟩), (fun z hz => absurd hz List.not_mem_nil)⟩)
set_option maxHeartbeats 4000000 in
theorem wk_X2_steps_0 {G : wv_G} {p : Program} {e : Env} {R : Room} {s : State} {m : MethodId} {args : Array Value} {below : List Frame} {meth : Method} {c : Code} {fr : Nat} {P : wv_R → wv_H → Prop} (X : wv_ok G p R s m args meth c fr "Weaversgate$Run" cX2_steps 11 (Option.some Jvm.ClassFile.FieldType.int) "steps" [(45, 60, 63, 65)]) {v0 : Option Nat} {v1 : Option Nat} {v2 : Option Nat} {v3 : Int32} {v4 : Int32} {w : wv_W} (hv : vc_X2_steps_0 G fr P v0 v1 v2 v3 v4 w) : wv_J G p e R s m args below meth c 11 P w 0 [(0, va_rf v0), (1, va_rf v1), (2, va_rf v2), (3, .int v3), (4, .int v4)] [] := by
  intro H locs cells slots ls S hl
  unfold vc_X2_steps_0 at hv
  refine wq_aload_n X dX2_steps_0 rfl (lv_at hl 2 rfl) ?_
  refine wq_gAN X S hv ccX6 in_X6 (k := 2) (by decide) q1294 dX2_steps_1 (fun x1 hv => ?_)
  refine lv_iload_n X.hx X.hb dX2_steps_4 rfl (lv_at hl 3 rfl) ?_
  refine wq_cV_A X S hv q951 q274 q275 q63 ⟨by decide +kernel, by decide +kernel⟩ (nA := 1) (As := [.int v3]) (by decide +kernel) rfl rfl (by simp [wv_rfc, wv_kI, wv_kJ, wv_kF, wv_kD]) hl.1 dX2_steps_5 (fun x5 w5 H locs cells slots S hv => ?_) (wq_kx X rfl)
  refine wq_cc X S hv q1008 dX2_steps_8 (fun hv => ?_)
  refine wq_astore X (i := 5) (lv' := [(5, va_rf x5), (0, va_rf v0), (1, va_rf v1), (2, va_rf v2), (3, .int v3), (4, .int v4)]) dX2_steps_11 hl (by decide) (by simp [wv_rfc, wv_kI, wv_kJ, wv_kF, wv_kD]) (fun ls hl => ?_)
  refine lv_iload X.hx X.hb dX2_steps_13 (lv_at hl 5 rfl) ?_
  refine lv_istore X.hx X.hb (i := 6) (lv' := [(6, .int v4), (5, va_rf x5), (0, va_rf v0), (1, va_rf v1), (2, va_rf v2), (3, .int v3), (4, .int v4)]) dX2_steps_15 hl (by decide) (by simp [wv_rfc, wv_kI, wv_kJ, wv_kF, wv_kD]) (fun ls hl => ?_)
  refine lv_iconst (v := (1 : Int32)) X.hx X.hb dX2_steps_17 (by decide) ?_
  refine lv_istore X.hx X.hb (i := 7) (lv' := [(7, .int (1 : Int32)), (6, .int v4), (5, va_rf x5), (0, va_rf v0), (1, va_rf v1), (2, va_rf v2), (3, .int v3), (4, .int v4)]) dX2_steps_18 hl (by decide) (by simp [wv_rfc, wv_kI, wv_kJ, wv_kF, wv_kD]) (fun ls hl => ?_)
  refine lv_iconst (v := (0 : Int32)) X.hx X.hb dX2_steps_20 (by decide) ?_
  refine lv_istore X.hx X.hb (i := 8) (lv' := [(8, .int (0 : Int32)), (7, .int (1 : Int32)), (6, .int v4), (5, va_rf x5), (0, va_rf v0), (1, va_rf v1), (2, va_rf v2), (3, .int v3), (4, .int v4)]) dX2_steps_21 hl (by decide) (by simp [wv_rfc, wv_kI, wv_kJ, wv_kF, wv_kD]) (fun ls hl => ?_)
  exact wv_loop (A := (Option Nat) × (Option Nat) × (Option Nat) × Int32 × (Option Nat) × Int32 × Int32 × Int32) (fun a w => wv_J G p e R s m args below meth c 11 P w 23 [(0, va_rf a.1), (1, va_rf a.2.1), (2, va_rf a.2.2.1), (3, .int a.2.2.2.1), (5, va_rf a.2.2.2.2.1), (6, .int a.2.2.2.2.2.1), (7, .int a.2.2.2.2.2.2.1), (8, .int a.2.2.2.2.2.2.2)] []) (fun K23 hK23 a w hv => wk_X2_steps_23 X hK23 hv) hv H locs cells slots ls S (lv_sub hl [4, 5, 6, 7, 3, 2, 1, 0] rfl)
theorem wk_X2_steps {G : wv_G} (hG : wv_G0 G) {v0 : Option Nat} {v1 : Option Nat} {v2 : Option Nat} {v3 : Int32} {v4 : Int32} {h : wv_H} {fr kc ks : Nat} {P : wv_R → wv_H → Prop} (hv : vc_X2_steps_0 G fr P v0 v1 v2 v3 v4 (h, kc, ks)) : wv_C G yX2_steps [va_rf v0, va_rf v1, va_rf v2, .int v3, .int v4] h fr kc ks P := by
  refine wv_enterW (lv := [(0, va_rf v0), (1, va_rf v1), (2, va_rf v2), (3, .int v3), (4, .int v4)]) hG (by decide +kernel) q1007 (by decide) (by simp [lg_sl, wv_rfc, wv_kI, wv_kJ, wv_kF, wv_kD]) (by simp [lv_args, wv_rfc, wv_kI, wv_kJ, wv_kF, wv_kD]) ?_
  intro p e R s m args below meth c X H locs cells slots ls S hl
  exact wk_X2_steps_0 X hv H locs cells slots ls S (lv_sub hl [0, 1, 2, 3, 4] rfl)
