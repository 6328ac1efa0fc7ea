def vc_J0_init_0 (G : wv_G) (fr : Nat) (P : wv_R → wv_H → Prop) (v0 : Option Nat) (w : wv_W) : Prop :=
  (∃ a, v0 = some a) ∧ 1 ≤ fr ∧ (P (.inl none) w.1)
set_option maxHeartbeats 4000000 in
theorem wk_J0_init_0 {G : wv_G} {p : Program} {e : Env} {R : Room} {s : State} {m : MethodId} {args : Array Value} {below : List Frame} {meth : Method} {c : Code} {fr : Nat} {P : wv_R → wv_H → Prop} (X : wv_ok G p R s m args meth c fr "java/util/AbstractCollection" cJ0_init 1 (Option.none : Option Jvm.ClassFile.FieldType) "<init>" []) {v0 : Option Nat} {w : wv_W} (hv : vc_J0_init_0 G fr P v0 w) : wv_J G p e R s m args below meth c 1 P w 0 [(0, va_rf v0)] [] := by
  intro H locs cells slots ls S hl
  unfold vc_J0_init_0 at hv
  refine wq_aload_n X dJ0_init_0 rfl (lv_at hl 0 rfl) ?_
  obtain ⟨⟨_, hr⟩, h1, hv⟩ := hv
  refine wq_objInit X hr q138 q125 q126 h1 (by simp [wv_rfc, wv_kI, wv_kJ, wv_kF, wv_kD]) hl.1 dJ0_init_1 ?_
  exact wr_vret X S hv dJ0_init_4
theorem wk_J0_init {G : wv_G} (hG : wv_G0 G) {v0 : Option Nat} {h : wv_H} {fr kc ks : Nat} {P : wv_R → wv_H → Prop} (hv : vc_J0_init_0 G fr P v0 (h, kc, ks)) : wv_C G yJ0_init [va_rf v0] h fr kc ks P := by
  refine wv_enter (lv := [(0, va_rf v0)]) hG (by decide +kernel) q137 (by decide) (by simp [lg_sl, wv_rfc, wv_kI, wv_kJ, wv_kF, wv_kD]) (by simp [lv_args, wv_rfc, wv_kI, wv_kJ, wv_kF, wv_kD]) ?_
  intro p e R s m args below meth c X H locs cells slots ls S hl
  exact wk_J0_init_0 X hv H locs cells slots ls S (lv_sub hl [0] rfl)

def vc_J1_init_0 (G : wv_G) (fr : Nat) (P : wv_R → wv_H → Prop) (v0 : Option Nat) (w : wv_W) : Prop :=
  wv_cI G fr yJ0_init v0 [] w (wv_rV (fun w1 => wv_pt w1 v0 ciJ2 0 (.int (0 : Int32)) (fun w6 => P (.inl none) w6.1)) (wv_pr P))
set_option maxHeartbeats 4000000 in
theorem wk_J1_init_0 {G : wv_G} {p : Program} {e : Env} {R : Room} {s : State} {m : MethodId} {args : Array Value} {below : List Frame} {meth : Method} {c : Code} {fr : Nat} {P : wv_R → wv_H → Prop} (X : wv_ok G p R s m args meth c fr "java/util/AbstractList" cJ1_init 1 (Option.none : Option Jvm.ClassFile.FieldType) "<init>" []) {v0 : Option Nat} {w : wv_W} (hv : vc_J1_init_0 G fr P v0 w) : wv_J G p e R s m args below meth c 1 P w 0 [(0, va_rf v0)] [] := by
  intro H locs cells slots ls S hl
  unfold vc_J1_init_0 at hv
  refine wq_aload_n X dJ1_init_0 rfl (lv_at hl 0 rfl) ?_
  refine wq_cI_V X S hv rfl q135 q136 q137 q61 ⟨by decide +kernel, by decide +kernel⟩ (nA := 0) (As := []) (by decide +kernel) rfl rfl (by simp [wv_rfc, wv_kI, wv_kJ, wv_kF, wv_kD]) hl.1 dJ1_init_1 (fun w1 H locs cells slots S hv => ?_) (wq_kx X rfl)
  refine wq_aload_n X dJ1_init_4 rfl (lv_at hl 0 rfl) ?_
  refine lv_iconst (v := (0 : Int32)) X.hx X.hb dJ1_init_5 (by decide) ?_
  refine wq_pt X S hv tyJ2 tyJ2_ok nmJ2 ccJ2 in_J2 (k := 0) (by decide) q145 rfl rfl rfl rfl dJ1_init_6 (fun w6 H locs S hv => ?_)
  exact wr_vret X S hv dJ1_init_9
theorem wk_J1_init {G : wv_G} (hG : wv_G0 G) {v0 : Option Nat} {h : wv_H} {fr kc ks : Nat} {P : wv_R → wv_H → Prop} (hv : vc_J1_init_0 G fr P v0 (h, kc, ks)) : wv_C G yJ1_init [va_rf v0] h fr kc ks P := by
  refine wv_enter (lv := [(0, va_rf v0)]) hG (by decide +kernel) q134 (by decide) (by simp [lg_sl, wv_rfc, wv_kI, wv_kJ, wv_kF, wv_kD]) (by simp [lv_args, wv_rfc, wv_kI, wv_kJ, wv_kF, wv_kD]) ?_
  intro p e R s m args below meth c X H locs cells slots ls S hl
  exact wk_J1_init_0 X hv H locs cells slots ls S (lv_sub hl [0] rfl)

def vc_J23_init_0 (G : wv_G) (fr : Nat) (P : wv_R → wv_H → Prop) (v0 : Option Nat) (w : wv_W) : Prop :=
  (∃ a, v0 = some a) ∧ 1 ≤ fr ∧ (P (.inl none) w.1)
set_option maxHeartbeats 4000000 in
theorem wk_J23_init_0 {G : wv_G} {p : Program} {e : Env} {R : Room} {s : State} {m : MethodId} {args : Array Value} {below : List Frame} {meth : Method} {c : Code} {fr : Nat} {P : wv_R → wv_H → Prop} (X : wv_ok G p R s m args meth c fr "java/lang/Record" cJ23_init 1 (Option.none : Option Jvm.ClassFile.FieldType) "<init>" []) {v0 : Option Nat} {w : wv_W} (hv : vc_J23_init_0 G fr P v0 w) : wv_J G p e R s m args below meth c 1 P w 0 [(0, va_rf v0)] [] := by
  intro H locs cells slots ls S hl
  unfold vc_J23_init_0 at hv
  refine wq_aload_n X dJ23_init_0 rfl (lv_at hl 0 rfl) ?_
  obtain ⟨⟨_, hr⟩, h1, hv⟩ := hv
  refine wq_objInit X hr q2110 q125 q126 h1 (by simp [wv_rfc, wv_kI, wv_kJ, wv_kF, wv_kD]) hl.1 dJ23_init_1 ?_
  exact wr_vret X S hv dJ23_init_4
theorem wk_J23_init {G : wv_G} (hG : wv_G0 G) {v0 : Option Nat} {h : wv_H} {fr kc ks : Nat} {P : wv_R → wv_H → Prop} (hv : vc_J23_init_0 G fr P v0 (h, kc, ks)) : wv_C G yJ23_init [va_rf v0] h fr kc ks P := by
  refine wv_enter (lv := [(0, va_rf v0)]) hG (by decide +kernel) q2109 (by decide) (by simp [lg_sl, wv_rfc, wv_kI, wv_kJ, wv_kF, wv_kD]) (by simp [lv_args, wv_rfc, wv_kI, wv_kJ, wv_kF, wv_kD]) ?_
  intro p e R s m args below meth c X H locs cells slots ls S hl
  exact wk_J23_init_0 X hv H locs cells slots ls S (lv_sub hl [0] rfl)

def vc_J4_init_0 (G : wv_G) (fr : Nat) (P : wv_R → wv_H → Prop) (v0 : Option Nat) (v1 : Option Nat) (w : wv_W) : Prop :=
  wv_cI G fr yJ3_init_2 v0 [va_rf v1] w (wv_rV (fun w2 => P (.inl none) w2.1) (wv_pr P))
set_option maxHeartbeats 4000000 in
theorem wk_J4_init_0 {G : wv_G} {p : Program} {e : Env} {R : Room} {s : State} {m : MethodId} {args : Array Value} {below : List Frame} {meth : Method} {c : Code} {fr : Nat} {P : wv_R → wv_H → Prop} (X : wv_ok G p R s m args meth c fr "java/lang/Exception" cJ4_init 2 (Option.none : Option Jvm.ClassFile.FieldType) "<init>" []) {v0 : Option Nat} {v1 : Option Nat} {w : wv_W} (hv : vc_J4_init_0 G fr P v0 v1 w) : wv_J G p e R s m args below meth c 2 P w 0 [(0, va_rf v0), (1, va_rf v1)] [] := by
  intro H locs cells slots ls S hl
  unfold vc_J4_init_0 at hv
  refine wq_aload_n X dJ4_init_0 rfl (lv_at hl 0 rfl) ?_
  refine wq_aload_n X dJ4_init_1 rfl (lv_at hl 1 rfl) ?_
  refine wq_cI_V X S hv rfl q647 q648 q649 q68 ⟨by decide +kernel, by decide +kernel⟩ (nA := 1) (As := [va_rf v1]) (by decide +kernel) rfl rfl (by simp [wv_rfc, wv_kI, wv_kJ, wv_kF, wv_kD]) hl.1 dJ4_init_2 (fun w2 H locs cells slots S hv => ?_) (wq_kx X rfl)
  exact wr_vret X S hv dJ4_init_5
theorem wk_J4_init {G : wv_G} (hG : wv_G0 G) {v0 : Option Nat} {v1 : Option Nat} {h : wv_H} {fr kc ks : Nat} {P : wv_R → wv_H → Prop} (hv : vc_J4_init_0 G fr P v0 v1 (h, kc, ks)) : wv_C G yJ4_init [va_rf v0, va_rf v1] h fr kc ks P := by
  refine wv_enter (lv := [(0, va_rf v0), (1, va_rf v1)]) hG (by decide +kernel) q646 (by decide) (by simp [lg_sl, wv_rfc, wv_kI, wv_kJ, wv_kF, wv_kD]) (by simp [lv_args, wv_rfc, wv_kI, wv_kJ, wv_kF, wv_kD]) ?_
  intro p e R s m args below meth c X H locs cells slots ls S hl
  exact wk_J4_init_0 X hv H locs cells slots ls S (lv_sub hl [0, 1] rfl)

def vc_J4_init_2_0 (G : wv_G) (fr : Nat) (P : wv_R → wv_H → Prop) (v0 : Option Nat) (w : wv_W) : Prop :=
  wv_ti fr w v0 (fun w1 => P (.inl none) w1.1)
set_option maxHeartbeats 4000000 in
theorem wk_J4_init_2_0 {G : wv_G} {p : Program} {e : Env} {R : Room} {s : State} {m : MethodId} {args : Array Value} {below : List Frame} {meth : Method} {c : Code} {fr : Nat} {P : wv_R → wv_H → Prop} (X : wv_ok G p R s m args meth c fr "java/lang/Exception" cJ4_init_2 1 (Option.none : Option Jvm.ClassFile.FieldType) "<init>" []) {v0 : Option Nat} {w : wv_W} (hv : vc_J4_init_2_0 G fr P v0 w) : wv_J G p e R s m args below meth c 1 P w 0 [(0, va_rf v0)] [] := by
  intro H locs cells slots ls S hl
  unfold vc_J4_init_2_0 at hv
  refine wq_aload_n X dJ4_init_2_0 rfl (lv_at hl 0 rfl) ?_
  refine wq_ti X S hv q993 (by simp [wv_rfc, wv_kI, wv_kJ, wv_kF, wv_kD]) hl.1 dJ4_init_2_1 (fun w1 H locs S hv => ?_)
  exact wr_vret X S hv dJ4_init_2_4
theorem wk_J4_init_2 {G : wv_G} (hG : wv_G0 G) {v0 : Option Nat} {h : wv_H} {fr kc ks : Nat} {P : wv_R → wv_H → Prop} (hv : vc_J4_init_2_0 G fr P v0 (h, kc, ks)) : wv_C G yJ4_init_2 [va_rf v0] h fr kc ks P := by
  refine wv_enter (lv := [(0, va_rf v0)]) hG (by decide +kernel) q992 (by decide) (by simp [lg_sl, wv_rfc, wv_kI, wv_kJ, wv_kF, wv_kD]) (by simp [lv_args, wv_rfc, wv_kI, wv_kJ, wv_kF, wv_kD]) ?_
  intro p e R s m args below meth c X H locs cells slots ls S hl
  exact wk_J4_init_2_0 X hv H locs cells slots ls S (lv_sub hl [0] rfl)

def vc_J5_init_0 (G : wv_G) (fr : Nat) (P : wv_R → wv_H → Prop) (v0 : Option Nat) (v1 : Option Nat) (w : wv_W) : Prop :=
  wv_cI G fr yJ4_init v0 [va_rf v1] w (wv_rV (fun w2 => P (.inl none) w2.1) (wv_pr P))
set_option maxHeartbeats 4000000 in
theorem wk_J5_init_0 {G : wv_G} {p : Program} {e : Env} {R : Room} {s : State} {m : MethodId} {args : Array Value} {below : List Frame} {meth : Method} {c : Code} {fr : Nat} {P : wv_R → wv_H → Prop} (X : wv_ok G p R s m args meth c fr "java/lang/RuntimeException" cJ5_init 2 (Option.none : Option Jvm.ClassFile.FieldType) "<init>" []) {v0 : Option Nat} {v1 : Option Nat} {w : wv_W} (hv : vc_J5_init_0 G fr P v0 v1 w) : wv_J G p e R s m args below meth c 2 P w 0 [(0, va_rf v0), (1, va_rf v1)] [] := by
  intro H locs cells slots ls S hl
  unfold vc_J5_init_0 at hv
  refine wq_aload_n X dJ5_init_0 rfl (lv_at hl 0 rfl) ?_
  refine wq_aload_n X dJ5_init_1 rfl (lv_at hl 1 rfl) ?_
  refine wq_cI_V X S hv rfl q644 q645 q646 q69 ⟨by decide +kernel, by decide +kernel⟩ (nA := 1) (As := [va_rf v1]) (by decide +kernel) rfl rfl (by simp [wv_rfc, wv_kI, wv_kJ, wv_kF, wv_kD]) hl.1 dJ5_init_2 (fun w2 H locs cells slots S hv => ?_) (wq_kx X rfl)
  exact wr_vret X S hv dJ5_init_5
theorem wk_J5_init {G : wv_G} (hG : wv_G0 G) {v0 : Option Nat} {v1 : Option Nat} {h : wv_H} {fr kc ks : Nat} {P : wv_R → wv_H → Prop} (hv : vc_J5_init_0 G fr P v0 v1 (h, kc, ks)) : wv_C G yJ5_init [va_rf v0, va_rf v1] h fr kc ks P := by
  refine wv_enter (lv := [(0, va_rf v0), (1, va_rf v1)]) hG (by decide +kernel) q643 (by decide) (by simp [lg_sl, wv_rfc, wv_kI, wv_kJ, wv_kF, wv_kD]) (by simp [lv_args, wv_rfc, wv_kI, wv_kJ, wv_kF, wv_kD]) ?_
  intro p e R s m args below meth c X H locs cells slots ls S hl
  exact wk_J5_init_0 X hv H locs cells slots ls S (lv_sub hl [0, 1] rfl)

def vc_J5_init_2_0 (G : wv_G) (fr : Nat) (P : wv_R → wv_H → Prop) (v0 : Option Nat) (w : wv_W) : Prop :=
  wv_cI G fr yJ4_init_2 v0 [] w (wv_rV (fun w1 => P (.inl none) w1.1) (wv_pr P))
set_option maxHeartbeats 4000000 in
theorem wk_J5_init_2_0 {G : wv_G} {p : Program} {e : Env} {R : Room} {s : State} {m : MethodId} {args : Array Value} {below : List Frame} {meth : Method} {c : Code} {fr : Nat} {P : wv_R → wv_H → Prop} (X : wv_ok G p R s m args meth c fr "java/lang/RuntimeException" cJ5_init_2 1 (Option.none : Option Jvm.ClassFile.FieldType) "<init>" []) {v0 : Option Nat} {w : wv_W} (hv : vc_J5_init_2_0 G fr P v0 w) : wv_J G p e R s m args below meth c 1 P w 0 [(0, va_rf v0)] [] := by
  intro H locs cells slots ls S hl
  unfold vc_J5_init_2_0 at hv
  refine wq_aload_n X dJ5_init_2_0 rfl (lv_at hl 0 rfl) ?_
  refine wq_cI_V X S hv rfl q1050 q991 q992 q69 ⟨by decide +kernel, by decide +kernel⟩ (nA := 0) (As := []) (by decide +kernel) rfl rfl (by simp [wv_rfc, wv_kI, wv_kJ, wv_kF, wv_kD]) hl.1 dJ5_init_2_1 (fun w1 H locs cells slots S hv => ?_) (wq_kx X rfl)
  exact wr_vret X S hv dJ5_init_2_4
theorem wk_J5_init_2 {G : wv_G} (hG : wv_G0 G) {v0 : Option Nat} {h : wv_H} {fr kc ks : Nat} {P : wv_R → wv_H → Prop} (hv : vc_J5_init_2_0 G fr P v0 (h, kc, ks)) : wv_C G yJ5_init_2 [va_rf v0] h fr kc ks P := by
  refine wv_enter (lv := [(0, va_rf v0)]) hG (by decide +kernel) q1049 (by decide) (by simp [lg_sl, wv_rfc, wv_kI, wv_kJ, wv_kF, wv_kD]) (by simp [lv_args, wv_rfc, wv_kI, wv_kJ, wv_kF, wv_kD]) ?_
  intro p e R s m args below meth c X H locs cells slots ls S hl
  exact wk_J5_init_2_0 X hv H locs cells slots ls S (lv_sub hl [0] rfl)

def vc_J6_init_2_0 (G : wv_G) (fr : Nat) (P : wv_R → wv_H → Prop) (v0 : Option Nat) (w : wv_W) : Prop :=
  wv_cI G fr yJ5_init_2 v0 [] w (wv_rV (fun w1 => P (.inl none) w1.1) (wv_pr P))
set_option maxHeartbeats 4000000 in
theorem wk_J6_init_2_0 {G : wv_G} {p : Program} {e : Env} {R : Room} {s : State} {m : MethodId} {args : Array Value} {below : List Frame} {meth : Method} {c : Code} {fr : Nat} {P : wv_R → wv_H → Prop} (X : wv_ok G p R s m args meth c fr "java/lang/IndexOutOfBoundsException" cJ6_init_2 1 (Option.none : Option Jvm.ClassFile.FieldType) "<init>" []) {v0 : Option Nat} {w : wv_W} (hv : vc_J6_init_2_0 G fr P v0 w) : wv_J G p e R s m args below meth c 1 P w 0 [(0, va_rf v0)] [] := by
  intro H locs cells slots ls S hl
  unfold vc_J6_init_2_0 at hv
  refine wq_aload_n X dJ6_init_2_0 rfl (lv_at hl 0 rfl) ?_
  refine wq_cI_V X S hv rfl q1261 q1048 q1049 q70 ⟨by decide +kernel, by decide +kernel⟩ (nA := 0) (As := []) (by decide +kernel) rfl rfl (by simp [wv_rfc, wv_kI, wv_kJ, wv_kF, wv_kD]) hl.1 dJ6_init_2_1 (fun w1 H locs cells slots S hv => ?_) (wq_kx X rfl)
  exact wr_vret X S hv dJ6_init_2_4
theorem wk_J6_init_2 {G : wv_G} (hG : wv_G0 G) {v0 : Option Nat} {h : wv_H} {fr kc ks : Nat} {P : wv_R → wv_H → Prop} (hv : vc_J6_init_2_0 G fr P v0 (h, kc, ks)) : wv_C G yJ6_init_2 [va_rf v0] h fr kc ks P := by
  refine wv_enter (lv := [(0, va_rf v0)]) hG (by decide +kernel) q1260 (by decide) (by simp [lg_sl, wv_rfc, wv_kI, wv_kJ, wv_kF, wv_kD]) (by simp [lv_args, wv_rfc, wv_kI, wv_kJ, wv_kF, wv_kD]) ?_
  intro p e R s m args below meth c X H locs cells slots ls S hl
  exact wk_J6_init_2_0 X hv H locs cells slots ls S (lv_sub hl [0] rfl)

def vc_J11_init_0 (G : wv_G) (fr : Nat) (P : wv_R → wv_H → Prop) (v0 : Option Nat) (w : wv_W) : Prop :=
  wv_cI G fr yJ5_init_2 v0 [] w (wv_rV (fun w1 => P (.inl none) w1.1) (wv_pr P))
set_option maxHeartbeats 4000000 in
theorem wk_J11_init_0 {G : wv_G} {p : Program} {e : Env} {R : Room} {s : State} {m : MethodId} {args : Array Value} {below : List Frame} {meth : Method} {c : Code} {fr : Nat} {P : wv_R → wv_H → Prop} (X : wv_ok G p R s m args meth c fr "java/lang/IllegalStateException" cJ11_init 1 (Option.none : Option Jvm.ClassFile.FieldType) "<init>" []) {v0 : Option Nat} {w : wv_W} (hv : vc_J11_init_0 G fr P v0 w) : wv_J G p e R s m args below meth c 1 P w 0 [(0, va_rf v0)] [] := by
  intro H locs cells slots ls S hl
  unfold vc_J11_init_0 at hv
  refine wq_aload_n X dJ11_init_0 rfl (lv_at hl 0 rfl) ?_
  refine wq_cI_V X S hv rfl q1279 q1048 q1049 q70 ⟨by decide +kernel, by decide +kernel⟩ (nA := 0) (As := []) (by decide +kernel) rfl rfl (by simp [wv_rfc, wv_kI, wv_kJ, wv_kF, wv_kD]) hl.1 dJ11_init_1 (fun w1 H locs cells slots S hv => ?_) (wq_kx X rfl)
  exact wr_vret X S hv dJ11_init_4
theorem wk_J11_init {G : wv_G} (hG : wv_G0 G) {v0 : Option Nat} {h : wv_H} {fr kc ks : Nat} {P : wv_R → wv_H → Prop} (hv : vc_J11_init_0 G fr P v0 (h, kc, ks)) : wv_C G yJ11_init [va_rf v0] h fr kc ks P := by
  refine wv_enter (lv := [(0, va_rf v0)]) hG (by decide +kernel) q1278 (by decide) (by simp [lg_sl, wv_rfc, wv_kI, wv_kJ, wv_kF, wv_kD]) (by simp [lv_args, wv_rfc, wv_kI, wv_kJ, wv_kF, wv_kD]) ?_
  intro p e R s m args below meth c X H locs cells slots ls S hl
  exact wk_J11_init_0 X hv H locs cells slots ls S (lv_sub hl [0] rfl)

def vc_J15_init_2_0 (G : wv_G) (fr : Nat) (P : wv_R → wv_H → Prop) (v0 : Option Nat) (w : wv_W) : Prop :=
  wv_cI G fr yJ5_init_2 v0 [] w (wv_rV (fun w1 => P (.inl none) w1.1) (wv_pr P))
set_option maxHeartbeats 4000000 in
theorem wk_J15_init_2_0 {G : wv_G} {p : Program} {e : Env} {R : Room} {s : State} {m : MethodId} {args : Array Value} {below : List Frame} {meth : Method} {c : Code} {fr : Nat} {P : wv_R → wv_H → Prop} (X : wv_ok G p R s m args meth c fr "java/lang/IllegalArgumentException" cJ15_init_2 1 (Option.none : Option Jvm.ClassFile.FieldType) "<init>" []) {v0 : Option Nat} {w : wv_W} (hv : vc_J15_init_2_0 G fr P v0 w) : wv_J G p e R s m args below meth c 1 P w 0 [(0, va_rf v0)] [] := by
  intro H locs cells slots ls S hl
  unfold vc_J15_init_2_0 at hv
  refine wq_aload_n X dJ15_init_2_0 rfl (lv_at hl 0 rfl) ?_
  refine wq_cI_V X S hv rfl q1333 q1048 q1049 q70 ⟨by decide +kernel, by decide +kernel⟩ (nA := 0) (As := []) (by decide +kernel) rfl rfl (by simp [wv_rfc, wv_kI, wv_kJ, wv_kF, wv_kD]) hl.1 dJ15_init_2_1 (fun w1 H locs cells slots S hv => ?_) (wq_kx X rfl)
  exact wr_vret X S hv dJ15_init_2_4
theorem wk_J15_init_2 {G : wv_G} (hG : wv_G0 G) {v0 : Option Nat} {h : wv_H} {fr kc ks : Nat} {P : wv_R → wv_H → Prop} (hv : vc_J15_init_2_0 G fr P v0 (h, kc, ks)) : wv_C G yJ15_init_2 [va_rf v0] h fr kc ks P := by
  refine wv_enter (lv := [(0, va_rf v0)]) hG (by decide +kernel) q1332 (by decide) (by simp [lg_sl, wv_rfc, wv_kI, wv_kJ, wv_kF, wv_kD]) (by simp [lv_args, wv_rfc, wv_kI, wv_kJ, wv_kF, wv_kD]) ?_
  intro p e R s m args below meth c X H locs cells slots ls S hl
  exact wk_J15_init_2_0 X hv H locs cells slots ls S (lv_sub hl [0] rfl)

def vc_J16_init_0 (G : wv_G) (fr : Nat) (P : wv_R → wv_H → Prop) (v0 : Option Nat) (w : wv_W) : Prop :=
  wv_cI G fr yJ5_init_2 v0 [] w (wv_rV (fun w1 => P (.inl none) w1.1) (wv_pr P))
set_option maxHeartbeats 4000000 in
theorem wk_J16_init_0 {G : wv_G} {p : Program} {e : Env} {R : Room} {s : State} {m : MethodId} {args : Array Value} {below : List Frame} {meth : Method} {c : Code} {fr : Nat} {P : wv_R → wv_H → Prop} (X : wv_ok G p R s m args meth c fr "java/util/NoSuchElementException" cJ16_init 1 (Option.none : Option Jvm.ClassFile.FieldType) "<init>" []) {v0 : Option Nat} {w : wv_W} (hv : vc_J16_init_0 G fr P v0 w) : wv_J G p e R s m args below meth c 1 P w 0 [(0, va_rf v0)] [] := by
  intro H locs cells slots ls S hl
  unfold vc_J16_init_0 at hv
  refine wq_aload_n X dJ16_init_0 rfl (lv_at hl 0 rfl) ?_
  refine wq_cI_V X S hv rfl q1452 q1048 q1049 q70 ⟨by decide +kernel, by decide +kernel⟩ (nA := 0) (As := []) (by decide +kernel) rfl rfl (by simp [wv_rfc, wv_kI, wv_kJ, wv_kF, wv_kD]) hl.1 dJ16_init_1 (fun w1 H locs cells slots S hv => ?_) (wq_kx X rfl)
  exact wr_vret X S hv dJ16_init_4
theorem wk_J16_init {G : wv_G} (hG : wv_G0 G) {v0 : Option Nat} {h : wv_H} {fr kc ks : Nat} {P : wv_R → wv_H → Prop} (hv : vc_J16_init_0 G fr P v0 (h, kc, ks)) : wv_C G yJ16_init [va_rf v0] h fr kc ks P := by
  refine wv_enter (lv := [(0, va_rf v0)]) hG (by decide +kernel) q1451 (by decide) (by simp [lg_sl, wv_rfc, wv_kI, wv_kJ, wv_kF, wv_kD]) (by simp [lv_args, wv_rfc, wv_kI, wv_kJ, wv_kF, wv_kD]) ?_
  intro p e R s m args below meth c X H locs cells slots ls S hl
  exact wk_J16_init_0 X hv H locs cells slots ls S (lv_sub hl [0] rfl)

def vc_J25_init_2_0 (G : wv_G) (fr : Nat) (P : wv_R → wv_H → Prop) (v0 : Option Nat) (w : wv_W) : Prop :=
  wv_cI G fr yJ5_init_2 v0 [] w (wv_rV (fun w1 => P (.inl none) w1.1) (wv_pr P))
set_option maxHeartbeats 4000000 in
theorem wk_J25_init_2_0 {G : wv_G} {p : Program} {e : Env} {R : Room} {s : State} {m : MethodId} {args : Array Value} {below : List Frame} {meth : Method} {c : Code} {fr : Nat} {P : wv_R → wv_H → Prop} (X : wv_ok G p R s m args meth c fr "java/lang/ArithmeticException" cJ25_init_2 1 (Option.none : Option Jvm.ClassFile.FieldType) "<init>" []) {v0 : Option Nat} {w : wv_W} (hv : vc_J25_init_2_0 G fr P v0 w) : wv_J G p e R s m args below meth c 1 P w 0 [(0, va_rf v0)] [] := by
  intro H locs cells slots ls S hl
  unfold vc_J25_init_2_0 at hv
  refine wq_aload_n X dJ25_init_2_0 rfl (lv_at hl 0 rfl) ?_
  refine wq_cI_V X S hv rfl q1750 q1048 q1049 q70 ⟨by decide +kernel, by decide +kernel⟩ (nA := 0) (As := []) (by decide +kernel) rfl rfl (by simp [wv_rfc, wv_kI, wv_kJ, wv_kF, wv_kD]) hl.1 dJ25_init_2_1 (fun w1 H locs cells slots S hv => ?_) (wq_kx X rfl)
  exact wr_vret X S hv dJ25_init_2_4
theorem wk_J25_init_2 {G : wv_G} (hG : wv_G0 G) {v0 : Option Nat} {h : wv_H} {fr kc ks : Nat} {P : wv_R → wv_H → Prop} (hv : vc_J25_init_2_0 G fr P v0 (h, kc, ks)) : wv_C G yJ25_init_2 [va_rf v0] h fr kc ks P := by
  refine wv_enter (lv := [(0, va_rf v0)]) hG (by decide +kernel) q1749 (by decide) (by simp [lg_sl, wv_rfc, wv_kI, wv_kJ, wv_kF, wv_kD]) (by simp [lv_args, wv_rfc, wv_kI, wv_kJ, wv_kF, wv_kD]) ?_
  intro p e R s m args below meth c X H locs cells slots ls S hl
  exact wk_J25_init_2_0 X hv H locs cells slots ls S (lv_sub hl [0] rfl)

def vc_J9_checkIndex_0 (G : wv_G) (fr : Nat) (P : wv_R → wv_H → Prop) (v0 : Int32) (v1 : Int32) (w : wv_W) : Prop :=
  wv_c0 G fr yJ10_checkIndex [.int v0, .int v1, va_rf none] w (wv_rI (fun x3 w3 => P (.inl (some (.int x3))) w3.1) (wv_pr P))
set_option maxHeartbeats 4000000 in
theorem wk_J9_checkIndex_0 {G : wv_G} {p : Program} {e : Env} {R : Room} {s : State} {m : MethodId} {args : Array Value} {below : List Frame} {meth : Method} {c : Code} {fr : Nat} {P : wv_R → wv_H → Prop} (X : wv_ok G p R s m args meth c fr "java/util/Objects" cJ9_checkIndex 2 (Option.some Jvm.ClassFile.FieldType.int) "checkIndex" []) {v0 : Int32} {v1 : Int32} {w : wv_W} (hv : vc_J9_checkIndex_0 G fr P v0 v1 w) : wv_J G p e R s m args below meth c 2 P w 0 [(0, .int v0), (1, .int v1)] [] := by
  intro H locs cells slots ls S hl
  unfold vc_J9_checkIndex_0 at hv
  refine lv_iload_n X.hx X.hb dJ9_checkIndex_0 rfl (lv_at hl 0 rfl) ?_
  refine lv_iload_n X.hx X.hb dJ9_checkIndex_1 rfl (lv_at hl 1 rfl) ?_
  refine wq_null (k := 0) X S dJ9_checkIndex_2 ?_
  refine wq_cS_I X S hv q280 q281 q75 ⟨by decide +kernel, by decide +kernel⟩ (nA := 3) (As := [.int v0, .int v1, va_rf none]) (by decide +kernel) rfl rfl (by simp [wv_rfc, wv_kI, wv_kJ, wv_kF, wv_kD]) hl.1 dJ9_checkIndex_3 (fun x3 w3 H locs cells slots S hv => ?_) (wq_kx X rfl)
  exact wr_iret X S rfl hv dJ9_checkIndex_6
theorem wk_J9_checkIndex {G : wv_G} (hG : wv_G0 G) {v0 : Int32} {v1 : Int32} {h : wv_H} {fr kc ks : Nat} {P : wv_R → wv_H → Prop} (hv : vc_J9_checkIndex_0 G fr P v0 v1 (h, kc, ks)) : wv_C G yJ9_checkIndex [.int v0, .int v1] h fr kc ks P := by
  refine wv_enter (lv := [(0, .int v0), (1, .int v1)]) hG (by decide +kernel) q279 (by decide) (by simp [lg_sl, wv_rfc, wv_kI, wv_kJ, wv_kF, wv_kD]) (by simp [lv_args, wv_rfc, wv_kI, wv_kJ, wv_kF, wv_kD]) ?_
  intro p e R s m args below meth c X H locs cells slots ls S hl
  exact wk_J9_checkIndex_0 X hv H locs cells slots ls S (lv_sub hl [0, 1] rfl)

def vc_J9_equals_0 (G : wv_G) (fr : Nat) (P : wv_R → wv_H → Prop) (v0 : Option Nat) (v1 : Option Nat) (w : wv_W) : Prop :=
  (v0 = v1 → narrow .boolean (.int (1 : Int32)) = .int (1 : Int32) ∧ P (.inl (some (.int (1 : Int32)))) w.1) ∧ (¬ v0 = v1 → (v0 = none → narrow .boolean (.int (0 : Int32)) = .int (0 : Int32) ∧ P (.inl (some (.int (0 : Int32)))) w.1) ∧ (¬ v0 = none → wv_cU G fr (⟨"java/lang/Object", "equals", "(Ljava/lang/Object;)Z"⟩ : MethodName) v0 [va_rf v1] w (wv_rI (fun x11 w11 => (x11 = 0 → narrow .boolean (.int (0 : Int32)) = .int (0 : Int32) ∧ P (.inl (some (.int (0 : Int32)))) w11.1) ∧ (¬ x11 = 0 → narrow .boolean (.int (1 : Int32)) = .int (1 : Int32) ∧ P (.inl (some (.int (1 : Int32)))) w11.1)) (wv_pr P))))
set_option maxHeartbeats 4000000 in
theorem wk_J9_equals_0 {G : wv_G} {p : Program} {e : Env} {R : Room} {s : State} {m : MethodId} {args : Array Value} {below : List Frame} {meth : Method} {c : Code} {fr : Nat} {P : wv_R → wv_H → Prop} (X : wv_ok G p R s m args meth c fr "java/util/Objects" cJ9_equals 2 (Option.some Jvm.ClassFile.FieldType.boolean) "equals" []) {v0 : Option Nat} {v1 : Option Nat} {w : wv_W} (hv : vc_J9_equals_0 G fr P v0 v1 w) : wv_J G p e R s m args below meth c 2 P w 0 [(0, va_rf v0), (1, va_rf v1)] [] := by
  intro H locs cells slots ls S hl
  unfold vc_J9_equals_0 at hv
  refine wq_aload_n X dJ9_equals_0 rfl (lv_at hl 0 rfl) ?_
  refine wq_aload_n X dJ9_equals_1 rfl (lv_at hl 1 rfl) ?_
  refine lv_acmp_eq (tgt := 17) X.hx X.hb dJ9_equals_2 (by decide) (fun c2 => ?_) (fun c2 => ?_)
  · have hv := hv.1 c2
    refine lv_iconst (v := (1 : Int32)) X.hx X.hb dJ9_equals_17 (by decide) ?_
    refine lv_goto (tgt := 22) X.hx X.hb dJ9_equals_18 (by decide) ?_
    exact wr_iret X S hv.1 hv.2 dJ9_equals_22
  · have hv := hv.2 c2
    refine wq_aload_n X dJ9_equals_5 rfl (lv_at hl 0 rfl) ?_
    refine wq_ifnull (tgt := 21) X dJ9_equals_6 (by decide) (fun c6 => ?_) (fun c6 => ?_)
    · have hv := hv.1 c6
      refine lv_iconst (v := (0 : Int32)) X.hx X.hb dJ9_equals_21 (by decide) ?_
      exact wr_iret X S hv.1 hv.2 dJ9_equals_22
    · have hv := hv.2 c6
      refine wq_aload_n X dJ9_equals_9 rfl (lv_at hl 0 rfl) ?_
      refine wq_aload_n X dJ9_equals_10 rfl (lv_at hl 1 rfl) ?_
      refine wq_cU_I X S hv q2564 ⟨by decide +kernel, by decide +kernel⟩ (nA := 1) (As := [va_rf v1]) (by decide +kernel) rfl rfl (by simp [wv_rfc, wv_kI, wv_kJ, wv_kF, wv_kD]) hl.1 dJ9_equals_11 (fun x11 w11 H locs cells slots S hv => ?_) (wq_kx X rfl)
      refine lv_if_eq (tgt := 21) X.hx X.hb dJ9_equals_14 (by decide) (fun c14 => ?_) (fun c14 => ?_)
      · have hv := hv.1 c14
        refine lv_iconst (v := (0 : Int32)) X.hx X.hb dJ9_equals_21 (by decide) ?_
        exact wr_iret X S hv.1 hv.2 dJ9_equals_22
      · have hv := hv.2 c14
        refine lv_iconst (v := (1 : Int32)) X.hx X.hb dJ9_equals_17 (by decide) ?_
        refine lv_goto (tgt := 22) X.hx X.hb dJ9_equals_18 (by decide) ?_
        exact wr_iret X S hv.1 hv.2 dJ9_equals_22
theorem wk_J9_equals {G : wv_G} (hG : wv_G0 G) {v0 : Option Nat} {v1 : Option Nat} {h : wv_H} {fr kc ks : Nat} {P : wv_R → wv_H → Prop} (hv : vc_J9_equals_0 G fr P v0 v1 (h, kc, ks)) : wv_C G yJ9_equals [va_rf v0, va_rf v1] h fr kc ks P := by
  refine wv_enter (lv := [(0, va_rf v0), (1, va_rf v1)]) hG (by decide +kernel) q2563 (by decide) (by simp [lg_sl, wv_rfc, wv_kI, wv_kJ, wv_kF, wv_kD]) (by simp [lv_args, wv_rfc, wv_kI, wv_kJ, wv_kF, wv_kD]) ?_
  intro p e R s m args below meth c X H locs cells slots ls S hl
  exact wk_J9_equals_0 X hv H locs cells slots ls S (lv_sub hl [0, 1] rfl)

def vc_J10_checkIndex_9 (G : wv_G) (fr : Nat) (P : wv_R → wv_H → Prop) (v2 : Option Nat) (w : wv_W) : Prop :=
  False
def vc_J10_checkIndex_0 (G : wv_G) (fr : Nat) (P : wv_R → wv_H → Prop) (v0 : Int32) (v1 : Int32) (v2 : Option Nat) (w : wv_W) : Prop :=
  (v0 < 0 → vc_J10_checkIndex_9 G fr P v2 w) ∧ (¬ v0 < 0 → (v0 < v1 → P (.inl (some (.int v0))) w.1) ∧ (¬ v0 < v1 → vc_J10_checkIndex_9 G fr P v2 w))
set_option maxHeartbeats 4000000 in
theorem wk_J10_checkIndex_9 {G : wv_G} {p : Program} {e : Env} {R : Room} {s : State} {m : MethodId} {args : Array Value} {below : List Frame} {meth : Method} {c : Code} {fr : Nat} {P : wv_R → wv_H → Prop} (X : wv_ok G p R s m args meth c fr "jdk/internal/util/Preconditions" cJ10_checkIndex 3 (Option.some Jvm.ClassFile.FieldType.int) "checkIndex" []) {v2 : Option Nat} {w : wv_W} (hv : vc_J10_checkIndex_9 G fr P v2 w) : wv_J G p e R s m args below meth c 3 P w 9 [(2, va_rf v2)] [] := by
  intro H locs cells slots ls S hl
  unfold vc_J10_checkIndex_9 at hv
  exact hv.elim
set_option maxHeartbeats 4000000 in
theorem wk_J10_checkIndex_0 {G : wv_G} {p : Program} {e : Env} {R : Room} {s : State} {m : MethodId} {args : Array Value} {below : List Frame} {meth : Method} {c : Code} {fr : Nat} {P : wv_R → wv_H → Prop} (X : wv_ok G p R s m args meth c fr "jdk/internal/util/Preconditions" cJ10_checkIndex 3 (Option.some Jvm.ClassFile.FieldType.int) "checkIndex" []) {v0 : Int32} {v1 : Int32} {v2 : Option Nat} {w : wv_W} (hv : vc_J10_checkIndex_0 G fr P v0 v1 v2 w) : wv_J G p e R s m args below meth c 3 P w 0 [(0, .int v0), (1, .int v1), (2, va_rf v2)] [] := by
  intro H locs cells slots ls S hl
  unfold vc_J10_checkIndex_0 at hv
  refine lv_iload_n X.hx X.hb dJ10_checkIndex_0 rfl (lv_at hl 0 rfl) ?_
  refine lv_if_lt (tgt := 9) X.hx X.hb dJ10_checkIndex_1 (by decide) (fun c1 => ?_) (fun c1 => ?_)
  · have hv := hv.1 c1
    exact wk_J10_checkIndex_9 X  hv H locs cells slots ls S (lv_sub hl [2] rfl)
  · have hv := hv.2 c1
    refine lv_iload_n X.hx X.hb dJ10_checkIndex_4 rfl (lv_at hl 0 rfl) ?_
    refine lv_iload_n X.hx X.hb dJ10_checkIndex_5 rfl (lv_at hl 1 rfl) ?_
    refine lv_icmp_lt (tgt := 16) X.hx X.hb dJ10_checkIndex_6 (by decide) (fun c6 => ?_) (fun c6 => ?_)
    · have hv := hv.1 c6
      refine lv_iload_n X.hx X.hb dJ10_checkIndex_16 rfl (lv_at hl 0 rfl) ?_
      exact wr_iret X S rfl hv dJ10_checkIndex_17
    · have hv := hv.2 c6
      exact wk_J10_checkIndex_9 X  hv H locs cells slots ls S (lv_sub hl [2] rfl)
theorem wk_J10_checkIndex {G : wv_G} (hG : wv_G0 G) {v0 : Int32} {v1 : Int32} {v2 : Option Nat} {h : wv_H} {fr kc ks : Nat} {P : wv_R → wv_H → Prop} (hv : vc_J10_checkIndex_0 G fr P v0 v1 v2 (h, kc, ks)) : wv_C G yJ10_checkIndex [.int v0, .int v1, va_rf v2] h fr kc ks P := by
  refine wv_enter (lv := [(0, .int v0), (1, .int v1), (2, va_rf v2)]) hG (by decide +kernel) q282 (by decide) (by simp [lg_sl, wv_rfc, wv_kI, wv_kJ, wv_kF, wv_kD]) (by simp [lv_args, wv_rfc, wv_kI, wv_kJ, wv_kF, wv_kD]) ?_
  intro p e R s m args below meth c X H locs cells slots ls S hl
  exact wk_J10_checkIndex_0 X hv H locs cells slots ls S (lv_sub hl [0, 1, 2] rfl)

def vc_J12_newLength_21 (G : wv_G) (fr : Nat) (P : wv_R → wv_H → Prop) (v0 : Int32) (w : wv_W) : Prop :=
  False
def vc_J12_newLength_0 (G : wv_G) (fr : Nat) (P : wv_R → wv_H → Prop) (v0 : Int32) (v1 : Int32) (v2 : Int32) (w : wv_W) : Prop :=
  1 ≤ fr ∧ (((v0 + (if v1 < v2 then v2 else v1)) ≤ (0 : Int32) → vc_J12_newLength_21 G fr P v0 w) ∧ (¬ (v0 + (if v1 < v2 then v2 else v1)) ≤ (0 : Int32) → ((2147483639 : Int32) < (v0 + (if v1 < v2 then v2 else v1)) → vc_J12_newLength_21 G fr P v0 w) ∧ (¬ (2147483639 : Int32) < (v0 + (if v1 < v2 then v2 else v1)) → P (.inl (some (.int (v0 + (if v1 < v2 then v2 else v1))))) w.1)))
set_option maxHeartbeats 4000000 in
theorem wk_J12_newLength_21 {G : wv_G} {p : Program} {e : Env} {R : Room} {s : State} {m : MethodId} {args : Array Value} {below : List Frame} {meth : Method} {c : Code} {fr : Nat} {P : wv_R → wv_H → Prop} (X : wv_ok G p R s m args meth c fr "jdk/internal/util/ArraysSupport" cJ12_newLength 4 (Option.some Jvm.ClassFile.FieldType.int) "newLength" []) {v0 : Int32} {w : wv_W} (hv : vc_J12_newLength_21 G fr P v0 w) : wv_J G p e R s m args below meth c 4 P w 21 [(0, .int v0)] [] := by
  intro H locs cells slots ls S hl
  unfold vc_J12_newLength_21 at hv
  exact hv.elim
set_option maxHeartbeats 4000000 in
theorem wk_J12_newLength_0 {G : wv_G} {p : Program} {e : Env} {R : Room} {s : State} {m : MethodId} {args : Array Value} {below : List Frame} {meth : Method} {c : Code} {fr : Nat} {P : wv_R → wv_H → Prop} (X : wv_ok G p R s m args meth c fr "jdk/internal/util/ArraysSupport" cJ12_newLength 4 (Option.some Jvm.ClassFile.FieldType.int) "newLength" []) {v0 : Int32} {v1 : Int32} {v2 : Int32} {w : wv_W} (hv : vc_J12_newLength_0 G fr P v0 v1 v2 w) : wv_J G p e R s m args below meth c 4 P w 0 [(0, .int v0), (1, .int v1), (2, .int v2)] [] := by
  intro H locs cells slots ls S hl
  unfold vc_J12_newLength_0 at hv
  refine lv_iload_n X.hx X.hb dJ12_newLength_0 rfl (lv_at hl 0 rfl) ?_
  refine lv_iload_n X.hx X.hb dJ12_newLength_1 rfl (lv_at hl 1 rfl) ?_
  refine lv_iload_n X.hx X.hb dJ12_newLength_2 rfl (lv_at hl 2 rfl) ?_
  refine wq_mmax X S hv q482 (by simp [wv_rfc, wv_kI, wv_kJ, wv_kF, wv_kD]) hl.1 dJ12_newLength_3 (fun hv => ?_)
  refine lv_iadd X.hx X.hb dJ12_newLength_6 ?_
  refine lv_istore_n X.hx X.hb (i := 3) (lv' := [(3, .int (v0 + (if v1 < v2 then v2 else v1))), (0, .int v0), (1, .int v1), (2, .int v2)]) dJ12_newLength_7 rfl hl (by decide) (by simp [wv_rfc, wv_kI, wv_kJ, wv_kF, wv_kD]) (fun ls hl => ?_)
  refine lv_iconst (v := (0 : Int32)) X.hx X.hb dJ12_newLength_8 (by decide) ?_
  refine lv_iload_n X.hx X.hb dJ12_newLength_9 rfl (lv_at hl 0 rfl) ?_
  refine lv_icmp_ge (tgt := 21) X.hx X.hb dJ12_newLength_10 (by decide) (fun c10 => ?_) (fun c10 => ?_)
  · have hv := hv.1 c10
    exact wk_J12_newLength_21 X  hv H locs cells slots ls S (lv_sub hl [1] rfl)
  · have hv := hv.2 c10
    refine lv_iload_n X.hx X.hb dJ12_newLength_13 rfl (lv_at hl 0 rfl) ?_
    refine lv_ldc X.hx X.hb X.hown (X.hts _ q485) dJ12_newLength_14 ?_
    refine lv_icmp_gt (tgt := 21) X.hx X.hb dJ12_newLength_16 (by decide) (fun c16 => ?_) (fun c16 => ?_)
    · have hv := hv.1 c16
      exact wk_J12_newLength_21 X  hv H locs cells slots ls S (lv_sub hl [1] rfl)
    · have hv := hv.2 c16
      refine lv_iload_n X.hx X.hb dJ12_newLength_19 rfl (lv_at hl 0 rfl) ?_
      exact wr_iret X S rfl hv dJ12_newLength_20
theorem wk_J12_newLength {G : wv_G} (hG : wv_G0 G) {v0 : Int32} {v1 : Int32} {v2 : Int32} {h : wv_H} {fr kc ks : Nat} {P : wv_R → wv_H → Prop} (hv : vc_J12_newLength_0 G fr P v0 v1 v2 (h, kc, ks)) : wv_C G yJ12_newLength [.int v0, .int v1, .int v2] h fr kc ks P := by
  refine wv_enter (lv := [(0, .int v0), (1, .int v1), (2, .int v2)]) hG (by decide +kernel) q481 (by decide) (by simp [lg_sl, wv_rfc, wv_kI, wv_kJ, wv_kF, wv_kD]) (by simp [lv_args, wv_rfc, wv_kI, wv_kJ, wv_kF, wv_kD]) ?_
  intro p e R s m args below meth c X H locs cells slots ls S hl
  exact wk_J12_newLength_0 X hv H locs cells slots ls S (lv_sub hl [0, 1, 2] rfl)

def vc_J14_copyOf_2_0 (G : wv_G) (fr : Nat) (P : wv_R → wv_H → Prop) (v0 : Option Nat) (v1 : Int32) (w : wv_W) : Prop :=
  wv_gc G fr w v0 "[Ljava/lang/Object;" (wv_c0 G fr yJ14_copyOf_3 [va_rf v0, .int v1, va_rf (some (wv_mir G "[Ljava/lang/Object;"))] w (wv_rA (fun x6 w6 => P (.inl (some (va_rf x6))) w6.1) (wv_pr P)))
set_option maxHeartbeats 4000000 in
theorem wk_J14_copyOf_2_0 {G : wv_G} {p : Program} {e : Env} {R : Room} {s : State} {m : MethodId} {args : Array Value} {below : List Frame} {meth : Method} {c : Code} {fr : Nat} {P : wv_R → wv_H → Prop} (X : wv_ok G p R s m args meth c fr "java/util/Arrays" cJ14_copyOf_2 2 (Option.some (Jvm.ClassFile.FieldType.array (Jvm.ClassFile.FieldType.object "java/lang/Object"))) "copyOf" []) {v0 : Option Nat} {v1 : Int32} {w : wv_W} (hv : vc_J14_copyOf_2_0 G fr P v0 v1 w) : wv_J G p e R s m args below meth c 2 P w 0 [(0, va_rf v0), (1, .int v1)] [] := by
  intro H locs cells slots ls S hl
  unfold vc_J14_copyOf_2_0 at hv
  refine wq_aload_n X dJ14_copyOf_2_0 rfl (lv_at hl 0 rfl) ?_
  refine lv_iload_n X.hx X.hb dJ14_copyOf_2_1 rfl (lv_at hl 1 rfl) ?_
  refine wq_aload_n X dJ14_copyOf_2_2 rfl (lv_at hl 0 rfl) ?_
  refine wq_gc X S hv (wv_mirO X.hG) q771 q2644 (by simp [wv_rfc, wv_kI, wv_kJ, wv_kF, wv_kD]) hl.1 dJ14_copyOf_2_3 (fun hv => ?_)
  refine wq_cS_A X S hv q817 q818 q80 ⟨by decide +kernel, by decide +kernel⟩ (nA := 3) (As := [va_rf v0, .int v1, va_rf (some (wv_mir G "[Ljava/lang/Object;"))]) (by decide +kernel) rfl rfl (by simp [wv_rfc, wv_kI, wv_kJ, wv_kF, wv_kD]) hl.1 dJ14_copyOf_2_6 (fun x6 w6 H locs cells slots S hv => ?_) (wq_kx X rfl)
  exact wr_aret X S (Or.inr ⟨_, rfl⟩) hv dJ14_copyOf_2_9
theorem wk_J14_copyOf_2 {G : wv_G} (hG : wv_G0 G) {v0 : Option Nat} {v1 : Int32} {h : wv_H} {fr kc ks : Nat} {P : wv_R → wv_H → Prop} (hv : vc_J14_copyOf_2_0 G fr P v0 v1 (h, kc, ks)) : wv_C G yJ14_copyOf_2 [va_rf v0, .int v1] h fr kc ks P := by
  refine wv_enter (lv := [(0, va_rf v0), (1, .int v1)]) hG (by decide +kernel) q770 (by decide) (by simp [lg_sl, wv_rfc, wv_kI, wv_kJ, wv_kF, wv_kD]) (by simp [lv_args, wv_rfc, wv_kI, wv_kJ, wv_kF, wv_kD]) ?_
  intro p e R s m args below meth c X H locs cells slots ls S hl
  exact wk_J14_copyOf_2_0 X hv H locs cells slots ls S (lv_sub hl [0, 1] rfl)

def vc_J14_copyOf_3_0 (G : wv_G) (fr : Nat) (P : wv_R → wv_H → Prop) (v0 : Option Nat) (v1 : Int32) (v2 : Option Nat) (w : wv_W) : Prop :=
  (¬ v2 = (some (wv_mir G "[Ljava/lang/Object;")) → False) ∧ (v2 = (some (wv_mir G "[Ljava/lang/Object;")) → wv_na G w v1 (fun N => wo_q (wv_A G 5) N (fun _ => none)) (fun a7 w7 => wv_lenA G w7 v0 (fun x30 => 1 ≤ fr ∧ (wv_ac G fr w7 v0 (0 : Int32) (some a7) (0 : Int32) (if v1 < x30 then v1 else x30) (fun w35 => P (.inl (some (va_rf (some a7)))) w35.1)))))
set_option maxHeartbeats 4000000 in
theorem wk_J14_copyOf_3_0 {G : wv_G} {p : Program} {e : Env} {R : Room} {s : State} {m : MethodId} {args : Array Value} {below : List Frame} {meth : Method} {c : Code} {fr : Nat} {P : wv_R → wv_H → Prop} (X : wv_ok G p R s m args meth c fr "java/util/Arrays" cJ14_copyOf_3 4 (Option.some (Jvm.ClassFile.FieldType.array (Jvm.ClassFile.FieldType.object "java/lang/Object"))) "copyOf" []) {v0 : Option Nat} {v1 : Int32} {v2 : Option Nat} {w : wv_W} (hv : vc_J14_copyOf_3_0 G fr P v0 v1 v2 w) : wv_J G p e R s m args below meth c 4 P w 0 [(0, va_rf v0), (1, .int v1), (2, va_rf v2)] [] := by
  intro H locs cells slots ls S hl
  unfold vc_J14_copyOf_3_0 at hv
  refine wq_aload_n X dJ14_copyOf_3_0 rfl (lv_at hl 2 rfl) ?_
  refine wq_ldcM X S (wv_mirO X.hG) q820 dJ14_copyOf_3_1 ?_
  refine lv_acmp_ne (tgt := 13) X.hx X.hb dJ14_copyOf_3_3 (by decide) (fun c3 => ?_) (fun c3 => ?_)
  · have hv := hv.1 c3
    exact hv.elim
  · have hv := hv.2 c3
    refine lv_iload_n X.hx X.hb dJ14_copyOf_3_6 rfl (lv_at hl 1 rfl) ?_
    refine wq_nwq5 X S hv q822 q821 dJ14_copyOf_3_7 (fun a7 w7 H cells slots S hv => ?_)
    refine lv_goto (tgt := 24) X.hx X.hb dJ14_copyOf_3_10 (by decide) ?_
    refine wq_astore_n X (i := 3) (lv' := [(3, va_rf (some a7)), (0, va_rf v0), (1, .int v1), (2, va_rf v2)]) dJ14_copyOf_3_24 rfl hl (by decide) (by simp [wv_rfc, wv_kI, wv_kJ, wv_kF, wv_kD]) (fun ls hl => ?_)
    refine wq_aload_n X dJ14_copyOf_3_25 rfl (lv_at hl 1 rfl) ?_
    refine lv_iconst (v := (0 : Int32)) X.hx X.hb dJ14_copyOf_3_26 (by decide) ?_
    refine wq_aload_n X dJ14_copyOf_3_27 rfl (lv_at hl 0 rfl) ?_
    refine lv_iconst (v := (0 : Int32)) X.hx X.hb dJ14_copyOf_3_28 (by decide) ?_
    refine wq_aload_n X dJ14_copyOf_3_29 rfl (lv_at hl 1 rfl) ?_
    refine wq_lenA X S hv dJ14_copyOf_3_30 (fun x30 hv => ?_)
    refine lv_iload_n X.hx X.hb dJ14_copyOf_3_31 rfl (lv_at hl 2 rfl) ?_
    refine wq_mmin X S hv q500 (by simp [wv_rfc, wv_kI, wv_kJ, wv_kF, wv_kD]) hl.1 dJ14_copyOf_3_32 (fun hv => ?_)
    refine wq_ac X S hv q503 (by simp [wv_rfc, wv_kI, wv_kJ, wv_kF, wv_kD]) hl.1 dJ14_copyOf_3_35 (fun w35 H locs S hv => ?_)
    refine wq_aload_n X dJ14_copyOf_3_38 rfl (lv_at hl 0 rfl) ?_
    exact wr_aret X S (Or.inr ⟨_, rfl⟩) hv dJ14_copyOf_3_39
theorem wk_J14_copyOf_3 {G : wv_G} (hG : wv_G0 G) {v0 : Option Nat} {v1 : Int32} {v2 : Option Nat} {h : wv_H} {fr kc ks : Nat} {P : wv_R → wv_H → Prop} (hv : vc_J14_copyOf_3_0 G fr P v0 v1 v2 (h, kc, ks)) : wv_C G yJ14_copyOf_3 [va_rf v0, .int v1, va_rf v2] h fr kc ks P := by
  refine wv_enter (lv := [(0, va_rf v0), (1, .int v1), (2, va_rf v2)]) hG (by decide +kernel) q819 (by decide) (by simp [lg_sl, wv_rfc, wv_kI, wv_kJ, wv_kF, wv_kD]) (by simp [lv_args, wv_rfc, wv_kI, wv_kJ, wv_kF, wv_kD]) ?_
  intro p e R s m args below meth c X H locs cells slots ls S hl
  exact wk_J14_copyOf_3_0 X hv H locs cells slots ls S (lv_sub hl [0, 1, 2] rfl)

def vc_J8_length_0 (G : wv_G) (fr : Nat) (P : wv_R → wv_H → Prop) (v0 : Option Nat) (w : wv_W) : Prop :=
  wv_sV G v0 (fun x1 => wv_bL G x1 (fun x4 => wv_cV G fr yJ8_coder v0 [] w (wv_rI (fun x6 w6 => P (.inl (some (.int (x4 >>> (x6 &&& 31))))) w6.1) (wv_pr P))))
set_option maxHeartbeats 4000000 in
theorem wk_J8_length_0 {G : wv_G} {p : Program} {e : Env} {R : Room} {s : State} {m : MethodId} {args : Array Value} {below : List Frame} {meth : Method} {c : Code} {fr : Nat} {P : wv_R → wv_H → Prop} (X : wv_ok G p R s m args meth c fr "java/lang/String" cJ8_length 1 (Option.some Jvm.ClassFile.FieldType.int) "length" []) {v0 : Option Nat} {w : wv_W} (hv : vc_J8_length_0 G fr P v0 w) : wv_J G p e R s m args below meth c 1 P w 0 [(0, va_rf v0)] [] := by
  intro H locs cells slots ls S hl
  unfold vc_J8_length_0 at hv
  refine wq_aload_n X dJ8_length_0 rfl (lv_at hl 0 rfl) ?_
  refine wq_sV X S hv q674 dJ8_length_1 (fun x1 hv => ?_)
  refine wq_bL X S hv dJ8_length_4 (fun x4 hv => ?_)
  refine wq_aload_n X dJ8_length_5 rfl (lv_at hl 0 rfl) ?_
  refine wq_cV_I X S hv q532 q533 q534 q73 ⟨by decide +kernel, by decide +kernel⟩ (nA := 0) (As := []) (by decide +kernel) rfl rfl (by simp [wv_rfc, wv_kI, wv_kJ, wv_kF, wv_kD]) hl.1 dJ8_length_6 (fun x6 w6 H locs cells slots S hv => ?_) (wq_kx X rfl)
  refine lv_ishr X.hx X.hb dJ8_length_9 ?_
  exact wr_iret X S rfl hv dJ8_length_10
theorem wk_J8_length {G : wv_G} (hG : wv_G0 G) {v0 : Option Nat} {h : wv_H} {fr kc ks : Nat} {P : wv_R → wv_H → Prop} (hv : vc_J8_length_0 G fr P v0 (h, kc, ks)) : wv_C G yJ8_length [va_rf v0] h fr kc ks P := by
  refine wv_enter (lv := [(0, va_rf v0)]) hG (by decide +kernel) q531 (by decide) (by simp [lg_sl, wv_rfc, wv_kI, wv_kJ, wv_kF, wv_kD]) (by simp [lv_args, wv_rfc, wv_kI, wv_kJ, wv_kF, wv_kD]) ?_
  intro p e R s m args below meth c X H locs cells slots ls S hl
  exact wk_J8_length_0 X hv H locs cells slots ls S (lv_sub hl [0] rfl)

def vc_J8_charAt_0 (G : wv_G) (fr : Nat) (P : wv_R → wv_H → Prop) (v0 : Option Nat) (v1 : Int32) (w : wv_W) : Prop :=
  wv_cV G fr yJ8_isLatin1 v0 [] w (wv_rI (fun x1 w1 => (x1 = 0 → False) ∧ (¬ x1 = 0 → wv_sV G v0 (fun x8 => wv_c0 G fr yJ17_charAt [va_rf x8, .int v1] w1 (wv_rI (fun x12 w12 => narrow .char (.int x12) = .int x12 ∧ P (.inl (some (.int x12))) w12.1) (wv_pr P))))) (wv_pr P))
set_option maxHeartbeats 4000000 in
theorem wk_J8_charAt_0 {G : wv_G} {p : Program} {e : Env} {R : Room} {s : State} {m : MethodId} {args : Array Value} {below : List Frame} {meth : Method} {c : Code} {fr : Nat} {P : wv_R → wv_H → Prop} (X : wv_ok G p R s m args meth c fr "java/lang/String" cJ8_charAt 2 (Option.some Jvm.ClassFile.FieldType.char) "charAt" []) {v0 : Option Nat} {v1 : Int32} {w : wv_W} (hv : vc_J8_charAt_0 G fr P v0 v1 w) : wv_J G p e R s m args below meth c 2 P w 0 [(0, va_rf v0), (1, .int v1)] [] := by
  intro H locs cells slots ls S hl
  unfold vc_J8_charAt_0 at hv
  refine wq_aload_n X dJ8_charAt_0 rfl (lv_at hl 0 rfl) ?_
  refine wq_cV_I X S hv q322 q323 q324 q73 ⟨by decide +kernel, by decide +kernel⟩ (nA := 0) (As := []) (by decide +kernel) rfl rfl (by simp [wv_rfc, wv_kI, wv_kJ, wv_kF, wv_kD]) hl.1 dJ8_charAt_1 (fun x1 w1 H locs cells slots S hv => ?_) (wq_kx X rfl)
  refine lv_if_eq (tgt := 16) X.hx X.hb dJ8_charAt_4 (by decide) (fun c4 => ?_) (fun c4 => ?_)
  · have hv := hv.1 c4
    exact hv.elim
  · have hv := hv.2 c4
    refine wq_aload_n X dJ8_charAt_7 rfl (lv_at hl 0 rfl) ?_
    refine wq_sV X S hv q674 dJ8_charAt_8 (fun x8 hv => ?_)
    refine lv_iload_n X.hx X.hb dJ8_charAt_11 rfl (lv_at hl 1 rfl) ?_
    refine wq_cS_I X S hv q1700 q1701 q96 ⟨by decide +kernel, by decide +kernel⟩ (nA := 2) (As := [va_rf x8, .int v1]) (by decide +kernel) rfl rfl (by simp [wv_rfc, wv_kI, wv_kJ, wv_kF, wv_kD]) hl.1 dJ8_charAt_12 (fun x12 w12 H locs cells slots S hv => ?_) (wq_kx X rfl)
    exact wr_iret X S hv.1 hv.2 dJ8_charAt_15
theorem wk_J8_charAt {G : wv_G} (hG : wv_G0 G) {v0 : Option Nat} {v1 : Int32} {h : wv_H} {fr kc ks : Nat} {P : wv_R → wv_H → Prop} (hv : vc_J8_charAt_0 G fr P v0 v1 (h, kc, ks)) : wv_C G yJ8_charAt [va_rf v0, .int v1] h fr kc ks P := by
  refine wv_enter (lv := [(0, va_rf v0), (1, .int v1)]) hG (by decide +kernel) q1699 (by decide) (by simp [lg_sl, wv_rfc, wv_kI, wv_kJ, wv_kF, wv_kD]) (by simp [lv_args, wv_rfc, wv_kI, wv_kJ, wv_kF, wv_kD]) ?_
  intro p e R s m args below meth c X H locs cells slots ls S hl
  exact wk_J8_charAt_0 X hv H locs cells slots ls S (lv_sub hl [0, 1] rfl)

def vc_J8_hashCode_0 (G : wv_G) (fr : Nat) (P : wv_R → wv_H → Prop) (v0 : Option Nat) (w : wv_W) : Prop :=
  wv_sH G v0 (fun x1 => (¬ x1 = 0 → P (.inl (some (.int x1))) w.1) ∧ (x1 = 0 → False))
set_option maxHeartbeats 4000000 in
theorem wk_J8_hashCode_0 {G : wv_G} {p : Program} {e : Env} {R : Room} {s : State} {m : MethodId} {args : Array Value} {below : List Frame} {meth : Method} {c : Code} {fr : Nat} {P : wv_R → wv_H → Prop} (X : wv_ok G p R s m args meth c fr "java/lang/String" cJ8_hashCode 2 (Option.some Jvm.ClassFile.FieldType.int) "hashCode" []) {v0 : Option Nat} {w : wv_W} (hv : vc_J8_hashCode_0 G fr P v0 w) : wv_J G p e R s m args below meth c 2 P w 0 [(0, va_rf v0)] [] := by
  intro H locs cells slots ls S hl
  unfold vc_J8_hashCode_0 at hv
  refine wq_aload_n X dJ8_hashCode_0 rfl (lv_at hl 0 rfl) ?_
  refine wq_sH X S hv q676 dJ8_hashCode_1 (fun x1 hv => ?_)
  refine lv_istore_n X.hx X.hb (i := 1) (lv' := [(1, .int x1), (0, va_rf v0)]) dJ8_hashCode_4 rfl hl (by decide) (by simp [wv_rfc, wv_kI, wv_kJ, wv_kF, wv_kD]) (fun ls hl => ?_)
  refine lv_iload_n X.hx X.hb dJ8_hashCode_5 rfl (lv_at hl 0 rfl) ?_
  refine lv_if_ne (tgt := 58) X.hx X.hb dJ8_hashCode_6 (by decide) (fun c6 => ?_) (fun c6 => ?_)
  · have hv := hv.1 c6
    refine lv_iload_n X.hx X.hb dJ8_hashCode_58 rfl (lv_at hl 0 rfl) ?_
    exact wr_iret X S rfl hv dJ8_hashCode_59
  · have hv := hv.2 c6
    exact hv.elim
theorem wk_J8_hashCode {G : wv_G} (hG : wv_G0 G) {v0 : Option Nat} {h : wv_H} {fr kc ks : Nat} {P : wv_R → wv_H → Prop} (hv : vc_J8_hashCode_0 G fr P v0 (h, kc, ks)) : wv_C G yJ8_hashCode [va_rf v0] h fr kc ks P := by
  refine wv_enter (lv := [(0, va_rf v0)]) hG (by decide +kernel) q321 (by decide) (by simp [lg_sl, wv_rfc, wv_kI, wv_kJ, wv_kF, wv_kD]) (by simp [lv_args, wv_rfc, wv_kI, wv_kJ, wv_kF, wv_kD]) ?_
  intro p e R s m args below meth c X H locs cells slots ls S hl
  exact wk_J8_hashCode_0 X hv H locs cells slots ls S (lv_sub hl [0] rfl)

def vc_J8_equals_0 (G : wv_G) (fr : Nat) (P : wv_R → wv_H → Prop) (v0 : Option Nat) (v1 : Option Nat) (w : wv_W) : Prop :=
  (¬ v0 = v1 → False) ∧ (v0 = v1 → narrow .boolean (.int (1 : Int32)) = .int (1 : Int32) ∧ P (.inl (some (.int (1 : Int32)))) w.1)
set_option maxHeartbeats 4000000 in
theorem wk_J8_equals_0 {G : wv_G} {p : Program} {e : Env} {R : Room} {s : State} {m : MethodId} {args : Array Value} {below : List Frame} {meth : Method} {c : Code} {fr : Nat} {P : wv_R → wv_H → Prop} (X : wv_ok G p R s m args meth c fr "java/lang/String" cJ8_equals 3 (Option.some Jvm.ClassFile.FieldType.boolean) "equals" []) {v0 : Option Nat} {v1 : Option Nat} {w : wv_W} (hv : vc_J8_equals_0 G fr P v0 v1 w) : wv_J G p e R s m args below meth c 3 P w 0 [(0, va_rf v0), (1, va_rf v1)] [] := by
  intro H locs cells slots ls S hl
  unfold vc_J8_equals_0 at hv
  refine wq_aload_n X dJ8_equals_0 rfl (lv_at hl 0 rfl) ?_
  refine wq_aload_n X dJ8_equals_1 rfl (lv_at hl 1 rfl) ?_
  refine lv_acmp_ne (tgt := 7) X.hx X.hb dJ8_equals_2 (by decide) (fun c2 => ?_) (fun c2 => ?_)
  · have hv := hv.1 c2
    exact hv.elim
  · have hv := hv.2 c2
    refine lv_iconst (v := (1 : Int32)) X.hx X.hb dJ8_equals_5 (by decide) ?_
    exact wr_iret X S hv.1 hv.2 dJ8_equals_6
theorem wk_J8_equals {G : wv_G} (hG : wv_G0 G) {v0 : Option Nat} {v1 : Option Nat} {h : wv_H} {fr kc ks : Nat} {P : wv_R → wv_H → Prop} (hv : vc_J8_equals_0 G fr P v0 v1 (h, kc, ks)) : wv_C G yJ8_equals [va_rf v0, va_rf v1] h fr kc ks P := by
  refine wv_enter (lv := [(0, va_rf v0), (1, va_rf v1)]) hG (by decide +kernel) q695 (by decide) (by simp [lg_sl, wv_rfc, wv_kI, wv_kJ, wv_kF, wv_kD]) (by simp [lv_args, wv_rfc, wv_kI, wv_kJ, wv_kF, wv_kD]) ?_
  intro p e R s m args below meth c X H locs cells slots ls S hl
  exact wk_J8_equals_0 X hv H locs cells slots ls S (lv_sub hl [0, 1] rfl)

def vc_J8_isLatin1_0 (G : wv_G) (fr : Nat) (P : wv_R → wv_H → Prop) (v0 : Option Nat) (w : wv_W) : Prop :=
  ((1 : Int32) = 0 → narrow .boolean (.int (0 : Int32)) = .int (0 : Int32) ∧ P (.inl (some (.int (0 : Int32)))) w.1) ∧ (¬ (1 : Int32) = 0 → wv_sC G v0 (fun x7 => (¬ x7 = 0 → narrow .boolean (.int (0 : Int32)) = .int (0 : Int32) ∧ P (.inl (some (.int (0 : Int32)))) w.1) ∧ (x7 = 0 → narrow .boolean (.int (1 : Int32)) = .int (1 : Int32) ∧ P (.inl (some (.int (1 : Int32)))) w.1)))
set_option maxHeartbeats 4000000 in
theorem wk_J8_isLatin1_0 {G : wv_G} {p : Program} {e : Env} {R : Room} {s : State} {m : MethodId} {args : Array Value} {below : List Frame} {meth : Method} {c : Code} {fr : Nat} {P : wv_R → wv_H → Prop} (X : wv_ok G p R s m args meth c fr "java/lang/String" cJ8_isLatin1 1 (Option.some Jvm.ClassFile.FieldType.boolean) "isLatin1" []) {v0 : Option Nat} {w : wv_W} (hv : vc_J8_isLatin1_0 G fr P v0 w) : wv_J G p e R s m args below meth c 1 P w 0 [(0, va_rf v0)] [] := by
  intro H locs cells slots ls S hl
  unfold vc_J8_isLatin1_0 at hv
  refine wr_gets X S (wv_compact X.hG q327 (lw_all_tbl q73)) q326 dJ8_isLatin1_0 ?_
  refine lv_if_eq (tgt := 17) X.hx X.hb dJ8_isLatin1_3 (by decide) (fun c3 => ?_) (fun c3 => ?_)
  · have hv := hv.1 c3
    refine lv_iconst (v := (0 : Int32)) X.hx X.hb dJ8_isLatin1_17 (by decide) ?_
    exact wr_iret X S hv.1 hv.2 dJ8_isLatin1_18
  · have hv := hv.2 c3
    refine wq_aload_n X dJ8_isLatin1_6 rfl (lv_at hl 0 rfl) ?_
    refine wq_sC X S hv q675 dJ8_isLatin1_7 (fun x7 hv => ?_)
    refine lv_if_ne (tgt := 17) X.hx X.hb dJ8_isLatin1_10 (by decide) (fun c10 => ?_) (fun c10 => ?_)
    · have hv := hv.1 c10
      refine lv_iconst (v := (0 : Int32)) X.hx X.hb dJ8_isLatin1_17 (by decide) ?_
      exact wr_iret X S hv.1 hv.2 dJ8_isLatin1_18
    · have hv := hv.2 c10
      refine lv_iconst (v := (1 : Int32)) X.hx X.hb dJ8_isLatin1_13 (by decide) ?_
      refine lv_goto (tgt := 18) X.hx X.hb dJ8_isLatin1_14 (by decide) ?_
      exact wr_iret X S hv.1 hv.2 dJ8_isLatin1_18
theorem wk_J8_isLatin1 {G : wv_G} (hG : wv_G0 G) {v0 : Option Nat} {h : wv_H} {fr kc ks : Nat} {P : wv_R → wv_H → Prop} (hv : vc_J8_isLatin1_0 G fr P v0 (h, kc, ks)) : wv_C G yJ8_isLatin1 [va_rf v0] h fr kc ks P := by
  refine wv_enter (lv := [(0, va_rf v0)]) hG (by decide +kernel) q325 (by decide) (by simp [lg_sl, wv_rfc, wv_kI, wv_kJ, wv_kF, wv_kD]) (by simp [lv_args, wv_rfc, wv_kI, wv_kJ, wv_kF, wv_kD]) ?_
  intro p e R s m args below meth c X H locs cells slots ls S hl
  exact wk_J8_isLatin1_0 X hv H locs cells slots ls S (lv_sub hl [0] rfl)

def vc_J8_coder_0 (G : wv_G) (fr : Nat) (P : wv_R → wv_H → Prop) (v0 : Option Nat) (w : wv_W) : Prop :=
  ((1 : Int32) = 0 → False) ∧ (¬ (1 : Int32) = 0 → wv_sC G v0 (fun x7 => narrow .byte (.int x7) = .int x7 ∧ P (.inl (some (.int x7))) w.1))
set_option maxHeartbeats 4000000 in
theorem wk_J8_coder_0 {G : wv_G} {p : Program} {e : Env} {R : Room} {s : State} {m : MethodId} {args : Array Value} {below : List Frame} {meth : Method} {c : Code} {fr : Nat} {P : wv_R → wv_H → Prop} (X : wv_ok G p R s m args meth c fr "java/lang/String" cJ8_coder 1 (Option.some Jvm.ClassFile.FieldType.byte) "coder" []) {v0 : Option Nat} {w : wv_W} (hv : vc_J8_coder_0 G fr P v0 w) : wv_J G p e R s m args below meth c 1 P w 0 [(0, va_rf v0)] [] := by
  intro H locs cells slots ls S hl
  unfold vc_J8_coder_0 at hv
  refine wr_gets X S (wv_compact X.hG q327 (lw_all_tbl q73)) q326 dJ8_coder_0 ?_
  refine lv_if_eq (tgt := 13) X.hx X.hb dJ8_coder_3 (by decide) (fun c3 => ?_) (fun c3 => ?_)
  · have hv := hv.1 c3
    exact hv.elim
  · have hv := hv.2 c3
    refine wq_aload_n X dJ8_coder_6 rfl (lv_at hl 0 rfl) ?_
    refine wq_sC X S hv q675 dJ8_coder_7 (fun x7 hv => ?_)
    refine lv_goto (tgt := 14) X.hx X.hb dJ8_coder_10 (by decide) ?_
    exact wr_iret X S hv.1 hv.2 dJ8_coder_14
theorem wk_J8_coder {G : wv_G} (hG : wv_G0 G) {v0 : Option Nat} {h : wv_H} {fr kc ks : Nat} {P : wv_R → wv_H → Prop} (hv : vc_J8_coder_0 G fr P v0 (h, kc, ks)) : wv_C G yJ8_coder [va_rf v0] h fr kc ks P := by
  refine wv_enter (lv := [(0, va_rf v0)]) hG (by decide +kernel) q535 (by decide) (by simp [lg_sl, wv_rfc, wv_kI, wv_kJ, wv_kF, wv_kD]) (by simp [lv_args, wv_rfc, wv_kI, wv_kJ, wv_kF, wv_kD]) ?_
  intro p e R s m args below meth c X H locs cells slots ls S hl
  exact wk_J8_coder_0 X hv H locs cells slots ls S (lv_sub hl [0] rfl)

def vc_J8_checkIndex_0 (G : wv_G) (fr : Nat) (P : wv_R → wv_H → Prop) (v0 : Int32) (v1 : Int32) (w : wv_W) : Prop :=
  (∀ x2 : Option Nat, wv_c0 G fr yJ10_checkIndex [.int v0, .int v1, va_rf x2] w (wv_rI (fun x5 w5 => P (.inl none) w5.1) (wv_pr P)))
set_option maxHeartbeats 4000000 in
theorem wk_J8_checkIndex_0 {G : wv_G} {p : Program} {e : Env} {R : Room} {s : State} {m : MethodId} {args : Array Value} {below : List Frame} {meth : Method} {c : Code} {fr : Nat} {P : wv_R → wv_H → Prop} (X : wv_ok G p R s m args meth c fr "java/lang/String" cJ8_checkIndex 2 (Option.none : Option Jvm.ClassFile.FieldType) "checkIndex" []) {v0 : Int32} {v1 : Int32} {w : wv_W} (hv : vc_J8_checkIndex_0 G fr P v0 v1 w) : wv_J G p e R s m args below meth c 2 P w 0 [(0, .int v0), (1, .int v1)] [] := by
  intro H locs cells slots ls S hl
  unfold vc_J8_checkIndex_0 at hv
  refine lv_iload_n X.hx X.hb dJ8_checkIndex_0 rfl (lv_at hl 0 rfl) ?_
  refine lv_iload_n X.hx X.hb dJ8_checkIndex_1 rfl (lv_at hl 1 rfl) ?_
  refine wq_gsQ X S hv (wv_fmt X.hG q521 (lw_all_tbl q75)) q520 dJ8_checkIndex_2 (fun x2 hv => ?_)
  refine wq_cS_I X S hv q1706 q281 q75 ⟨by decide +kernel, by decide +kernel⟩ (nA := 3) (As := [.int v0, .int v1, va_rf x2]) (by decide +kernel) rfl rfl (by simp [wv_rfc, wv_kI, wv_kJ, wv_kF, wv_kD]) hl.1 dJ8_checkIndex_5 (fun x5 w5 H locs cells slots S hv => ?_) (wq_kx X rfl)
  refine lv_pop X.hx X.hb dJ8_checkIndex_8 rfl ?_
  exact wr_vret X S hv dJ8_checkIndex_9
theorem wk_J8_checkIndex {G : wv_G} (hG : wv_G0 G) {v0 : Int32} {v1 : Int32} {h : wv_H} {fr kc ks : Nat} {P : wv_R → wv_H → Prop} (hv : vc_J8_checkIndex_0 G fr P v0 v1 (h, kc, ks)) : wv_C G yJ8_checkIndex [.int v0, .int v1] h fr kc ks P := by
  refine wv_enter (lv := [(0, .int v0), (1, .int v1)]) hG (by decide +kernel) q1705 (by decide) (by simp [lg_sl, wv_rfc, wv_kI, wv_kJ, wv_kF, wv_kD]) (by simp [lv_args, wv_rfc, wv_kI, wv_kJ, wv_kF, wv_kD]) ?_
  intro p e R s m args below meth c X H locs cells slots ls S hl
  exact wk_J8_checkIndex_0 X hv H locs cells slots ls S (lv_sub hl [0, 1] rfl)

def vc_J17_charAt_0 (G : wv_G) (fr : Nat) (P : wv_R → wv_H → Prop) (v0 : Option Nat) (v1 : Int32) (w : wv_W) : Prop :=
  wv_bL G v0 (fun x2 => wv_c0 G fr yJ8_checkIndex [.int v1, .int x2] w (wv_rV (fun w3 => wv_bG G v0 v1 (fun x8 => narrow .char (.int ((Int32.toUInt32 (x8 &&& (255 : Int32)) % 65536).toInt32)) = .int ((Int32.toUInt32 (x8 &&& (255 : Int32)) % 65536).toInt32) ∧ P (.inl (some (.int ((Int32.toUInt32 (x8 &&& (255 : Int32)) % 65536).toInt32)))) w3.1)) (wv_pr P)))
set_option maxHeartbeats 4000000 in
theorem wk_J17_charAt_0 {G : wv_G} {p : Program} {e : Env} {R : Room} {s : State} {m : MethodId} {args : Array Value} {below : List Frame} {meth : Method} {c : Code} {fr : Nat} {P : wv_R → wv_H → Prop} (X : wv_ok G p R s m args meth c fr "java/lang/StringLatin1" cJ17_charAt 2 (Option.some Jvm.ClassFile.FieldType.char) "charAt" []) {v0 : Option Nat} {v1 : Int32} {w : wv_W} (hv : vc_J17_charAt_0 G fr P v0 v1 w) : wv_J G p e R s m args below meth c 2 P w 0 [(0, va_rf v0), (1, .int v1)] [] := by
  intro H locs cells slots ls S hl
  unfold vc_J17_charAt_0 at hv
  refine lv_iload_n X.hx X.hb dJ17_charAt_0 rfl (lv_at hl 1 rfl) ?_
  refine wq_aload_n X dJ17_charAt_1 rfl (lv_at hl 0 rfl) ?_
  refine wq_bL X S hv dJ17_charAt_2 (fun x2 hv => ?_)
  refine wq_cS_V X S hv q1703 q1704 q73 ⟨by decide +kernel, by decide +kernel⟩ (nA := 2) (As := [.int v1, .int x2]) (by decide +kernel) rfl rfl (by simp [wv_rfc, wv_kI, wv_kJ, wv_kF, wv_kD]) hl.1 dJ17_charAt_3 (fun w3 H locs cells slots S hv => ?_) (wq_kx X rfl)
  refine wq_aload_n X dJ17_charAt_6 rfl (lv_at hl 0 rfl) ?_
  refine lv_iload_n X.hx X.hb dJ17_charAt_7 rfl (lv_at hl 1 rfl) ?_
  refine wq_bG X S hv dJ17_charAt_8 (fun x8 hv => ?_)
  refine lv_sipush (v := (255 : Int32)) X.hx X.hb dJ17_charAt_9 (by decide) ?_
  refine lv_iand X.hx X.hb dJ17_charAt_12 ?_
  refine lv_i2c X.hx X.hb dJ17_charAt_13 rfl ?_
  exact wr_iret X S hv.1 hv.2 dJ17_charAt_14
theorem wk_J17_charAt {G : wv_G} (hG : wv_G0 G) {v0 : Option Nat} {v1 : Int32} {h : wv_H} {fr kc ks : Nat} {P : wv_R → wv_H → Prop} (hv : vc_J17_charAt_0 G fr P v0 v1 (h, kc, ks)) : wv_C G yJ17_charAt [va_rf v0, .int v1] h fr kc ks P := by
  refine wv_enter (lv := [(0, va_rf v0), (1, .int v1)]) hG (by decide +kernel) q1702 (by decide) (by simp [lg_sl, wv_rfc, wv_kI, wv_kJ, wv_kF, wv_kD]) (by simp [lv_args, wv_rfc, wv_kI, wv_kJ, wv_kF, wv_kD]) ?_
  intro p e R s m args below meth c X H locs cells slots ls S hl
  exact wk_J17_charAt_0 X hv H locs cells slots ls S (lv_sub hl [0, 1] rfl)

def vc_J20_valueOf_23 (G : wv_G) (fr : Nat) (P : wv_R → wv_H → Prop) (w : wv_W) : Prop :=
  False
def vc_J20_valueOf_0 (G : wv_G) (fr : Nat) (P : wv_R → wv_H → Prop) (v0 : Int32) (w : wv_W) : Prop :=
  (v0 < (-128 : Int32) → vc_J20_valueOf_23 G fr P w) ∧ (¬ v0 < (-128 : Int32) → ((127 : Int32) < v0 → vc_J20_valueOf_23 G fr P w) ∧ (¬ (127 : Int32) < v0 → wv_lc G (some (G.2.2.2.2 1)) (v0 + (128 : Int32)) (fun x21 => P (.inl (some (va_rf x21))) w.1)))
set_option maxHeartbeats 4000000 in
theorem wk_J20_valueOf_23 {G : wv_G} {p : Program} {e : Env} {R : Room} {s : State} {m : MethodId} {args : Array Value} {below : List Frame} {meth : Method} {c : Code} {fr : Nat} {P : wv_R → wv_H → Prop} (X : wv_ok G p R s m args meth c fr "java/lang/Integer" cJ20_valueOf 1 (Option.some (Jvm.ClassFile.FieldType.object "java/lang/Integer")) "valueOf" []) {w : wv_W} (hv : vc_J20_valueOf_23 G fr P w) : wv_J G p e R s m args below meth c 1 P w 23 [] [] := by
  intro H locs cells slots ls S hl
  unfold vc_J20_valueOf_23 at hv
  exact hv.elim
set_option maxHeartbeats 4000000 in
theorem wk_J20_valueOf_0 {G : wv_G} {p : Program} {e : Env} {R : Room} {s : State} {m : MethodId} {args : Array Value} {below : List Frame} {meth : Method} {c : Code} {fr : Nat} {P : wv_R → wv_H → Prop} (X : wv_ok G p R s m args meth c fr "java/lang/Integer" cJ20_valueOf 1 (Option.some (Jvm.ClassFile.FieldType.object "java/lang/Integer")) "valueOf" []) {v0 : Int32} {w : wv_W} (hv : vc_J20_valueOf_0 G fr P v0 w) : wv_J G p e R s m args below meth c 1 P w 0 [(0, .int v0)] [] := by
  intro H locs cells slots ls S hl
  unfold vc_J20_valueOf_0 at hv
  refine lv_iload_n X.hx X.hb dJ20_valueOf_0 rfl (lv_at hl 0 rfl) ?_
  refine lv_bipush (v := (-128 : Int32)) X.hx X.hb dJ20_valueOf_1 (by decide) ?_
  refine lv_icmp_lt (tgt := 23) X.hx X.hb dJ20_valueOf_3 (by decide) (fun c3 => ?_) (fun c3 => ?_)
  · have hv := hv.1 c3
    exact wk_J20_valueOf_23 X  hv H locs cells slots ls S (lv_sub hl [] rfl)
  · have hv := hv.2 c3
    refine lv_iload_n X.hx X.hb dJ20_valueOf_6 rfl (lv_at hl 0 rfl) ?_
    refine wr_gets X S (wv_high X.hG q2001 (lw_all_tbl q101)) q2000 dJ20_valueOf_7 ?_
    refine lv_icmp_gt (tgt := 23) X.hx X.hb dJ20_valueOf_10 (by decide) (fun c10 => ?_) (fun c10 => ?_)
    · have hv := hv.1 c10
      exact wk_J20_valueOf_23 X  hv H locs cells slots ls S (lv_sub hl [] rfl)
    · have hv := hv.2 c10
      refine wq_gsR X S (k := 1) rfl q2003 (lw_all_tbl q101) q2002 dJ20_valueOf_13 ?_
      refine lv_iload_n X.hx X.hb dJ20_valueOf_16 rfl (lv_at hl 0 rfl) ?_
      refine lv_sipush (v := (128 : Int32)) X.hx X.hb dJ20_valueOf_17 (by decide) ?_
      refine lv_iadd X.hx X.hb dJ20_valueOf_20 ?_
      refine wq_lc X S hv dJ20_valueOf_21 (fun x21 hv => ?_)
      exact wr_aret X S (Or.inl ⟨_, rfl⟩) hv dJ20_valueOf_22
theorem wk_J20_valueOf {G : wv_G} (hG : wv_G0 G) {v0 : Int32} {h : wv_H} {fr kc ks : Nat} {P : wv_R → wv_H → Prop} (hv : vc_J20_valueOf_0 G fr P v0 (h, kc, ks)) : wv_C G yJ20_valueOf [.int v0] h fr kc ks P := by
  refine wv_enter (lv := [(0, .int v0)]) hG (by decide +kernel) q1999 (by decide) (by simp [lg_sl, wv_rfc, wv_kI, wv_kJ, wv_kF, wv_kD]) (by simp [lv_args, wv_rfc, wv_kI, wv_kJ, wv_kF, wv_kD]) ?_
  intro p e R s m args below meth c X H locs cells slots ls S hl
  exact wk_J20_valueOf_0 X hv H locs cells slots ls S (lv_sub hl [0] rfl)

def vc_J20_intValue_0 (G : wv_G) (fr : Nat) (P : wv_R → wv_H → Prop) (v0 : Option Nat) (w : wv_W) : Prop :=
  wv_gB G v0 (fun x1 => P (.inl (some (.int x1))) w.1)
set_option maxHeartbeats 4000000 in
theorem wk_J20_intValue_0 {G : wv_G} {p : Program} {e : Env} {R : Room} {s : State} {m : MethodId} {args : Array Value} {below : List Frame} {meth : Method} {c : Code} {fr : Nat} {P : wv_R → wv_H → Prop} (X : wv_ok G p R s m args meth c fr "java/lang/Integer" cJ20_intValue 1 (Option.some Jvm.ClassFile.FieldType.int) "intValue" []) {v0 : Option Nat} {w : wv_W} (hv : vc_J20_intValue_0 G fr P v0 w) : wv_J G p e R s m args below meth c 1 P w 0 [(0, va_rf v0)] [] := by
  intro H locs cells slots ls S hl
  unfold vc_J20_intValue_0 at hv
  refine wq_aload_n X dJ20_intValue_0 rfl (lv_at hl 0 rfl) ?_
  refine wq_gB X S hv q2013 dJ20_intValue_1 (fun x1 hv => ?_)
  exact wr_iret X S rfl hv dJ20_intValue_4
theorem wk_J20_intValue {G : wv_G} (hG : wv_G0 G) {v0 : Option Nat} {h : wv_H} {fr kc ks : Nat} {P : wv_R → wv_H → Prop} (hv : vc_J20_intValue_0 G fr P v0 (h, kc, ks)) : wv_C G yJ20_intValue [va_rf v0] h fr kc ks P := by
  refine wv_enter (lv := [(0, va_rf v0)]) hG (by decide +kernel) q2080 (by decide) (by simp [lg_sl, wv_rfc, wv_kI, wv_kJ, wv_kF, wv_kD]) (by simp [lv_args, wv_rfc, wv_kI, wv_kJ, wv_kF, wv_kD]) ?_
  intro p e R s m args below meth c X H locs cells slots ls S hl
  exact wk_J20_intValue_0 X hv H locs cells slots ls S (lv_sub hl [0] rfl)

def vc_J20_equals_0 (G : wv_G) (fr : Nat) (P : wv_R → wv_H → Prop) (v0 : Option Nat) (v1 : Option Nat) (w : wv_W) : Prop :=
  ((∃ a C', v1 = some a ∧ wv_is G w.1 a C' ∧ (C' = "java/lang/Integer" ∨ Cond.castable C' "java/lang/Integer" ∈ lw_tbl)) ∧ (((1 : Int32) = 0 → False) ∧ (¬ (1 : Int32) = 0 → wv_gB G v0 (fun x8 => wv_cc G w v1 "java/lang/Integer" (wv_cV G fr yJ20_intValue v1 [] w (wv_rI (fun x15 w15 => (¬ x8 = x15 → narrow .boolean (.int (0 : Int32)) = .int (0 : Int32) ∧ P (.inl (some (.int (0 : Int32)))) w15.1) ∧ (x8 = x15 → narrow .boolean (.int (1 : Int32)) = .int (1 : Int32) ∧ P (.inl (some (.int (1 : Int32)))) w15.1)) (wv_pr P)))))))
set_option maxHeartbeats 4000000 in
theorem wk_J20_equals_0 {G : wv_G} {p : Program} {e : Env} {R : Room} {s : State} {m : MethodId} {args : Array Value} {below : List Frame} {meth : Method} {c : Code} {fr : Nat} {P : wv_R → wv_H → Prop} (X : wv_ok G p R s m args meth c fr "java/lang/Integer" cJ20_equals 2 (Option.some Jvm.ClassFile.FieldType.boolean) "equals" []) {v0 : Option Nat} {v1 : Option Nat} {w : wv_W} (hv : vc_J20_equals_0 G fr P v0 v1 w) : wv_J G p e R s m args below meth c 2 P w 0 [(0, va_rf v0), (1, va_rf v1)] [] := by
  intro H locs cells slots ls S hl
  unfold vc_J20_equals_0 at hv
  refine wq_aload_n X dJ20_equals_0 rfl (lv_at hl 1 rfl) ?_
  refine wq_inst X S hv q2004 dJ20_equals_1 (fun hv => ?_)
  refine lv_if_eq (tgt := 27) X.hx X.hb dJ20_equals_4 (by decide) (fun c4 => ?_) (fun c4 => ?_)
  · have hv := hv.1 c4
    exact hv.elim
  · have hv := hv.2 c4
    refine wq_aload_n X dJ20_equals_7 rfl (lv_at hl 0 rfl) ?_
    refine wq_gB X S hv q2013 dJ20_equals_8 (fun x8 hv => ?_)
    refine wq_aload_n X dJ20_equals_11 rfl (lv_at hl 1 rfl) ?_
    refine wq_cc X S hv q2004 dJ20_equals_12 (fun hv => ?_)
    refine wq_cV_I X S hv q2077 q2078 q2079 q100 ⟨by decide +kernel, by decide +kernel⟩ (nA := 0) (As := []) (by decide +kernel) rfl rfl (by simp [wv_rfc, wv_kI, wv_kJ, wv_kF, wv_kD]) hl.1 dJ20_equals_15 (fun x15 w15 H locs cells slots S hv => ?_) (wq_kx X rfl)
    refine lv_icmp_ne (tgt := 25) X.hx X.hb dJ20_equals_18 (by decide) (fun c18 => ?_) (fun c18 => ?_)
    · have hv := hv.1 c18
      refine lv_iconst (v := (0 : Int32)) X.hx X.hb dJ20_equals_25 (by decide) ?_
      exact wr_iret X S hv.1 hv.2 dJ20_equals_26
    · have hv := hv.2 c18
      refine lv_iconst (v := (1 : Int32)) X.hx X.hb dJ20_equals_21 (by decide) ?_
      refine lv_goto (tgt := 26) X.hx X.hb dJ20_equals_22 (by decide) ?_
      exact wr_iret X S hv.1 hv.2 dJ20_equals_26
theorem wk_J20_equals {G : wv_G} (hG : wv_G0 G) {v0 : Option Nat} {v1 : Option Nat} {h : wv_H} {fr kc ks : Nat} {P : wv_R → wv_H → Prop} (hv : vc_J20_equals_0 G fr P v0 v1 (h, kc, ks)) : wv_C G yJ20_equals [va_rf v0, va_rf v1] h fr kc ks P := by
  refine wv_enter (lv := [(0, va_rf v0), (1, va_rf v1)]) hG (by decide +kernel) q2076 (by decide) (by simp [lg_sl, wv_rfc, wv_kI, wv_kJ, wv_kF, wv_kD]) (by simp [lv_args, wv_rfc, wv_kI, wv_kJ, wv_kF, wv_kD]) ?_
  intro p e R s m args below meth c X H locs cells slots ls S hl
  exact wk_J20_equals_0 X hv H locs cells slots ls S (lv_sub hl [0, 1] rfl)

def vc_J2_init_0 (G : wv_G) (fr : Nat) (P : wv_R → wv_H → Prop) (v0 : Option Nat) (w : wv_W) : Prop :=
  wv_cI G fr yJ1_init v0 [] w (wv_rV (fun w1 => wv_pt w1 v0 ciJ2 1 (va_rf (some (G.2.2.2.2 0))) (fun w8 => P (.inl none) w8.1)) (wv_pr P))
set_option maxHeartbeats 4000000 in
theorem wk_J2_init_0 {G : wv_G} {p : Program} {e : Env} {R : Room} {s : State} {m : MethodId} {args : Array Value} {below : List Frame} {meth : Method} {c : Code} {fr : Nat} {P : wv_R → wv_H → Prop} (X : wv_ok G p R s m args meth c fr "java/util/ArrayList" cJ2_init 1 (Option.none : Option Jvm.ClassFile.FieldType) "<init>" []) {v0 : Option Nat} {w : wv_W} (hv : vc_J2_init_0 G fr P v0 w) : wv_J G p e R s m args below meth c 1 P w 0 [(0, va_rf v0)] [] := by
  intro H locs cells slots ls S hl
  unfold vc_J2_init_0 at hv
  refine wq_aload_n X dJ2_init_0 rfl (lv_at hl 0 rfl) ?_
  refine wq_cI_V X S hv rfl q132 q133 q134 q62 ⟨by decide +kernel, by decide +kernel⟩ (nA := 0) (As := []) (by decide +kernel) rfl rfl (by simp [wv_rfc, wv_kI, wv_kJ, wv_kF, wv_kD]) hl.1 dJ2_init_1 (fun w1 H locs cells slots S hv => ?_) (wq_kx X rfl)
  refine wq_aload_n X dJ2_init_4 rfl (lv_at hl 0 rfl) ?_
  refine wq_gsR X S (k := 0) rfl q140 (lw_all_tbl q63) q139 dJ2_init_5 ?_
  refine wq_pt X S hv tyJ2 tyJ2_ok nmJ2 ccJ2 in_J2 (k := 1) (by decide) q141 rfl rfl (wv_fnA (Or.inr ⟨_, rfl⟩)).1 (wv_fnA (Or.inr ⟨_, rfl⟩)).2 dJ2_init_8 (fun w8 H locs S hv => ?_)
  exact wr_vret X S hv dJ2_init_11
theorem wk_J2_init {G : wv_G} (hG : wv_G0 G) {v0 : Option Nat} {h : wv_H} {fr kc ks : Nat} {P : wv_R → wv_H → Prop} (hv : vc_J2_init_0 G fr P v0 (h, kc, ks)) : wv_C G yJ2_init [va_rf v0] h fr kc ks P := by
  refine wv_enter (lv := [(0, va_rf v0)]) hG (by decide +kernel) q131 (by decide) (by simp [lg_sl, wv_rfc, wv_kI, wv_kJ, wv_kF, wv_kD]) (by simp [lv_args, wv_rfc, wv_kI, wv_kJ, wv_kF, wv_kD]) ?_
  intro p e R s m args below meth c X H locs cells slots ls S hl
  exact wk_J2_init_0 X hv H locs cells slots ls S (lv_sub hl [0] rfl)

def vc_J2_add_0 (G : wv_G) (fr : Nat) (P : wv_R → wv_H → Prop) (v0 : Option Nat) (v1 : Option Nat) (w : wv_W) : Prop :=
  wv_gI w v0 ciJ2 0 (fun x2 => wv_pt w v0 ciJ2 0 (.int (x2 + (1 : Int32))) (fun w7 => wv_gA w7 v0 ciJ2 1 (fun x13 => wv_gI w7 v0 ciJ2 2 (fun x17 => wv_cV G fr yJ2_add_2 v0 [va_rf v1, va_rf x13, .int x17] w7 (wv_rV (fun w20 => narrow .boolean (.int (1 : Int32)) = .int (1 : Int32) ∧ P (.inl (some (.int (1 : Int32)))) w20.1) (wv_pr P))))))
set_option maxHeartbeats 4000000 in
theorem wk_J2_add_0 {G : wv_G} {p : Program} {e : Env} {R : Room} {s : State} {m : MethodId} {args : Array Value} {below : List Frame} {meth : Method} {c : Code} {fr : Nat} {P : wv_R → wv_H → Prop} (X : wv_ok G p R s m args meth c fr "java/util/ArrayList" cJ2_add 2 (Option.some Jvm.ClassFile.FieldType.boolean) "add" []) {v0 : Option Nat} {v1 : Option Nat} {w : wv_W} (hv : vc_J2_add_0 G fr P v0 v1 w) : wv_J G p e R s m args below meth c 2 P w 0 [(0, va_rf v0), (1, va_rf v1)] [] := by
  intro H locs cells slots ls S hl
  unfold vc_J2_add_0 at hv
  refine wq_aload_n X dJ2_add_0 rfl (lv_at hl 0 rfl) ?_
  refine lv_dup X.hx X.hb dJ2_add_1 (wv_rfc _) ?_
  refine wq_gIS X S hv ccJ2 in_J2 (k := 0) (by decide) q148 q147 dJ2_add_2 (fun x2 hv => ?_)
  refine lv_iconst (v := (1 : Int32)) X.hx X.hb dJ2_add_5 (by decide) ?_
  refine lv_iadd X.hx X.hb dJ2_add_6 ?_
  refine wq_ptS X S hv tyJ2 tyJ2_ok nmJ2 ccJ2 in_J2 (k := 0) (by decide) q148 q147 rfl rfl rfl rfl dJ2_add_7 (fun w7 H locs S hv => ?_)
  refine wq_aload_n X dJ2_add_10 rfl (lv_at hl 0 rfl) ?_
  refine wq_aload_n X dJ2_add_11 rfl (lv_at hl 1 rfl) ?_
  refine wq_aload_n X dJ2_add_12 rfl (lv_at hl 0 rfl) ?_
  refine wq_gA X S hv ccJ2 in_J2 (k := 1) (by decide) q141 dJ2_add_13 (fun x13 hv => ?_)
  refine wq_aload_n X dJ2_add_16 rfl (lv_at hl 0 rfl) ?_
  refine wq_gI X S hv ccJ2 in_J2 (k := 2) (by decide) q144 dJ2_add_17 (fun x17 hv => ?_)
  refine wq_cV_V X S hv q755 q757 qs8 q63 ⟨by decide +kernel, by decide +kernel⟩ (nA := 3) (As := [va_rf v1, va_rf x13, .int x17]) (by decide +kernel) rfl rfl (by simp [wv_rfc, wv_kI, wv_kJ, wv_kF, wv_kD]) hl.1 dJ2_add_20 (fun w20 H locs cells slots S hv => ?_) (wq_kx X rfl)
  refine lv_iconst (v := (1 : Int32)) X.hx X.hb dJ2_add_23 (by decide) ?_
  exact wr_iret X S hv.1 hv.2 dJ2_add_24
theorem wk_J2_add {G : wv_G} (hG : wv_G0 G) {v0 : Option Nat} {v1 : Option Nat} {h : wv_H} {fr kc ks : Nat} {P : wv_R → wv_H → Prop} (hv : vc_J2_add_0 G fr P v0 v1 (h, kc, ks)) : wv_C G yJ2_add [va_rf v0, va_rf v1] h fr kc ks P := by
  refine wv_enter (lv := [(0, va_rf v0), (1, va_rf v1)]) hG (by decide +kernel) q754 (by decide) (by simp [lg_sl, wv_rfc, wv_kI, wv_kJ, wv_kF, wv_kD]) (by simp [lv_args, wv_rfc, wv_kI, wv_kJ, wv_kF, wv_kD]) ?_
  intro p e R s m args below meth c X H locs cells slots ls S hl
  exact wk_J2_add_0 X hv H locs cells slots ls S (lv_sub hl [0, 1] rfl)

def vc_J2_add_2_11 (G : wv_G) (fr : Nat) (P : wv_R → wv_H → Prop) (v0 : Option Nat) (v1 : Option Nat) (v2 : Option Nat) (v3 : Int32) (w : wv_W) : Prop :=
  wv_sq G 5 "java/lang/Object" w v2 v3 v1 (fun w14 => wv_pt w14 v0 ciJ2 2 (.int (v3 + (1 : Int32))) (fun w19 => P (.inl none) w19.1))
def vc_J2_add_2_0 (G : wv_G) (fr : Nat) (P : wv_R → wv_H → Prop) (v0 : Option Nat) (v1 : Option Nat) (v2 : Option Nat) (v3 : Int32) (w : wv_W) : Prop :=
  wv_lenA G w v2 (fun x2 => (¬ v3 = x2 → vc_J2_add_2_11 G fr P v0 v1 v2 v3 w) ∧ (v3 = x2 → wv_cV G fr yJ2_grow v0 [] w (wv_rA (fun x7 w7 => vc_J2_add_2_11 G fr P v0 v1 x7 v3 w7) (wv_pr P))))
set_option maxHeartbeats 4000000 in
theorem wk_J2_add_2_11 {G : wv_G} {p : Program} {e : Env} {R : Room} {s : State} {m : MethodId} {args : Array Value} {below : List Frame} {meth : Method} {c : Code} {fr : Nat} {P : wv_R → wv_H → Prop} (X : wv_ok G p R s m args meth c fr "java/util/ArrayList" cJ2_add_2 4 (Option.none : Option Jvm.ClassFile.FieldType) "add" []) {v0 : Option Nat} {v1 : Option Nat} {v2 : Option Nat} {v3 : Int32} {w : wv_W} (hv : vc_J2_add_2_11 G fr P v0 v1 v2 v3 w) : wv_J G p e R s m args below meth c 4 P w 11 [(0, va_rf v0), (1, va_rf v1), (2, va_rf v2), (3, .int v3)] [] := by
  intro H locs cells slots ls S hl
  unfold vc_J2_add_2_11 at hv
  refine wq_aload_n X dJ2_add_2_11 rfl (lv_at hl 2 rfl) ?_
  refine lv_iload_n X.hx X.hb dJ2_add_2_12 rfl (lv_at hl 3 rfl) ?_
  refine wq_aload_n X dJ2_add_2_13 rfl (lv_at hl 1 rfl) ?_
  refine wq_sq5 X S hv dJ2_add_2_14 (fun w14 H locs S hv => ?_)
  refine wq_aload_n X dJ2_add_2_15 rfl (lv_at hl 0 rfl) ?_
  refine lv_iload_n X.hx X.hb dJ2_add_2_16 rfl (lv_at hl 3 rfl) ?_
  refine lv_iconst (v := (1 : Int32)) X.hx X.hb dJ2_add_2_17 (by decide) ?_
  refine lv_iadd X.hx X.hb dJ2_add_2_18 ?_
  refine wq_pt X S hv tyJ2 tyJ2_ok nmJ2 ccJ2 in_J2 (k := 2) (by decide) q144 rfl rfl rfl rfl dJ2_add_2_19 (fun w19 H locs S hv => ?_)
  exact wr_vret X S hv dJ2_add_2_22
set_option maxHeartbeats 4000000 in
theorem wk_J2_add_2_0 {G : wv_G} {p : Program} {e : Env} {R : Room} {s : State} {m : MethodId} {args : Array Value} {below : List Frame} {meth : Method} {c : Code} {fr : Nat} {P : wv_R → wv_H → Prop} (X : wv_ok G p R s m args meth c fr "java/util/ArrayList" cJ2_add_2 4 (Option.none : Option Jvm.ClassFile.FieldType) "add" []) {v0 : Option Nat} {v1 : Option Nat} {v2 : Option Nat} {v3 : Int32} {w : wv_W} (hv : vc_J2_add_2_0 G fr P v0 v1 v2 v3 w) : wv_J G p e R s m args below meth c 4 P w 0 [(0, va_rf v0), (1, va_rf v1), (2, va_rf v2), (3, .int v3)] [] := by
  intro H locs cells slots ls S hl
  unfold vc_J2_add_2_0 at hv
  refine lv_iload_n X.hx X.hb dJ2_add_2_0 rfl (lv_at hl 3 rfl) ?_
  refine wq_aload_n X dJ2_add_2_1 rfl (lv_at hl 2 rfl) ?_
  refine wq_lenA X S hv dJ2_add_2_2 (fun x2 hv => ?_)
  refine lv_icmp_ne (tgt := 11) X.hx X.hb dJ2_add_2_3 (by decide) (fun c3 => ?_) (fun c3 => ?_)
  · have hv := hv.1 c3
    exact wk_J2_add_2_11 X  hv H locs cells slots ls S (lv_sub hl [0, 1, 2, 3] rfl)
  · have hv := hv.2 c3
    refine wq_aload_n X dJ2_add_2_6 rfl (lv_at hl 0 rfl) ?_
    refine wq_cV_A X S hv q759 q761 qs9 q63 ⟨by decide +kernel, by decide +kernel⟩ (nA := 0) (As := []) (by decide +kernel) rfl rfl (by simp [wv_rfc, wv_kI, wv_kJ, wv_kF, wv_kD]) hl.1 dJ2_add_2_7 (fun x7 w7 H locs cells slots S hv => ?_) (wq_kx X rfl)
    refine wq_astore_n X (i := 2) (lv' := [(2, va_rf x7), (0, va_rf v0), (1, va_rf v1), (3, .int v3)]) dJ2_add_2_10 rfl hl (by decide) (by simp [wv_rfc, wv_kI, wv_kJ, wv_kF, wv_kD]) (fun ls hl => ?_)
    exact wk_J2_add_2_11 X  hv H locs cells slots ls S (lv_sub hl [1, 2, 0, 3] rfl)
theorem wk_J2_add_2 {G : wv_G} (hG : wv_G0 G) {v0 : Option Nat} {v1 : Option Nat} {v2 : Option Nat} {v3 : Int32} {h : wv_H} {fr kc ks : Nat} {P : wv_R → wv_H → Prop} (hv : vc_J2_add_2_0 G fr P v0 v1 v2 v3 (h, kc, ks)) : wv_C G yJ2_add_2 [va_rf v0, va_rf v1, va_rf v2, .int v3] h fr kc ks P := by
  refine wv_enter (lv := [(0, va_rf v0), (1, va_rf v1), (2, va_rf v2), (3, .int v3)]) hG (by decide +kernel) q758 (by decide) (by simp [lg_sl, wv_rfc, wv_kI, wv_kJ, wv_kF, wv_kD]) (by simp [lv_args, wv_rfc, wv_kI, wv_kJ, wv_kF, wv_kD]) ?_
  intro p e R s m args below meth c X H locs cells slots ls S hl
  exact wk_J2_add_2_0 X hv H locs cells slots ls S (lv_sub hl [0, 1, 2, 3] rfl)

def vc_J2_grow_0 (G : wv_G) (fr : Nat) (P : wv_R → wv_H → Prop) (v0 : Option Nat) (w : wv_W) : Prop :=
  wv_gI w v0 ciJ2 2 (fun x2 => wv_cV G fr yJ2_grow_2 v0 [.int (x2 + (1 : Int32))] w (wv_rA (fun x7 w7 => P (.inl (some (va_rf x7))) w7.1) (wv_pr P)))
set_option maxHeartbeats 4000000 in
theorem wk_J2_grow_0 {G : wv_G} {p : Program} {e : Env} {R : Room} {s : State} {m : MethodId} {args : Array Value} {below : List Frame} {meth : Method} {c : Code} {fr : Nat} {P : wv_R → wv_H → Prop} (X : wv_ok G p R s m args meth c fr "java/util/ArrayList" cJ2_grow 1 (Option.some (Jvm.ClassFile.FieldType.array (Jvm.ClassFile.FieldType.object "java/lang/Object"))) "grow" []) {v0 : Option Nat} {w : wv_W} (hv : vc_J2_grow_0 G fr P v0 w) : wv_J G p e R s m args below meth c 1 P w 0 [(0, va_rf v0)] [] := by
  intro H locs cells slots ls S hl
  unfold vc_J2_grow_0 at hv
  refine wq_aload_n X dJ2_grow_0 rfl (lv_at hl 0 rfl) ?_
  refine wq_aload_n X dJ2_grow_1 rfl (lv_at hl 0 rfl) ?_
  refine wq_gI X S hv ccJ2 in_J2 (k := 2) (by decide) q144 dJ2_grow_2 (fun x2 hv => ?_)
  refine lv_iconst (v := (1 : Int32)) X.hx X.hb dJ2_grow_5 (by decide) ?_
  refine lv_iadd X.hx X.hb dJ2_grow_6 ?_
  refine wq_cV_A X S hv q763 q765 qs10 q63 ⟨by decide +kernel, by decide +kernel⟩ (nA := 1) (As := [.int (x2 + (1 : Int32))]) (by decide +kernel) rfl rfl (by simp [wv_rfc, wv_kI, wv_kJ, wv_kF, wv_kD]) hl.1 dJ2_grow_7 (fun x7 w7 H locs cells slots S hv => ?_) (wq_kx X rfl)
  exact wr_aret X S (Or.inr ⟨_, rfl⟩) hv dJ2_grow_10
theorem wk_J2_grow {G : wv_G} (hG : wv_G0 G) {v0 : Option Nat} {h : wv_H} {fr kc ks : Nat} {P : wv_R → wv_H → Prop} (hv : vc_J2_grow_0 G fr P v0 (h, kc, ks)) : wv_C G yJ2_grow [va_rf v0] h fr kc ks P := by
  refine wv_enter (lv := [(0, va_rf v0)]) hG (by decide +kernel) q762 (by decide) (by simp [lg_sl, wv_rfc, wv_kI, wv_kJ, wv_kF, wv_kD]) (by simp [lv_args, wv_rfc, wv_kI, wv_kJ, wv_kF, wv_kD]) ?_
  intro p e R s m args below meth c X H locs cells slots ls S hl
  exact wk_J2_grow_0 X hv H locs cells slots ls S (lv_sub hl [0] rfl)

def vc_J2_grow_2_20 (G : wv_G) (fr : Nat) (P : wv_R → wv_H → Prop) (v0 : Option Nat) (v1 : Int32) (v2 : Int32) (w : wv_W) : Prop :=
  wv_c0 G fr yJ12_newLength [.int v2, .int (v1 - v2), .int (v2 >>> ((1 : Int32) &&& 31))] w (wv_rI (fun x27 w27 => wv_gA w27 v0 ciJ2 1 (fun x33 => wv_c0 G fr yJ14_copyOf_2 [va_rf x33, .int x27] w27 (wv_rA (fun x37 w37 => wv_pt w37 v0 ciJ2 1 (va_rf x37) (fun w41 => P (.inl (some (va_rf x37))) w41.1)) (wv_pr P)))) (wv_pr P))
def vc_J2_grow_2_0 (G : wv_G) (fr : Nat) (P : wv_R → wv_H → Prop) (v0 : Option Nat) (v1 : Int32) (w : wv_W) : Prop :=
  wv_gA w v0 ciJ2 1 (fun x1 => wv_lenA G w x1 (fun x4 => (0 < x4 → vc_J2_grow_2_20 G fr P v0 v1 x4 w) ∧ (¬ 0 < x4 → wv_gA w v0 ciJ2 1 (fun x11 => (x11 = (some (G.2.2.2.2 0)) → 1 ≤ fr ∧ (wv_na G w (if (10 : Int32) < v1 then v1 else (10 : Int32)) (fun N => wo_q (wv_A G 5) N (fun _ => none)) (fun a52 w52 => wv_pt w52 v0 ciJ2 1 (va_rf (some a52)) (fun w56 => P (.inl (some (va_rf (some a52)))) w56.1)))) ∧ (¬ x11 = (some (G.2.2.2.2 0)) → vc_J2_grow_2_20 G fr P v0 v1 x4 w)))))
set_option maxHeartbeats 4000000 in
theorem wk_J2_grow_2_20 {G : wv_G} {p : Program} {e : Env} {R : Room} {s : State} {m : MethodId} {args : Array Value} {below : List Frame} {meth : Method} {c : Code} {fr : Nat} {P : wv_R → wv_H → Prop} (X : wv_ok G p R s m args meth c fr "java/util/ArrayList" cJ2_grow_2 4 (Option.some (Jvm.ClassFile.FieldType.array (Jvm.ClassFile.FieldType.object "java/lang/Object"))) "grow" []) {v0 : Option Nat} {v1 : Int32} {v2 : Int32} {w : wv_W} (hv : vc_J2_grow_2_20 G fr P v0 v1 v2 w) : wv_J G p e R s m args below meth c 4 P w 20 [(0, va_rf v0), (1, .int v1), (2, .int v2)] [] := by
  intro H locs cells slots ls S hl
  unfold vc_J2_grow_2_20 at hv
  refine lv_iload_n X.hx X.hb dJ2_grow_2_20 rfl (lv_at hl 2 rfl) ?_
  refine lv_iload_n X.hx X.hb dJ2_grow_2_21 rfl (lv_at hl 1 rfl) ?_
  refine lv_iload_n X.hx X.hb dJ2_grow_2_22 rfl (lv_at hl 2 rfl) ?_
  refine lv_isub X.hx X.hb dJ2_grow_2_23 ?_
  refine lv_iload_n X.hx X.hb dJ2_grow_2_24 rfl (lv_at hl 2 rfl) ?_
  refine lv_iconst (v := (1 : Int32)) X.hx X.hb dJ2_grow_2_25 (by decide) ?_
  refine lv_ishr X.hx X.hb dJ2_grow_2_26 ?_
  refine wq_cS_I X S hv q767 q480 q78 ⟨by decide +kernel, by decide +kernel⟩ (nA := 3) (As := [.int v2, .int (v1 - v2), .int (v2 >>> ((1 : Int32) &&& 31))]) (by decide +kernel) rfl rfl (by simp [wv_rfc, wv_kI, wv_kJ, wv_kF, wv_kD]) hl.1 dJ2_grow_2_27 (fun x27 w27 H locs cells slots S hv => ?_) (wq_kx X rfl)
  refine lv_istore_n X.hx X.hb (i := 3) (lv' := [(3, .int x27), (0, va_rf v0), (1, .int v1), (2, .int v2)]) dJ2_grow_2_30 rfl hl (by decide) (by simp [wv_rfc, wv_kI, wv_kJ, wv_kF, wv_kD]) (fun ls hl => ?_)
  refine wq_aload_n X dJ2_grow_2_31 rfl (lv_at hl 1 rfl) ?_
  refine wq_aload_n X dJ2_grow_2_32 rfl (lv_at hl 1 rfl) ?_
  refine wq_gA X S hv ccJ2 in_J2 (k := 1) (by decide) q141 dJ2_grow_2_33 (fun x33 hv => ?_)
  refine lv_iload_n X.hx X.hb dJ2_grow_2_36 rfl (lv_at hl 0 rfl) ?_
  refine wq_cS_A X S hv q768 q769 q80 ⟨by decide +kernel, by decide +kernel⟩ (nA := 2) (As := [va_rf x33, .int x27]) (by decide +kernel) rfl rfl (by simp [wv_rfc, wv_kI, wv_kJ, wv_kF, wv_kD]) hl.1 dJ2_grow_2_37 (fun x37 w37 H locs cells slots S hv => ?_) (wq_kx X rfl)
  refine lv_dup_x1 X.hx X.hb dJ2_grow_2_40 (wv_rfc _) (wv_rfc _) ?_
  refine wq_pt X S hv tyJ2 tyJ2_ok nmJ2 ccJ2 in_J2 (k := 1) (by decide) q141 rfl rfl (wv_fnA (Or.inr ⟨_, rfl⟩)).1 (wv_fnA (Or.inr ⟨_, rfl⟩)).2 dJ2_grow_2_41 (fun w41 H locs S hv => ?_)
  exact wr_aret X S (Or.inr ⟨_, rfl⟩) hv dJ2_grow_2_44
set_option maxHeartbeats 4000000 in
theorem wk_J2_grow_2_0 {G : wv_G} {p : Program} {e : Env} {R : Room} {s : State} {m : MethodId} {args : Array Value} {below : List Frame} {meth : Method} {c : Code} {fr : Nat} {P : wv_R → wv_H → Prop} (X : wv_ok G p R s m args meth c fr "java/util/ArrayList" cJ2_grow_2 4 (Option.some (Jvm.ClassFile.FieldType.array (Jvm.ClassFile.FieldType.object "java/lang/Object"))) "grow" []) {v0 : Option Nat} {v1 : Int32} {w : wv_W} (hv : vc_J2_grow_2_0 G fr P v0 v1 w) : wv_J G p e R s m args below meth c 4 P w 0 [(0, va_rf v0), (1, .int v1)] [] := by
  intro H locs cells slots ls S hl
  unfold vc_J2_grow_2_0 at hv
  refine wq_aload_n X dJ2_grow_2_0 rfl (lv_at hl 0 rfl) ?_
  refine wq_gA X S hv ccJ2 in_J2 (k := 1) (by decide) q141 dJ2_grow_2_1 (fun x1 hv => ?_)
  refine wq_lenA X S hv dJ2_grow_2_4 (fun x4 hv => ?_)
  refine lv_istore_n X.hx X.hb (i := 2) (lv' := [(2, .int x4), (0, va_rf v0), (1, .int v1)]) dJ2_grow_2_5 rfl hl (by decide) (by simp [wv_rfc, wv_kI, wv_kJ, wv_kF, wv_kD]) (fun ls hl => ?_)
  refine lv_iload_n X.hx X.hb dJ2_grow_2_6 rfl (lv_at hl 0 rfl) ?_
  refine lv_if_gt (tgt := 20) X.hx X.hb dJ2_grow_2_7 (by decide) (fun c7 => ?_) (fun c7 => ?_)
  · have hv := hv.1 c7
    exact wk_J2_grow_2_20 X  hv H locs cells slots ls S (lv_sub hl [1, 2, 0] rfl)
  · have hv := hv.2 c7
    refine wq_aload_n X dJ2_grow_2_10 rfl (lv_at hl 1 rfl) ?_
    refine wq_gA X S hv ccJ2 in_J2 (k := 1) (by decide) q141 dJ2_grow_2_11 (fun x11 hv => ?_)
    refine wq_gsR X S (k := 0) rfl q140 (lw_all_tbl q63) q139 dJ2_grow_2_14 ?_
    refine lv_acmp_eq (tgt := 45) X.hx X.hb dJ2_grow_2_17 (by decide) (fun c17 => ?_) (fun c17 => ?_)
    · have hv := hv.1 c17
      refine wq_aload_n X dJ2_grow_2_45 rfl (lv_at hl 1 rfl) ?_
      refine lv_bipush (v := (10 : Int32)) X.hx X.hb dJ2_grow_2_46 (by decide) ?_
      refine lv_iload_n X.hx X.hb dJ2_grow_2_48 rfl (lv_at hl 2 rfl) ?_
      refine wq_mmax X S hv q823 (by simp [wv_rfc, wv_kI, wv_kJ, wv_kF, wv_kD]) hl.1 dJ2_grow_2_49 (fun hv => ?_)
      refine wq_nwq5 X S hv q824 q821 dJ2_grow_2_52 (fun a52 w52 H cells slots S hv => ?_)
      refine lv_dup_x1 X.hx X.hb dJ2_grow_2_55 (wv_rfc _) (wv_rfc _) ?_
      refine wq_pt X S hv tyJ2 tyJ2_ok nmJ2 ccJ2 in_J2 (k := 1) (by decide) q141 rfl rfl (wv_fnA (Or.inr ⟨_, rfl⟩)).1 (wv_fnA (Or.inr ⟨_, rfl⟩)).2 dJ2_grow_2_56 (fun w56 H locs S hv => ?_)
      exact wr_aret X S (Or.inr ⟨_, rfl⟩) hv dJ2_grow_2_59
    · have hv := hv.2 c17
      exact wk_J2_grow_2_20 X  hv H locs cells slots ls S (lv_sub hl [1, 2, 0] rfl)
theorem wk_J2_grow_2 {G : wv_G} (hG : wv_G0 G) {v0 : Option Nat} {v1 : Int32} {h : wv_H} {fr kc ks : Nat} {P : wv_R → wv_H → Prop} (hv : vc_J2_grow_2_0 G fr P v0 v1 (h, kc, ks)) : wv_C G yJ2_grow_2 [va_rf v0, .int v1] h fr kc ks P := by
  refine wv_enter (lv := [(0, va_rf v0), (1, .int v1)]) hG (by decide +kernel) q766 (by decide) (by simp [lg_sl, wv_rfc, wv_kI, wv_kJ, wv_kF, wv_kD]) (by simp [lv_args, wv_rfc, wv_kI, wv_kJ, wv_kF, wv_kD]) ?_
  intro p e R s m args below meth c X H locs cells slots ls S hl
  exact wk_J2_grow_2_0 X hv H locs cells slots ls S (lv_sub hl [0, 1] rfl)

def vc_J2_size_0 (G : wv_G) (fr : Nat) (P : wv_R → wv_H → Prop) (v0 : Option Nat) (w : wv_W) : Prop :=
  wv_gI w v0 ciJ2 2 (fun x1 => P (.inl (some (.int x1))) w.1)
set_option maxHeartbeats 4000000 in
theorem wk_J2_size_0 {G : wv_G} {p : Program} {e : Env} {R : Room} {s : State} {m : MethodId} {args : Array Value} {below : List Frame} {meth : Method} {c : Code} {fr : Nat} {P : wv_R → wv_H → Prop} (X : wv_ok G p R s m args meth c fr "java/util/ArrayList" cJ2_size 1 (Option.some Jvm.ClassFile.FieldType.int) "size" []) {v0 : Option Nat} {w : wv_W} (hv : vc_J2_size_0 G fr P v0 w) : wv_J G p e R s m args below meth c 1 P w 0 [(0, va_rf v0)] [] := by
  intro H locs cells slots ls S hl
  unfold vc_J2_size_0 at hv
  refine wq_aload_n X dJ2_size_0 rfl (lv_at hl 0 rfl) ?_
  refine wq_gI X S hv ccJ2 in_J2 (k := 2) (by decide) q144 dJ2_size_1 (fun x1 hv => ?_)
  exact wr_iret X S rfl hv dJ2_size_4
theorem wk_J2_size {G : wv_G} (hG : wv_G0 G) {v0 : Option Nat} {h : wv_H} {fr kc ks : Nat} {P : wv_R → wv_H → Prop} (hv : vc_J2_size_0 G fr P v0 (h, kc, ks)) : wv_C G yJ2_size [va_rf v0] h fr kc ks P := by
  refine wv_enter (lv := [(0, va_rf v0)]) hG (by decide +kernel) q272 (by decide) (by simp [lg_sl, wv_rfc, wv_kI, wv_kJ, wv_kF, wv_kD]) (by simp [lv_args, wv_rfc, wv_kI, wv_kJ, wv_kF, wv_kD]) ?_
  intro p e R s m args below meth c X H locs cells slots ls S hl
  exact wk_J2_size_0 X hv H locs cells slots ls S (lv_sub hl [0] rfl)

def vc_J2_get_0 (G : wv_G) (fr : Nat) (P : wv_R → wv_H → Prop) (v0 : Option Nat) (v1 : Int32) (w : wv_W) : Prop :=
  wv_gI w v0 ciJ2 2 (fun x2 => wv_c0 G fr yJ9_checkIndex [.int v1, .int x2] w (wv_rI (fun x5 w5 => wv_cV G fr yJ2_elementData v0 [.int v1] w5 (wv_rA (fun x11 w11 => P (.inl (some (va_rf x11))) w11.1) (wv_pr P))) (wv_pr P)))
set_option maxHeartbeats 4000000 in
theorem wk_J2_get_0 {G : wv_G} {p : Program} {e : Env} {R : Room} {s : State} {m : MethodId} {args : Array Value} {below : List Frame} {meth : Method} {c : Code} {fr : Nat} {P : wv_R → wv_H → Prop} (X : wv_ok G p R s m args meth c fr "java/util/ArrayList" cJ2_get 2 (Option.some (Jvm.ClassFile.FieldType.object "java/lang/Object")) "get" []) {v0 : Option Nat} {v1 : Int32} {w : wv_W} (hv : vc_J2_get_0 G fr P v0 v1 w) : wv_J G p e R s m args below meth c 2 P w 0 [(0, va_rf v0), (1, .int v1)] [] := by
  intro H locs cells slots ls S hl
  unfold vc_J2_get_0 at hv
  refine lv_iload_n X.hx X.hb dJ2_get_0 rfl (lv_at hl 1 rfl) ?_
  refine wq_aload_n X dJ2_get_1 rfl (lv_at hl 0 rfl) ?_
  refine wq_gI X S hv ccJ2 in_J2 (k := 2) (by decide) q144 dJ2_get_2 (fun x2 hv => ?_)
  refine wq_cS_I X S hv q277 q278 q74 ⟨by decide +kernel, by decide +kernel⟩ (nA := 2) (As := [.int v1, .int x2]) (by decide +kernel) rfl rfl (by simp [wv_rfc, wv_kI, wv_kJ, wv_kF, wv_kD]) hl.1 dJ2_get_5 (fun x5 w5 H locs cells slots S hv => ?_) (wq_kx X rfl)
  refine lv_pop X.hx X.hb dJ2_get_8 rfl ?_
  refine wq_aload_n X dJ2_get_9 rfl (lv_at hl 0 rfl) ?_
  refine lv_iload_n X.hx X.hb dJ2_get_10 rfl (lv_at hl 1 rfl) ?_
  refine wq_cV_A X S hv q283 q284 q285 q63 ⟨by decide +kernel, by decide +kernel⟩ (nA := 1) (As := [.int v1]) (by decide +kernel) rfl rfl (by simp [wv_rfc, wv_kI, wv_kJ, wv_kF, wv_kD]) hl.1 dJ2_get_11 (fun x11 w11 H locs cells slots S hv => ?_) (wq_kx X rfl)
  exact wr_aret X S (Or.inl ⟨_, rfl⟩) hv dJ2_get_14
theorem wk_J2_get {G : wv_G} (hG : wv_G0 G) {v0 : Option Nat} {v1 : Int32} {h : wv_H} {fr kc ks : Nat} {P : wv_R → wv_H → Prop} (hv : vc_J2_get_0 G fr P v0 v1 (h, kc, ks)) : wv_C G yJ2_get [va_rf v0, .int v1] h fr kc ks P := by
  refine wv_enter (lv := [(0, va_rf v0), (1, .int v1)]) hG (by decide +kernel) q276 (by decide) (by simp [lg_sl, wv_rfc, wv_kI, wv_kJ, wv_kF, wv_kD]) (by simp [lv_args, wv_rfc, wv_kI, wv_kJ, wv_kF, wv_kD]) ?_
  intro p e R s m args below meth c X H locs cells slots ls S hl
  exact wk_J2_get_0 X hv H locs cells slots ls S (lv_sub hl [0, 1] rfl)

def vc_J2_elementData_0 (G : wv_G) (fr : Nat) (P : wv_R → wv_H → Prop) (v0 : Option Nat) (v1 : Int32) (w : wv_W) : Prop :=
  wv_gA w v0 ciJ2 1 (fun x1 => wv_lq G 5 w x1 v1 (fun x5 => P (.inl (some (va_rf x5))) w.1))
set_option maxHeartbeats 4000000 in
theorem wk_J2_elementData_0 {G : wv_G} {p : Program} {e : Env} {R : Room} {s : State} {m : MethodId} {args : Array Value} {below : List Frame} {meth : Method} {c : Code} {fr : Nat} {P : wv_R → wv_H → Prop} (X : wv_ok G p R s m args meth c fr "java/util/ArrayList" cJ2_elementData 2 (Option.some (Jvm.ClassFile.FieldType.object "java/lang/Object")) "elementData" []) {v0 : Option Nat} {v1 : Int32} {w : wv_W} (hv : vc_J2_elementData_0 G fr P v0 v1 w) : wv_J G p e R s m args below meth c 2 P w 0 [(0, va_rf v0), (1, .int v1)] [] := by
  intro H locs cells slots ls S hl
  unfold vc_J2_elementData_0 at hv
  refine wq_aload_n X dJ2_elementData_0 rfl (lv_at hl 0 rfl) ?_
  refine wq_gA X S hv ccJ2 in_J2 (k := 1) (by decide) q141 dJ2_elementData_1 (fun x1 hv => ?_)
  refine lv_iload_n X.hx X.hb dJ2_elementData_4 rfl (lv_at hl 1 rfl) ?_
  refine wq_lq5 X S hv dJ2_elementData_5 (fun x5 hv => ?_)
  exact wr_aret X S (Or.inl ⟨_, rfl⟩) hv dJ2_elementData_6
theorem wk_J2_elementData {G : wv_G} (hG : wv_G0 G) {v0 : Option Nat} {v1 : Int32} {h : wv_H} {fr kc ks : Nat} {P : wv_R → wv_H → Prop} (hv : vc_J2_elementData_0 G fr P v0 v1 (h, kc, ks)) : wv_C G yJ2_elementData [va_rf v0, .int v1] h fr kc ks P := by
  refine wv_enter (lv := [(0, va_rf v0), (1, .int v1)]) hG (by decide +kernel) q286 (by decide) (by simp [lg_sl, wv_rfc, wv_kI, wv_kJ, wv_kF, wv_kD]) (by simp [lv_args, wv_rfc, wv_kI, wv_kJ, wv_kF, wv_kD]) ?_
  intro p e R s m args below meth c X H locs cells slots ls S hl
  exact wk_J2_elementData_0 X hv H locs cells slots ls S (lv_sub hl [0, 1] rfl)

def vc_J2_isEmpty_0 (G : wv_G) (fr : Nat) (P : wv_R → wv_H → Prop) (v0 : Option Nat) (w : wv_W) : Prop :=
  wv_gI w v0 ciJ2 2 (fun x1 => (¬ x1 = 0 → narrow .boolean (.int (0 : Int32)) = .int (0 : Int32) ∧ P (.inl (some (.int (0 : Int32)))) w.1) ∧ (x1 = 0 → narrow .boolean (.int (1 : Int32)) = .int (1 : Int32) ∧ P (.inl (some (.int (1 : Int32)))) w.1))
set_option maxHeartbeats 4000000 in
theorem wk_J2_isEmpty_0 {G : wv_G} {p : Program} {e : Env} {R : Room} {s : State} {m : MethodId} {args : Array Value} {below : List Frame} {meth : Method} {c : Code} {fr : Nat} {P : wv_R → wv_H → Prop} (X : wv_ok G p R s m args meth c fr "java/util/ArrayList" cJ2_isEmpty 1 (Option.some Jvm.ClassFile.FieldType.boolean) "isEmpty" []) {v0 : Option Nat} {w : wv_W} (hv : vc_J2_isEmpty_0 G fr P v0 w) : wv_J G p e R s m args below meth c 1 P w 0 [(0, va_rf v0)] [] := by
  intro H locs cells slots ls S hl
  unfold vc_J2_isEmpty_0 at hv
  refine wq_aload_n X dJ2_isEmpty_0 rfl (lv_at hl 0 rfl) ?_
  refine wq_gI X S hv ccJ2 in_J2 (k := 2) (by decide) q144 dJ2_isEmpty_1 (fun x1 hv => ?_)
  refine lv_if_ne (tgt := 11) X.hx X.hb dJ2_isEmpty_4 (by decide) (fun c4 => ?_) (fun c4 => ?_)
  · have hv := hv.1 c4
    refine lv_iconst (v := (0 : Int32)) X.hx X.hb dJ2_isEmpty_11 (by decide) ?_
    exact wr_iret X S hv.1 hv.2 dJ2_isEmpty_12
  · have hv := hv.2 c4
    refine lv_iconst (v := (1 : Int32)) X.hx X.hb dJ2_isEmpty_7 (by decide) ?_
    refine lv_goto (tgt := 12) X.hx X.hb dJ2_isEmpty_8 (by decide) ?_
    exact wr_iret X S hv.1 hv.2 dJ2_isEmpty_12
theorem wk_J2_isEmpty {G : wv_G} (hG : wv_G0 G) {v0 : Option Nat} {h : wv_H} {fr kc ks : Nat} {P : wv_R → wv_H → Prop} (hv : vc_J2_isEmpty_0 G fr P v0 (h, kc, ks)) : wv_C G yJ2_isEmpty [va_rf v0] h fr kc ks P := by
  refine wv_enter (lv := [(0, va_rf v0)]) hG (by decide +kernel) q301 (by decide) (by simp [lg_sl, wv_rfc, wv_kI, wv_kJ, wv_kF, wv_kD]) (by simp [lv_args, wv_rfc, wv_kI, wv_kJ, wv_kF, wv_kD]) ?_
  intro p e R s m args below meth c X H locs cells slots ls S hl
  exact wk_J2_isEmpty_0 X hv H locs cells slots ls S (lv_sub hl [0] rfl)

def vc_J2_clear_27 (G : wv_G) (fr : Nat) (P : wv_R → wv_H → Prop) (K27 : ((Option Nat) × Int32 × Int32) → wv_W → Prop) (v1 : Option Nat) (v2 : Int32) (v3 : Int32) (w : wv_W) : Prop :=
  (v2 ≤ v3 → P (.inl none) w.1) ∧ (¬ v2 ≤ v3 → wv_sq G 5 "java/lang/Object" w v1 v3 none (fun w35 => K27 (v1, v2, (v3 + (1 : Int32))) w35))
def vc_J2_clear_0 (G : wv_G) (fr : Nat) (P : wv_R → wv_H → Prop) (v0 : Option Nat) (w : wv_W) : Prop :=
  wv_gI w v0 ciJ2 0 (fun x2 => wv_pt w v0 ciJ2 0 (.int (x2 + (1 : Int32))) (fun w7 => wv_gA w7 v0 ciJ2 1 (fun x11 => wv_gI w7 v0 ciJ2 2 (fun x16 => wv_pt w7 v0 ciJ2 2 (.int (0 : Int32)) (fun w23 => wv_L (fun K27 a w => vc_J2_clear_27 G fr P K27 a.1 a.2.1 a.2.2 w) (x11, x16, (0 : Int32)) w23)))))
set_option maxHeartbeats 4000000 in
theorem wk_J2_clear_27 {G : wv_G} {p : Program} {e : Env} {R : Room} {s : State} {m : MethodId} {args : Array Value} {below : List Frame} {meth : Method} {c : Code} {fr : Nat} {P : wv_R → wv_H → Prop} (X : wv_ok G p R s m args meth c fr "java/util/ArrayList" cJ2_clear 4 (Option.none : Option Jvm.ClassFile.FieldType) "clear" []) {K27 : ((Option Nat) × Int32 × Int32) → wv_W → Prop} (hK27 : ∀ a w, K27 a w → wv_J G p e R s m args below meth c 4 P w 27 [(1, va_rf a.1), (2, .int a.2.1), (3, .int a.2.2)] []) {v1 : Option Nat} {v2 : Int32} {v3 : Int32} {w : wv_W} (hv : vc_J2_clear_27 G fr P K27 v1 v2 v3 w) : wv_J G p e R s m args below meth c 4 P w 27 [(1, va_rf v1), (2, .int v2), (3, .int v3)] [] := by
  intro H locs cells slots ls S hl
  unfold vc_J2_clear_27 at hv
  refine lv_iload_n X.hx X.hb dJ2_clear_27 rfl (lv_at hl 2 rfl) ?_
  refine lv_iload_n X.hx X.hb dJ2_clear_28 rfl (lv_at hl 1 rfl) ?_
  refine lv_icmp_ge (tgt := 42) X.hx X.hb dJ2_clear_29 (by decide) (fun c29 => ?_) (fun c29 => ?_)
  · have hv := hv.1 c29
    exact wr_vret X S hv dJ2_clear_42
  · have hv := hv.2 c29
    refine wq_aload_n X dJ2_clear_32 rfl (lv_at hl 0 rfl) ?_
    refine lv_iload_n X.hx X.hb dJ2_clear_33 rfl (lv_at hl 2 rfl) ?_
    refine wq_null (k := 0) X S dJ2_clear_34 ?_
    refine wq_sq5 X S hv dJ2_clear_35 (fun w35 H locs S hv => ?_)
    refine lv_iinc (v := (v3 + (1 : Int32))) (lv' := [(3, .int (v3 + (1 : Int32))), (1, va_rf v1), (2, .int v2)]) X.hx X.hb dJ2_clear_36 hl (k := 2) rfl (by rfl) (by decide) (by simp [wv_rfc, wv_kI, wv_kJ, wv_kF, wv_kD]) (fun ls hl => ?_)
    refine lv_goto (tgt := 27) X.hx X.hb dJ2_clear_39 (by decide) ?_
    exact hK27 _ _ hv H locs cells slots ls S (lv_sub hl [1, 2, 0] rfl)
set_option maxHeartbeats 4000000 in
theorem wk_J2_clear_0 {G : wv_G} {p : Program} {e : Env} {R : Room} {s : State} {m : MethodId} {args : Array Value} {below : List Frame} {meth : Method} {c : Code} {fr : Nat} {P : wv_R → wv_H → Prop} (X : wv_ok G p R s m args meth c fr "java/util/ArrayList" cJ2_clear 4 (Option.none : Option Jvm.ClassFile.FieldType) "clear" []) {v0 : Option Nat} {w : wv_W} (hv : vc_J2_clear_0 G fr P v0 w) : wv_J G p e R s m args below meth c 4 P w 0 [(0, va_rf v0)] [] := by
  intro H locs cells slots ls S hl
  unfold vc_J2_clear_0 at hv
  refine wq_aload_n X dJ2_clear_0 rfl (lv_at hl 0 rfl) ?_
  refine lv_dup X.hx X.hb dJ2_clear_1 (wv_rfc _) ?_
  refine wq_gIS X S hv ccJ2 in_J2 (k := 0) (by decide) q148 q147 dJ2_clear_2 (fun x2 hv => ?_)
  refine lv_iconst (v := (1 : Int32)) X.hx X.hb dJ2_clear_5 (by decide) ?_
  refine lv_iadd X.hx X.hb dJ2_clear_6 ?_
  refine wq_ptS X S hv tyJ2 tyJ2_ok nmJ2 ccJ2 in_J2 (k := 0) (by decide) q148 q147 rfl rfl rfl rfl dJ2_clear_7 (fun w7 H locs S hv => ?_)
  refine wq_aload_n X dJ2_clear_10 rfl (lv_at hl 0 rfl) ?_
  refine wq_gA X S hv ccJ2 in_J2 (k := 1) (by decide) q141 dJ2_clear_11 (fun x11 hv => ?_)
  refine wq_astore_n X (i := 1) (lv' := [(1, va_rf x11), (0, va_rf v0)]) dJ2_clear_14 rfl hl (by decide) (by simp [wv_rfc, wv_kI, wv_kJ, wv_kF, wv_kD]) (fun ls hl => ?_)
  refine wq_aload_n X dJ2_clear_15 rfl (lv_at hl 1 rfl) ?_
  refine wq_gI X S hv ccJ2 in_J2 (k := 2) (by decide) q144 dJ2_clear_16 (fun x16 hv => ?_)
  refine lv_istore_n X.hx X.hb (i := 2) (lv' := [(2, .int x16), (1, va_rf x11), (0, va_rf v0)]) dJ2_clear_19 rfl hl (by decide) (by simp [wv_rfc, wv_kI, wv_kJ, wv_kF, wv_kD]) (fun ls hl => ?_)
  refine wq_aload_n X dJ2_clear_20 rfl (lv_at hl 2 rfl) ?_
  refine lv_iconst (v := (0 : Int32)) X.hx X.hb dJ2_clear_21 (by decide) ?_
  refine lv_dup_x1 X.hx X.hb dJ2_clear_22 rfl (wv_rfc _) ?_
  refine wq_pt X S hv tyJ2 tyJ2_ok nmJ2 ccJ2 in_J2 (k := 2) (by decide) q144 rfl rfl rfl rfl dJ2_clear_23 (fun w23 H locs S hv => ?_)
  refine lv_istore_n X.hx X.hb (i := 3) (lv' := [(3, .int (0 : Int32)), (2, .int x16), (1, va_rf x11), (0, va_rf v0)]) dJ2_clear_26 rfl hl (by decide) (by simp [wv_rfc, wv_kI, wv_kJ, wv_kF, wv_kD]) (fun ls hl => ?_)
  exact wv_loop (A := (Option Nat) × Int32 × Int32) (fun a w => wv_J G p e R s m args below meth c 4 P w 27 [(1, va_rf a.1), (2, .int a.2.1), (3, .int a.2.2)] []) (fun K27 hK27 a w hv => wk_J2_clear_27 X hK27 hv) hv H locs cells slots ls S (lv_sub hl [2, 1, 0] rfl)
theorem wk_J2_clear {G : wv_G} (hG : wv_G0 G) {v0 : Option Nat} {h : wv_H} {fr kc ks : Nat} {P : wv_R → wv_H → Prop} (hv : vc_J2_clear_0 G fr P v0 (h, kc, ks)) : wv_C G yJ2_clear [va_rf v0] h fr kc ks P := by
  refine wv_enter (lv := [(0, va_rf v0)]) hG (by decide +kernel) q1314 (by decide) (by simp [lg_sl, wv_rfc, wv_kI, wv_kJ, wv_kF, wv_kD]) (by simp [lv_args, wv_rfc, wv_kI, wv_kJ, wv_kF, wv_kD]) ?_
  intro p e R s m args below meth c X H locs cells slots ls S hl
  exact wk_J2_clear_0 X hv H locs cells slots ls S (lv_sub hl [0] rfl)

def vc_J2_contains_0 (G : wv_G) (fr : Nat) (P : wv_R → wv_H → Prop) (v0 : Option Nat) (v1 : Option Nat) (w : wv_W) : Prop :=
  wv_cV G fr yJ2_indexOf v0 [va_rf v1] w (wv_rI (fun x2 w2 => (x2 < 0 → narrow .boolean (.int (0 : Int32)) = .int (0 : Int32) ∧ P (.inl (some (.int (0 : Int32)))) w2.1) ∧ (¬ x2 < 0 → narrow .boolean (.int (1 : Int32)) = .int (1 : Int32) ∧ P (.inl (some (.int (1 : Int32)))) w2.1)) (wv_pr P))
set_option maxHeartbeats 4000000 in
theorem wk_J2_contains_0 {G : wv_G} {p : Program} {e : Env} {R : Room} {s : State} {m : MethodId} {args : Array Value} {below : List Frame} {meth : Method} {c : Code} {fr : Nat} {P : wv_R → wv_H → Prop} (X : wv_ok G p R s m args meth c fr "java/util/ArrayList" cJ2_contains 2 (Option.some Jvm.ClassFile.FieldType.boolean) "contains" []) {v0 : Option Nat} {v1 : Option Nat} {w : wv_W} (hv : vc_J2_contains_0 G fr P v0 v1 w) : wv_J G p e R s m args below meth c 2 P w 0 [(0, va_rf v0), (1, va_rf v1)] [] := by
  intro H locs cells slots ls S hl
  unfold vc_J2_contains_0 at hv
  refine wq_aload_n X dJ2_contains_0 rfl (lv_at hl 0 rfl) ?_
  refine wq_aload_n X dJ2_contains_1 rfl (lv_at hl 1 rfl) ?_
  refine wq_cV_I X S hv q2021 q2022 q2023 q63 ⟨by decide +kernel, by decide +kernel⟩ (nA := 1) (As := [va_rf v1]) (by decide +kernel) rfl rfl (by simp [wv_rfc, wv_kI, wv_kJ, wv_kF, wv_kD]) hl.1 dJ2_contains_2 (fun x2 w2 H locs cells slots S hv => ?_) (wq_kx X rfl)
  refine lv_if_lt (tgt := 12) X.hx X.hb dJ2_contains_5 (by decide) (fun c5 => ?_) (fun c5 => ?_)
  · have hv := hv.1 c5
    refine lv_iconst (v := (0 : Int32)) X.hx X.hb dJ2_contains_12 (by decide) ?_
    exact wr_iret X S hv.1 hv.2 dJ2_contains_13
  · have hv := hv.2 c5
    refine lv_iconst (v := (1 : Int32)) X.hx X.hb dJ2_contains_8 (by decide) ?_
    refine lv_goto (tgt := 13) X.hx X.hb dJ2_contains_9 (by decide) ?_
    exact wr_iret X S hv.1 hv.2 dJ2_contains_13
theorem wk_J2_contains {G : wv_G} (hG : wv_G0 G) {v0 : Option Nat} {v1 : Option Nat} {h : wv_H} {fr kc ks : Nat} {P : wv_R → wv_H → Prop} (hv : vc_J2_contains_0 G fr P v0 v1 (h, kc, ks)) : wv_C G yJ2_contains [va_rf v0, va_rf v1] h fr kc ks P := by
  refine wv_enter (lv := [(0, va_rf v0), (1, va_rf v1)]) hG (by decide +kernel) q2020 (by decide) (by simp [lg_sl, wv_rfc, wv_kI, wv_kJ, wv_kF, wv_kD]) (by simp [lv_args, wv_rfc, wv_kI, wv_kJ, wv_kF, wv_kD]) ?_
  intro p e R s m args below meth c X H locs cells slots ls S hl
  exact wk_J2_contains_0 X hv H locs cells slots ls S (lv_sub hl [0, 1] rfl)

def vc_J2_indexOf_0 (G : wv_G) (fr : Nat) (P : wv_R → wv_H → Prop) (v0 : Option Nat) (v1 : Option Nat) (w : wv_W) : Prop :=
  wv_gI w v0 ciJ2 2 (fun x4 => wv_cV G fr yJ2_indexOfRange v0 [va_rf v1, .int (0 : Int32), .int x4] w (wv_rI (fun x7 w7 => P (.inl (some (.int x7))) w7.1) (wv_pr P)))
set_option maxHeartbeats 4000000 in
theorem wk_J2_indexOf_0 {G : wv_G} {p : Program} {e : Env} {R : Room} {s : State} {m : MethodId} {args : Array Value} {below : List Frame} {meth : Method} {c : Code} {fr : Nat} {P : wv_R → wv_H → Prop} (X : wv_ok G p R s m args meth c fr "java/util/ArrayList" cJ2_indexOf 2 (Option.some Jvm.ClassFile.FieldType.int) "indexOf" []) {v0 : Option Nat} {v1 : Option Nat} {w : wv_W} (hv : vc_J2_indexOf_0 G fr P v0 v1 w) : wv_J G p e R s m args below meth c 2 P w 0 [(0, va_rf v0), (1, va_rf v1)] [] := by
  intro H locs cells slots ls S hl
  unfold vc_J2_indexOf_0 at hv
  refine wq_aload_n X dJ2_indexOf_0 rfl (lv_at hl 0 rfl) ?_
  refine wq_aload_n X dJ2_indexOf_1 rfl (lv_at hl 1 rfl) ?_
  refine lv_iconst (v := (0 : Int32)) X.hx X.hb dJ2_indexOf_2 (by decide) ?_
  refine wq_aload_n X dJ2_indexOf_3 rfl (lv_at hl 0 rfl) ?_
  refine wq_gI X S hv ccJ2 in_J2 (k := 2) (by decide) q144 dJ2_indexOf_4 (fun x4 hv => ?_)
  refine wq_cV_I X S hv q2025 q2026 q2027 q63 ⟨by decide +kernel, by decide +kernel⟩ (nA := 3) (As := [va_rf v1, .int (0 : Int32), .int x4]) (by decide +kernel) rfl rfl (by simp [wv_rfc, wv_kI, wv_kJ, wv_kF, wv_kD]) hl.1 dJ2_indexOf_7 (fun x7 w7 H locs cells slots S hv => ?_) (wq_kx X rfl)
  exact wr_iret X S rfl hv dJ2_indexOf_10
theorem wk_J2_indexOf {G : wv_G} (hG : wv_G0 G) {v0 : Option Nat} {v1 : Option Nat} {h : wv_H} {fr kc ks : Nat} {P : wv_R → wv_H → Prop} (hv : vc_J2_indexOf_0 G fr P v0 v1 (h, kc, ks)) : wv_C G yJ2_indexOf [va_rf v0, va_rf v1] h fr kc ks P := by
  refine wv_enter (lv := [(0, va_rf v0), (1, va_rf v1)]) hG (by decide +kernel) q2024 (by decide) (by simp [lg_sl, wv_rfc, wv_kI, wv_kJ, wv_kF, wv_kD]) (by simp [lv_args, wv_rfc, wv_kI, wv_kJ, wv_kF, wv_kD]) ?_
  intro p e R s m args below meth c X H locs cells slots ls S hl
  exact wk_J2_indexOf_0 X hv H locs cells slots ls S (lv_sub hl [0, 1] rfl)

def vc_J2_indexOfRange_42 (G : wv_G) (fr : Nat) (P : wv_R → wv_H → Prop) (K42 : ((Option Nat) × Int32 × (Option Nat) × Int32) → wv_W → Prop) (v1 : Option Nat) (v3 : Int32) (v4 : Option Nat) (v5 : Int32) (w : wv_W) : Prop :=
  (v3 ≤ v5 → P (.inl (some (.int (-1 : Int32)))) w.1) ∧ (¬ v3 ≤ v5 → wv_lq G 5 w v4 v5 (fun x53 => wv_cU G fr (⟨"java/lang/Object", "equals", "(Ljava/lang/Object;)Z"⟩ : MethodName) v1 [va_rf x53] w (wv_rI (fun x54 w54 => (x54 = 0 → K42 (v1, v3, v4, (v5 + (1 : Int32))) w54) ∧ (¬ x54 = 0 → P (.inl (some (.int v5))) w54.1)) (wv_pr P))))
def vc_J2_indexOfRange_13 (G : wv_G) (fr : Nat) (P : wv_R → wv_H → Prop) (K13 : (Int32 × (Option Nat) × Int32) → wv_W → Prop) (v3 : Int32) (v4 : Option Nat) (v5 : Int32) (w : wv_W) : Prop :=
  (v3 ≤ v5 → P (.inl (some (.int (-1 : Int32)))) w.1) ∧ (¬ v3 ≤ v5 → wv_lq G 5 w v4 v5 (fun x23 => (¬ x23 = none → K13 (v3, v4, (v5 + (1 : Int32))) w) ∧ (x23 = none → P (.inl (some (.int v5))) w.1)))
def vc_J2_indexOfRange_0 (G : wv_G) (fr : Nat) (P : wv_R → wv_H → Prop) (v0 : Option Nat) (v1 : Option Nat) (v2 : Int32) (v3 : Int32) (w : wv_W) : Prop :=
  wv_gA w v0 ciJ2 1 (fun x1 => (¬ v1 = none → wv_L (fun K42 a w => vc_J2_indexOfRange_42 G fr P K42 a.1 a.2.1 a.2.2.1 a.2.2.2 w) (v1, v3, x1, v2) w) ∧ (v1 = none → wv_L (fun K13 a w => vc_J2_indexOfRange_13 G fr P K13 a.1 a.2.1 a.2.2 w) (v3, x1, v2) w))
set_option maxHeartbeats 4000000 in
theorem wk_J2_indexOfRange_42 {G : wv_G} {p : Program} {e : Env} {R : Room} {s : State} {m : MethodId} {args : Array Value} {below : List Frame} {meth : Method} {c : Code} {fr : Nat} {P : wv_R → wv_H → Prop} (X : wv_ok G p R s m args meth c fr "java/util/ArrayList" cJ2_indexOfRange 6 (Option.some Jvm.ClassFile.FieldType.int) "indexOfRange" []) {K42 : ((Option Nat) × Int32 × (Option Nat) × Int32) → wv_W → Prop} (hK42 : ∀ a w, K42 a w → wv_J G p e R s m args below meth c 6 P w 42 [(1, va_rf a.1), (3, .int a.2.1), (4, va_rf a.2.2.1), (5, .int a.2.2.2)] []) {v1 : Option Nat} {v3 : Int32} {v4 : Option Nat} {v5 : Int32} {w : wv_W} (hv : vc_J2_indexOfRange_42 G fr P K42 v1 v3 v4 v5 w) : wv_J G p e R s m args below meth c 6 P w 42 [(1, va_rf v1), (3, .int v3), (4, va_rf v4), (5, .int v5)] [] := by
  intro H locs cells slots ls S hl
  unfold vc_J2_indexOfRange_42 at hv
  refine lv_iload X.hx X.hb dJ2_indexOfRange_42 (lv_at hl 3 rfl) ?_
  refine lv_iload_n X.hx X.hb dJ2_indexOfRange_44 rfl (lv_at hl 1 rfl) ?_
  refine lv_icmp_ge (tgt := 69) X.hx X.hb dJ2_indexOfRange_45 (by decide) (fun c45 => ?_) (fun c45 => ?_)
  · have hv := hv.1 c45
    refine lv_iconst (v := (-1 : Int32)) X.hx X.hb dJ2_indexOfRange_69 (by decide) ?_
    exact wr_iret X S rfl hv dJ2_indexOfRange_70
  · have hv := hv.2 c45
    refine wq_aload_n X dJ2_indexOfRange_48 rfl (lv_at hl 0 rfl) ?_
    refine wq_aload X dJ2_indexOfRange_49 (lv_at hl 2 rfl) ?_
    refine lv_iload X.hx X.hb dJ2_indexOfRange_51 (lv_at hl 3 rfl) ?_
    refine wq_lq5 X S hv dJ2_indexOfRange_53 (fun x53 hv => ?_)
    refine wq_cU_I X S hv q2030 ⟨by decide +kernel, by decide +kernel⟩ (nA := 1) (As := [va_rf x53]) (by decide +kernel) rfl rfl (by simp [wv_rfc, wv_kI, wv_kJ, wv_kF, wv_kD]) hl.1 dJ2_indexOfRange_54 (fun x54 w54 H locs cells slots S hv => ?_) (wq_kx X rfl)
    refine lv_if_eq (tgt := 63) X.hx X.hb dJ2_indexOfRange_57 (by decide) (fun c57 => ?_) (fun c57 => ?_)
    · have hv := hv.1 c57
      refine lv_iinc (v := (v5 + (1 : Int32))) (lv' := [(5, .int (v5 + (1 : Int32))), (1, va_rf v1), (3, .int v3), (4, va_rf v4)]) X.hx X.hb dJ2_indexOfRange_63 hl (k := 3) rfl (by rfl) (by decide) (by simp [wv_rfc, wv_kI, wv_kJ, wv_kF, wv_kD]) (fun ls hl => ?_)
      refine lv_goto (tgt := 42) X.hx X.hb dJ2_indexOfRange_66 (by decide) ?_
      exact hK42 _ _ hv H locs cells slots ls S (lv_sub hl [1, 2, 3, 0] rfl)
    · have hv := hv.2 c57
      refine lv_iload X.hx X.hb dJ2_indexOfRange_60 (lv_at hl 3 rfl) ?_
      exact wr_iret X S rfl hv dJ2_indexOfRange_62
set_option maxHeartbeats 4000000 in
theorem wk_J2_indexOfRange_13 {G : wv_G} {p : Program} {e : Env} {R : Room} {s : State} {m : MethodId} {args : Array Value} {below : List Frame} {meth : Method} {c : Code} {fr : Nat} {P : wv_R → wv_H → Prop} (X : wv_ok G p R s m args meth c fr "java/util/ArrayList" cJ2_indexOfRange 6 (Option.some Jvm.ClassFile.FieldType.int) "indexOfRange" []) {K13 : (Int32 × (Option Nat) × Int32) → wv_W → Prop} (hK13 : ∀ a w, K13 a w → wv_J G p e R s m args below meth c 6 P w 13 [(3, .int a.1), (4, va_rf a.2.1), (5, .int a.2.2)] []) {v3 : Int32} {v4 : Option Nat} {v5 : Int32} {w : wv_W} (hv : vc_J2_indexOfRange_13 G fr P K13 v3 v4 v5 w) : wv_J G p e R s m args below meth c 6 P w 13 [(3, .int v3), (4, va_rf v4), (5, .int v5)] [] := by
  intro H locs cells slots ls S hl
  unfold vc_J2_indexOfRange_13 at hv
  refine lv_iload X.hx X.hb dJ2_indexOfRange_13 (lv_at hl 2 rfl) ?_
  refine lv_iload_n X.hx X.hb dJ2_indexOfRange_15 rfl (lv_at hl 0 rfl) ?_
  refine lv_icmp_ge (tgt := 36) X.hx X.hb dJ2_indexOfRange_16 (by decide) (fun c16 => ?_) (fun c16 => ?_)
  · have hv := hv.1 c16
    refine lv_goto (tgt := 69) X.hx X.hb dJ2_indexOfRange_36 (by decide) ?_
    refine lv_iconst (v := (-1 : Int32)) X.hx X.hb dJ2_indexOfRange_69 (by decide) ?_
    exact wr_iret X S rfl hv dJ2_indexOfRange_70
  · have hv := hv.2 c16
    refine wq_aload X dJ2_indexOfRange_19 (lv_at hl 1 rfl) ?_
    refine lv_iload X.hx X.hb dJ2_indexOfRange_21 (lv_at hl 2 rfl) ?_
    refine wq_lq5 X S hv dJ2_indexOfRange_23 (fun x23 hv => ?_)
    refine wq_ifnonnull (tgt := 30) X dJ2_indexOfRange_24 (by decide) (fun c24 => ?_) (fun c24 => ?_)
    · have hv := hv.1 c24
      refine lv_iinc (v := (v5 + (1 : Int32))) (lv' := [(5, .int (v5 + (1 : Int32))), (3, .int v3), (4, va_rf v4)]) X.hx X.hb dJ2_indexOfRange_30 hl (k := 2) rfl (by rfl) (by decide) (by simp [wv_rfc, wv_kI, wv_kJ, wv_kF, wv_kD]) (fun ls hl => ?_)
      refine lv_goto (tgt := 13) X.hx X.hb dJ2_indexOfRange_33 (by decide) ?_
      exact hK13 _ _ hv H locs cells slots ls S (lv_sub hl [1, 2, 0] rfl)
    · have hv := hv.2 c24
      refine lv_iload X.hx X.hb dJ2_indexOfRange_27 (lv_at hl 2 rfl) ?_
      exact wr_iret X S rfl hv dJ2_indexOfRange_29
set_option maxHeartbeats 4000000 in
theorem wk_J2_indexOfRange_0 {G : wv_G} {p : Program} {e : Env} {R : Room} {s : State} {m : MethodId} {args : Array Value} {below : List Frame} {meth : Method} {c : Code} {fr : Nat} {P : wv_R → wv_H → Prop} (X : wv_ok G p R s m args meth c fr "java/util/ArrayList" cJ2_indexOfRange 6 (Option.some Jvm.ClassFile.FieldType.int) "indexOfRange" []) {v0 : Option Nat} {v1 : Option Nat} {v2 : Int32} {v3 : Int32} {w : wv_W} (hv : vc_J2_indexOfRange_0 G fr P v0 v1 v2 v3 w) : wv_J G p e R s m args below meth c 6 P w 0 [(0, va_rf v0), (1, va_rf v1), (2, .int v2), (3, .int v3)] [] := by
  intro H locs cells slots ls S hl
  unfold vc_J2_indexOfRange_0 at hv
  refine wq_aload_n X dJ2_indexOfRange_0 rfl (lv_at hl 0 rfl) ?_
  refine wq_gA X S hv ccJ2 in_J2 (k := 1) (by decide) q141 dJ2_indexOfRange_1 (fun x1 hv => ?_)
  refine wq_astore X (i := 4) (lv' := [(4, va_rf x1), (0, va_rf v0), (1, va_rf v1), (2, .int v2), (3, .int v3)]) dJ2_indexOfRange_4 hl (by decide) (by simp [wv_rfc, wv_kI, wv_kJ, wv_kF, wv_kD]) (fun ls hl => ?_)
  refine wq_aload_n X dJ2_indexOfRange_6 rfl (lv_at hl 2 rfl) ?_
  refine wq_ifnonnull (tgt := 39) X dJ2_indexOfRange_7 (by decide) (fun c7 => ?_) (fun c7 => ?_)
  · have hv := hv.1 c7
    refine lv_iload_n X.hx X.hb dJ2_indexOfRange_39 rfl (lv_at hl 3 rfl) ?_
    refine lv_istore X.hx X.hb (i := 5) (lv' := [(5, .int v2), (4, va_rf x1), (0, va_rf v0), (1, va_rf v1), (2, .int v2), (3, .int v3)]) dJ2_indexOfRange_40 hl (by decide) (by simp [wv_rfc, wv_kI, wv_kJ, wv_kF, wv_kD]) (fun ls hl => ?_)
    exact wv_loop (A := (Option Nat) × Int32 × (Option Nat) × Int32) (fun a w => wv_J G p e R s m args below meth c 6 P w 42 [(1, va_rf a.1), (3, .int a.2.1), (4, va_rf a.2.2.1), (5, .int a.2.2.2)] []) (fun K42 hK42 a w hv => wk_J2_indexOfRange_42 X hK42 hv) hv H locs cells slots ls S (lv_sub hl [3, 5, 1, 0] rfl)
  · have hv := hv.2 c7
    refine lv_iload_n X.hx X.hb dJ2_indexOfRange_10 rfl (lv_at hl 3 rfl) ?_
    refine lv_istore X.hx X.hb (i := 5) (lv' := [(5, .int v2), (4, va_rf x1), (0, va_rf v0), (1, va_rf v1), (2, .int v2), (3, .int v3)]) dJ2_indexOfRange_11 hl (by decide) (by simp [wv_rfc, wv_kI, wv_kJ, wv_kF, wv_kD]) (fun ls hl => ?_)
    exact wv_loop (A := Int32 × (Option Nat) × Int32) (fun a w => wv_J G p e R s m args below meth c 6 P w 13 [(3, .int a.1), (4, va_rf a.2.1), (5, .int a.2.2)] []) (fun K13 hK13 a w hv => wk_J2_indexOfRange_13 X hK13 hv) hv H locs cells slots ls S (lv_sub hl [5, 1, 0] rfl)
theorem wk_J2_indexOfRange {G : wv_G} (hG : wv_G0 G) {v0 : Option Nat} {v1 : Option Nat} {v2 : Int32} {v3 : Int32} {h : wv_H} {fr kc ks : Nat} {P : wv_R → wv_H → Prop} (hv : vc_J2_indexOfRange_0 G fr P v0 v1 v2 v3 (h, kc, ks)) : wv_C G yJ2_indexOfRange [va_rf v0, va_rf v1, .int v2, .int v3] h fr kc ks P := by
  refine wv_enter (lv := [(0, va_rf v0), (1, va_rf v1), (2, .int v2), (3, .int v3)]) hG (by decide +kernel) q2028 (by decide) (by simp [lg_sl, wv_rfc, wv_kI, wv_kJ, wv_kF, wv_kD]) (by simp [lv_args, wv_rfc, wv_kI, wv_kJ, wv_kF, wv_kD]) ?_
  intro p e R s m args below meth c X H locs cells slots ls S hl
  exact wk_J2_indexOfRange_0 X hv H locs cells slots ls S (lv_sub hl [0, 1, 2, 3] rfl)

def vc_J2_remove_0 (G : wv_G) (fr : Nat) (P : wv_R → wv_H → Prop) (v0 : Option Nat) (v1 : Int32) (w : wv_W) : Prop :=
  wv_gI w v0 ciJ2 2 (fun x2 => wv_c0 G fr yJ9_checkIndex [.int v1, .int x2] w (wv_rI (fun x5 w5 => wv_gA w5 v0 ciJ2 1 (fun x10 => wv_lq G 5 w5 x10 v1 (fun x16 => wv_cV G fr yJ2_fastRemove v0 [va_rf x10, .int v1] w5 (wv_rV (fun w21 => P (.inl (some (va_rf x16))) w21.1) (wv_pr P))))) (wv_pr P)))
set_option maxHeartbeats 4000000 in
theorem wk_J2_remove_0 {G : wv_G} {p : Program} {e : Env} {R : Room} {s : State} {m : MethodId} {args : Array Value} {below : List Frame} {meth : Method} {c : Code} {fr : Nat} {P : wv_R → wv_H → Prop} (X : wv_ok G p R s m args meth c fr "java/util/ArrayList" cJ2_remove 4 (Option.some (Jvm.ClassFile.FieldType.object "java/lang/Object")) "remove" []) {v0 : Option Nat} {v1 : Int32} {w : wv_W} (hv : vc_J2_remove_0 G fr P v0 v1 w) : wv_J G p e R s m args below meth c 4 P w 0 [(0, va_rf v0), (1, .int v1)] [] := by
  intro H locs cells slots ls S hl
  unfold vc_J2_remove_0 at hv
  refine lv_iload_n X.hx X.hb dJ2_remove_0 rfl (lv_at hl 1 rfl) ?_
  refine wq_aload_n X dJ2_remove_1 rfl (lv_at hl 0 rfl) ?_
  refine wq_gI X S hv ccJ2 in_J2 (k := 2) (by decide) q144 dJ2_remove_2 (fun x2 hv => ?_)
  refine wq_cS_I X S hv q277 q278 q74 ⟨by decide +kernel, by decide +kernel⟩ (nA := 2) (As := [.int v1, .int x2]) (by decide +kernel) rfl rfl (by simp [wv_rfc, wv_kI, wv_kJ, wv_kF, wv_kD]) hl.1 dJ2_remove_5 (fun x5 w5 H locs cells slots S hv => ?_) (wq_kx X rfl)
  refine lv_pop X.hx X.hb dJ2_remove_8 rfl ?_
  refine wq_aload_n X dJ2_remove_9 rfl (lv_at hl 0 rfl) ?_
  refine wq_gA X S hv ccJ2 in_J2 (k := 1) (by decide) q141 dJ2_remove_10 (fun x10 hv => ?_)
  refine wq_astore_n X (i := 2) (lv' := [(2, va_rf x10), (0, va_rf v0), (1, .int v1)]) dJ2_remove_13 rfl hl (by decide) (by simp [wv_rfc, wv_kI, wv_kJ, wv_kF, wv_kD]) (fun ls hl => ?_)
  refine wq_aload_n X dJ2_remove_14 rfl (lv_at hl 0 rfl) ?_
  refine lv_iload_n X.hx X.hb dJ2_remove_15 rfl (lv_at hl 2 rfl) ?_
  refine wq_lq5 X S hv dJ2_remove_16 (fun x16 hv => ?_)
  refine wq_astore_n X (i := 3) (lv' := [(3, va_rf x16), (2, va_rf x10), (0, va_rf v0), (1, .int v1)]) dJ2_remove_17 rfl hl (by decide) (by simp [wv_rfc, wv_kI, wv_kJ, wv_kF, wv_kD]) (fun ls hl => ?_)
  refine wq_aload_n X dJ2_remove_18 rfl (lv_at hl 2 rfl) ?_
  refine wq_aload_n X dJ2_remove_19 rfl (lv_at hl 1 rfl) ?_
  refine lv_iload_n X.hx X.hb dJ2_remove_20 rfl (lv_at hl 3 rfl) ?_
  refine wq_cV_V X S hv q2471 q2473 qs54 q63 ⟨by decide +kernel, by decide +kernel⟩ (nA := 2) (As := [va_rf x10, .int v1]) (by decide +kernel) rfl rfl (by simp [wv_rfc, wv_kI, wv_kJ, wv_kF, wv_kD]) hl.1 dJ2_remove_21 (fun w21 H locs cells slots S hv => ?_) (wq_kx X rfl)
  refine wq_aload_n X dJ2_remove_24 rfl (lv_at hl 0 rfl) ?_
  exact wr_aret X S (Or.inl ⟨_, rfl⟩) hv dJ2_remove_25
theorem wk_J2_remove {G : wv_G} (hG : wv_G0 G) {v0 : Option Nat} {v1 : Int32} {h : wv_H} {fr kc ks : Nat} {P : wv_R → wv_H → Prop} (hv : vc_J2_remove_0 G fr P v0 v1 (h, kc, ks)) : wv_C G yJ2_remove [va_rf v0, .int v1] h fr kc ks P := by
  refine wv_enter (lv := [(0, va_rf v0), (1, .int v1)]) hG (by decide +kernel) q2470 (by decide) (by simp [lg_sl, wv_rfc, wv_kI, wv_kJ, wv_kF, wv_kD]) (by simp [lv_args, wv_rfc, wv_kI, wv_kJ, wv_kF, wv_kD]) ?_
  intro p e R s m args below meth c X H locs cells slots ls S hl
  exact wk_J2_remove_0 X hv H locs cells slots ls S (lv_sub hl [0, 1] rfl)

def vc_J2_fastRemove_34 (G : wv_G) (fr : Nat) (P : wv_R → wv_H → Prop) (v0 : Option Nat) (v1 : Option Nat) (v3 : Int32) (w : wv_W) : Prop :=
  wv_pt w v0 ciJ2 2 (.int v3) (fun w38 => wv_sq G 5 "java/lang/Object" w38 v1 v3 none (fun w42 => P (.inl none) w42.1))
def vc_J2_fastRemove_0 (G : wv_G) (fr : Nat) (P : wv_R → wv_H → Prop) (v0 : Option Nat) (v1 : Option Nat) (v2 : Int32) (w : wv_W) : Prop :=
  wv_gI w v0 ciJ2 0 (fun x2 => wv_pt w v0 ciJ2 0 (.int (x2 + (1 : Int32))) (fun w7 => wv_gI w7 v0 ciJ2 2 (fun x11 => ((x11 - (1 : Int32)) ≤ v2 → vc_J2_fastRemove_34 G fr P v0 v1 (x11 - (1 : Int32)) w7) ∧ (¬ (x11 - (1 : Int32)) ≤ v2 → wv_ac G fr w7 v1 (v2 + (1 : Int32)) v1 v2 ((x11 - (1 : Int32)) - v2) (fun w31 => vc_J2_fastRemove_34 G fr P v0 v1 (x11 - (1 : Int32)) w31)))))
set_option maxHeartbeats 4000000 in
theorem wk_J2_fastRemove_34 {G : wv_G} {p : Program} {e : Env} {R : Room} {s : State} {m : MethodId} {args : Array Value} {below : List Frame} {meth : Method} {c : Code} {fr : Nat} {P : wv_R → wv_H → Prop} (X : wv_ok G p R s m args meth c fr "java/util/ArrayList" cJ2_fastRemove 4 (Option.none : Option Jvm.ClassFile.FieldType) "fastRemove" []) {v0 : Option Nat} {v1 : Option Nat} {v3 : Int32} {w : wv_W} (hv : vc_J2_fastRemove_34 G fr P v0 v1 v3 w) : wv_J G p e R s m args below meth c 4 P w 34 [(0, va_rf v0), (1, va_rf v1), (3, .int v3)] [] := by
  intro H locs cells slots ls S hl
  unfold vc_J2_fastRemove_34 at hv
  refine wq_aload_n X dJ2_fastRemove_34 rfl (lv_at hl 1 rfl) ?_
  refine wq_aload_n X dJ2_fastRemove_35 rfl (lv_at hl 0 rfl) ?_
  refine lv_iload_n X.hx X.hb dJ2_fastRemove_36 rfl (lv_at hl 2 rfl) ?_
  refine lv_dup_x1 X.hx X.hb dJ2_fastRemove_37 rfl (wv_rfc _) ?_
  refine wq_pt X S hv tyJ2 tyJ2_ok nmJ2 ccJ2 in_J2 (k := 2) (by decide) q144 rfl rfl rfl rfl dJ2_fastRemove_38 (fun w38 H locs S hv => ?_)
  refine wq_null (k := 0) X S dJ2_fastRemove_41 ?_
  refine wq_sq5 X S hv dJ2_fastRemove_42 (fun w42 H locs S hv => ?_)
  exact wr_vret X S hv dJ2_fastRemove_43
set_option maxHeartbeats 4000000 in
theorem wk_J2_fastRemove_0 {G : wv_G} {p : Program} {e : Env} {R : Room} {s : State} {m : MethodId} {args : Array Value} {below : List Frame} {meth : Method} {c : Code} {fr : Nat} {P : wv_R → wv_H → Prop} (X : wv_ok G p R s m args meth c fr "java/util/ArrayList" cJ2_fastRemove 4 (Option.none : Option Jvm.ClassFile.FieldType) "fastRemove" []) {v0 : Option Nat} {v1 : Option Nat} {v2 : Int32} {w : wv_W} (hv : vc_J2_fastRemove_0 G fr P v0 v1 v2 w) : wv_J G p e R s m args below meth c 4 P w 0 [(0, va_rf v0), (1, va_rf v1), (2, .int v2)] [] := by
  intro H locs cells slots ls S hl
  unfold vc_J2_fastRemove_0 at hv
  refine wq_aload_n X dJ2_fastRemove_0 rfl (lv_at hl 0 rfl) ?_
  refine lv_dup X.hx X.hb dJ2_fastRemove_1 (wv_rfc _) ?_
  refine wq_gIS X S hv ccJ2 in_J2 (k := 0) (by decide) q148 q147 dJ2_fastRemove_2 (fun x2 hv => ?_)
  refine lv_iconst (v := (1 : Int32)) X.hx X.hb dJ2_fastRemove_5 (by decide) ?_
  refine lv_iadd X.hx X.hb dJ2_fastRemove_6 ?_
  refine wq_ptS X S hv tyJ2 tyJ2_ok nmJ2 ccJ2 in_J2 (k := 0) (by decide) q148 q147 rfl rfl rfl rfl dJ2_fastRemove_7 (fun w7 H locs S hv => ?_)
  refine wq_aload_n X dJ2_fastRemove_10 rfl (lv_at hl 0 rfl) ?_
  refine wq_gI X S hv ccJ2 in_J2 (k := 2) (by decide) q144 dJ2_fastRemove_11 (fun x11 hv => ?_)
  refine lv_iconst (v := (1 : Int32)) X.hx X.hb dJ2_fastRemove_14 (by decide) ?_
  refine lv_isub X.hx X.hb dJ2_fastRemove_15 ?_
  refine lv_dup X.hx X.hb dJ2_fastRemove_16 rfl ?_
  refine lv_istore_n X.hx X.hb (i := 3) (lv' := [(3, .int (x11 - (1 : Int32))), (0, va_rf v0), (1, va_rf v1), (2, .int v2)]) dJ2_fastRemove_17 rfl hl (by decide) (by simp [wv_rfc, wv_kI, wv_kJ, wv_kF, wv_kD]) (fun ls hl => ?_)
  refine lv_iload_n X.hx X.hb dJ2_fastRemove_18 rfl (lv_at hl 3 rfl) ?_
  refine lv_icmp_le (tgt := 34) X.hx X.hb dJ2_fastRemove_19 (by decide) (fun c19 => ?_) (fun c19 => ?_)
  · have hv := hv.1 c19
    exact wk_J2_fastRemove_34 X  hv H locs cells slots ls S (lv_sub hl [1, 2, 0] rfl)
  · have hv := hv.2 c19
    refine wq_aload_n X dJ2_fastRemove_22 rfl (lv_at hl 2 rfl) ?_
    refine lv_iload_n X.hx X.hb dJ2_fastRemove_23 rfl (lv_at hl 3 rfl) ?_
    refine lv_iconst (v := (1 : Int32)) X.hx X.hb dJ2_fastRemove_24 (by decide) ?_
    refine lv_iadd X.hx X.hb dJ2_fastRemove_25 ?_
    refine wq_aload_n X dJ2_fastRemove_26 rfl (lv_at hl 2 rfl) ?_
    refine lv_iload_n X.hx X.hb dJ2_fastRemove_27 rfl (lv_at hl 3 rfl) ?_
    refine lv_iload_n X.hx X.hb dJ2_fastRemove_28 rfl (lv_at hl 0 rfl) ?_
    refine lv_iload_n X.hx X.hb dJ2_fastRemove_29 rfl (lv_at hl 3 rfl) ?_
    refine lv_isub X.hx X.hb dJ2_fastRemove_30 ?_
    refine wq_ac X S hv q2475 (by simp [wv_rfc, wv_kI, wv_kJ, wv_kF, wv_kD]) hl.1 dJ2_fastRemove_31 (fun w31 H locs S hv => ?_)
    exact wk_J2_fastRemove_34 X  hv H locs cells slots ls S (lv_sub hl [1, 2, 0] rfl)
theorem wk_J2_fastRemove {G : wv_G} (hG : wv_G0 G) {v0 : Option Nat} {v1 : Option Nat} {v2 : Int32} {h : wv_H} {fr kc ks : Nat} {P : wv_R → wv_H → Prop} (hv : vc_J2_fastRemove_0 G fr P v0 v1 v2 (h, kc, ks)) : wv_C G yJ2_fastRemove [va_rf v0, va_rf v1, .int v2] h fr kc ks P := by
  refine wv_enter (lv := [(0, va_rf v0), (1, va_rf v1), (2, .int v2)]) hG (by decide +kernel) q2474 (by decide) (by simp [lg_sl, wv_rfc, wv_kI, wv_kJ, wv_kF, wv_kD]) (by simp [lv_args, wv_rfc, wv_kI, wv_kJ, wv_kF, wv_kD]) ?_
  intro p e R s m args below meth c X H locs cells slots ls S hl
  exact wk_J2_fastRemove_0 X hv H locs cells slots ls S (lv_sub hl [0, 1, 2] rfl)

def vc_J2_iterator_0 (G : wv_G) (fr : Nat) (P : wv_R → wv_H → Prop) (v0 : Option Nat) (w : wv_W) : Prop :=
  wv_no G w (wo_o ciJ24 [.int 0, .int 0, .int 0, va_rf none]) 4 (fun a0 w0 => wv_cI G fr yJ24_init (some a0) [va_rf v0] w0 (wv_rV (fun w5 => P (.inl (some (va_rf (some a0)))) w5.1) (wv_pr P)))
set_option maxHeartbeats 4000000 in
theorem wk_J2_iterator_0 {G : wv_G} {p : Program} {e : Env} {R : Room} {s : State} {m : MethodId} {args : Array Value} {below : List Frame} {meth : Method} {c : Code} {fr : Nat} {P : wv_R → wv_H → Prop} (X : wv_ok G p R s m args meth c fr "java/util/ArrayList" cJ2_iterator 1 (Option.some (Jvm.ClassFile.FieldType.object "java/util/Iterator")) "iterator" []) {v0 : Option Nat} {w : wv_W} (hv : vc_J2_iterator_0 G fr P v0 w) : wv_J G p e R s m args below meth c 1 P w 0 [(0, va_rf v0)] [] := by
  intro H locs cells slots ls S hl
  unfold vc_J2_iterator_0 at hv
  refine wq_new X S hv tyJ24 tyJ24_ok ccJ24 in_J24 q2178 q2179 q107 (fun j hj => by have hj : j < 4 := hj; rcases (show j = 0 ∨ j = 1 ∨ j = 2 ∨ j = 3 by omega) with rfl | rfl | rfl | rfl <;> rfl) dJ2_iterator_0 (fun a0 w0 H cells slots S hv => ?_)
  refine lv_dup X.hx X.hb dJ2_iterator_3 (wv_rfc _) ?_
  refine wq_aload_n X dJ2_iterator_4 rfl (lv_at hl 0 rfl) ?_
  refine wq_cI_V X S hv rfl q2180 q2181 q2182 q107 ⟨by decide +kernel, by decide +kernel⟩ (nA := 1) (As := [va_rf v0]) (by decide +kernel) rfl rfl (by simp [wv_rfc, wv_kI, wv_kJ, wv_kF, wv_kD]) hl.1 dJ2_iterator_5 (fun w5 H locs cells slots S hv => ?_) (wq_kx X rfl)
  exact wr_aret X S (Or.inl ⟨_, rfl⟩) hv dJ2_iterator_8
theorem wk_J2_iterator {G : wv_G} (hG : wv_G0 G) {v0 : Option Nat} {h : wv_H} {fr kc ks : Nat} {P : wv_R → wv_H → Prop} (hv : vc_J2_iterator_0 G fr P v0 (h, kc, ks)) : wv_C G yJ2_iterator [va_rf v0] h fr kc ks P := by
  refine wv_enter (lv := [(0, va_rf v0)]) hG (by decide +kernel) q2177 (by decide) (by simp [lg_sl, wv_rfc, wv_kI, wv_kJ, wv_kF, wv_kD]) (by simp [lv_args, wv_rfc, wv_kI, wv_kJ, wv_kF, wv_kD]) ?_
  intro p e R s m args below meth c X H locs cells slots ls S hl
  exact wk_J2_iterator_0 X hv H locs cells slots ls S (lv_sub hl [0] rfl)

def vc_J2_equals_0 (G : wv_G) (fr : Nat) (P : wv_R → wv_H → Prop) (v0 : Option Nat) (v1 : Option Nat) (w : wv_W) : Prop :=
  (¬ v1 = v0 → ((∃ a C', v1 = some a ∧ wv_is G w.1 a C' ∧ (C' = "java/util/List" ∨ Cond.castable C' "java/util/List" ∈ lw_tbl)) ∧ ((¬ (1 : Int32) = 0 → wv_gI w v0 ciJ2 0 (fun x17 => wv_gc G fr w v1 "java/util/ArrayList" ((¬ (some (wv_mir G "java/util/ArrayList")) = (some (wv_mir G "java/util/ArrayList")) → False) ∧ ((some (wv_mir G "java/util/ArrayList")) = (some (wv_mir G "java/util/ArrayList")) → wv_cc G w v1 "java/util/ArrayList" (wv_cV G fr yJ2_equalsArrayList v0 [va_rf v1] w (wv_rI (fun x35 w35 => wv_cV G fr yJ2_checkForComodification v0 [.int x17] w35 (wv_rV (fun w57 => narrow .boolean (.int x35) = .int x35 ∧ P (.inl (some (.int x35))) w57.1) (wv_pr P))) (wv_pr P))))))) ∧ ((1 : Int32) = 0 → False)))) ∧ (v1 = v0 → narrow .boolean (.int (1 : Int32)) = .int (1 : Int32) ∧ P (.inl (some (.int (1 : Int32)))) w.1)
set_option maxHeartbeats 4000000 in
theorem wk_J2_equals_0 {G : wv_G} {p : Program} {e : Env} {R : Room} {s : State} {m : MethodId} {args : Array Value} {below : List Frame} {meth : Method} {c : Code} {fr : Nat} {P : wv_R → wv_H → Prop} (X : wv_ok G p R s m args meth c fr "java/util/ArrayList" cJ2_equals 4 (Option.some Jvm.ClassFile.FieldType.boolean) "equals" []) {v0 : Option Nat} {v1 : Option Nat} {w : wv_W} (hv : vc_J2_equals_0 G fr P v0 v1 w) : wv_J G p e R s m args below meth c 4 P w 0 [(0, va_rf v0), (1, va_rf v1)] [] := by
  intro H locs cells slots ls S hl
  unfold vc_J2_equals_0 at hv
  refine wq_aload_n X dJ2_equals_0 rfl (lv_at hl 1 rfl) ?_
  refine wq_aload_n X dJ2_equals_1 rfl (lv_at hl 0 rfl) ?_
  refine lv_acmp_ne (tgt := 7) X.hx X.hb dJ2_equals_2 (by decide) (fun c2 => ?_) (fun c2 => ?_)
  · have hv := hv.1 c2
    refine wq_aload_n X dJ2_equals_7 rfl (lv_at hl 1 rfl) ?_
    refine wq_inst X S hv q2554 dJ2_equals_8 (fun hv => ?_)
    refine lv_if_ne (tgt := 16) X.hx X.hb dJ2_equals_11 (by decide) (fun c11 => ?_) (fun c11 => ?_)
    · have hv := hv.1 c11
      refine wq_aload_n X dJ2_equals_16 rfl (lv_at hl 0 rfl) ?_
      refine wq_gIS X S hv ccJ2 in_J2 (k := 0) (by decide) q148 q147 dJ2_equals_17 (fun x17 hv => ?_)
      refine lv_istore_n X.hx X.hb (i := 2) (lv' := [(2, .int x17), (0, va_rf v0), (1, va_rf v1)]) dJ2_equals_20 rfl hl (by decide) (by simp [wv_rfc, wv_kI, wv_kJ, wv_kF, wv_kD]) (fun ls hl => ?_)
      refine wq_aload_n X dJ2_equals_21 rfl (lv_at hl 2 rfl) ?_
      refine wq_gc X S hv (wv_mirL X.hG) q2555 q813 (by simp [wv_rfc, wv_kI, wv_kJ, wv_kF, wv_kD]) hl.1 dJ2_equals_22 (fun hv => ?_)
      refine wq_ldcM X S (wv_mirL X.hG) q2556 dJ2_equals_25 ?_
      refine lv_acmp_ne (tgt := 41) X.hx X.hb dJ2_equals_27 (by decide) (fun c27 => ?_) (fun c27 => ?_)
      · have hv := hv.1 c27
        exact hv.elim
      · have hv := hv.2 c27
        refine wq_aload_n X dJ2_equals_30 rfl (lv_at hl 1 rfl) ?_
        refine wq_aload_n X dJ2_equals_31 rfl (lv_at hl 2 rfl) ?_
        refine wq_cc X S hv q2556 dJ2_equals_32 (fun hv => ?_)
        refine wq_cV_I X S hv q2557 q2559 qs57 q63 ⟨by decide +kernel, by decide +kernel⟩ (nA := 1) (As := [va_rf v1]) (by decide +kernel) rfl rfl (by simp [wv_rfc, wv_kI, wv_kJ, wv_kF, wv_kD]) hl.1 dJ2_equals_35 (fun x35 w35 H locs cells slots S hv => ?_) (wq_kx X rfl)
        refine lv_goto (tgt := 54) X.hx X.hb dJ2_equals_38 (by decide) ?_
        refine lv_istore_n X.hx X.hb (i := 3) (lv' := [(3, .int x35), (2, .int x17), (0, va_rf v0), (1, va_rf v1)]) dJ2_equals_54 rfl hl (by decide) (by simp [wv_rfc, wv_kI, wv_kJ, wv_kF, wv_kD]) (fun ls hl => ?_)
        refine wq_aload_n X dJ2_equals_55 rfl (lv_at hl 2 rfl) ?_
        refine lv_iload_n X.hx X.hb dJ2_equals_56 rfl (lv_at hl 1 rfl) ?_
        refine wq_cV_V X S hv q2565 q2567 qs58 q63 ⟨by decide +kernel, by decide +kernel⟩ (nA := 1) (As := [.int x17]) (by decide +kernel) rfl rfl (by simp [wv_rfc, wv_kI, wv_kJ, wv_kF, wv_kD]) hl.1 dJ2_equals_57 (fun w57 H locs cells slots S hv => ?_) (wq_kx X rfl)
        refine lv_iload_n X.hx X.hb dJ2_equals_60 rfl (lv_at hl 0 rfl) ?_
        exact wr_iret X S hv.1 hv.2 dJ2_equals_61
    · have hv := hv.2 c11
      exact hv.elim
  · have hv := hv.2 c2
    refine lv_iconst (v := (1 : Int32)) X.hx X.hb dJ2_equals_5 (by decide) ?_
    exact wr_iret X S hv.1 hv.2 dJ2_equals_6
theorem wk_J2_equals {G : wv_G} (hG : wv_G0 G) {v0 : Option Nat} {v1 : Option Nat} {h : wv_H} {fr kc ks : Nat} {P : wv_R → wv_H → Prop} (hv : vc_J2_equals_0 G fr P v0 v1 (h, kc, ks)) : wv_C G yJ2_equals [va_rf v0, va_rf v1] h fr kc ks P := by
  refine wv_enter (lv := [(0, va_rf v0), (1, va_rf v1)]) hG (by decide +kernel) q2553 (by decide) (by simp [lg_sl, wv_rfc, wv_kI, wv_kJ, wv_kF, wv_kD]) (by simp [lv_args, wv_rfc, wv_kI, wv_kJ, wv_kF, wv_kD]) ?_
  intro p e R s m args below meth c X H locs cells slots ls S hl
  exact wk_J2_equals_0 X hv H locs cells slots ls S (lv_sub hl [0, 1] rfl)

def vc_J2_equalsArrayList_100 (G : wv_G) (fr : Nat) (P : wv_R → wv_H → Prop) (v1 : Option Nat) (v2 : Int32) (v4 : Int32) (w : wv_W) : Prop :=
  wv_cV G fr yJ2_checkForComodification v1 [.int v2] w (wv_rV (fun w102 => narrow .boolean (.int v4) = .int v4 ∧ P (.inl (some (.int v4))) w102.1) (wv_pr P))
def vc_J2_equalsArrayList_66 (G : wv_G) (fr : Nat) (P : wv_R → wv_H → Prop) (K66 : ((Option Nat) × Int32 × Int32 × Int32 × (Option Nat) × (Option Nat) × Int32) → wv_W → Prop) (v1 : Option Nat) (v2 : Int32) (v3 : Int32) (v4 : Int32) (v5 : Option Nat) (v6 : Option Nat) (v7 : Int32) (w : wv_W) : Prop :=
  (v3 ≤ v7 → vc_J2_equalsArrayList_100 G fr P v1 v2 v4 w) ∧ (¬ v3 ≤ v7 → wv_lq G 5 w v6 v7 (fun x76 => wv_lq G 5 w v5 v7 (fun x81 => wv_c0 G fr yJ9_equals [va_rf x76, va_rf x81] w (wv_rI (fun x82 w82 => (¬ x82 = 0 → K66 (v1, v2, v3, v4, v5, v6, (v7 + (1 : Int32))) w82) ∧ (x82 = 0 → vc_J2_equalsArrayList_100 G fr P v1 v2 (0 : Int32) w82)) (wv_pr P)))))
def vc_J2_equalsArrayList_55 (G : wv_G) (fr : Nat) (P : wv_R → wv_H → Prop) (w : wv_W) : Prop :=
  False
def vc_J2_equalsArrayList_23 (G : wv_G) (fr : Nat) (P : wv_R → wv_H → Prop) (v0 : Option Nat) (v1 : Option Nat) (v2 : Int32) (v3 : Int32) (s0 : Int32) (w : wv_W) : Prop :=
  (s0 = 0 → vc_J2_equalsArrayList_100 G fr P v1 v2 s0 w) ∧ (¬ s0 = 0 → wv_gA w v1 ciJ2 1 (fun x30 => wv_gA w v0 ciJ2 1 (fun x36 => wv_lenA G w x36 (fun x44 => (x44 < v3 → vc_J2_equalsArrayList_55 G fr P w) ∧ (¬ x44 < v3 → wv_lenA G w x30 (fun x51 => (v3 ≤ x51 → wv_L (fun K66 a w => vc_J2_equalsArrayList_66 G fr P K66 a.1 a.2.1 a.2.2.1 a.2.2.2.1 a.2.2.2.2.1 a.2.2.2.2.2.1 a.2.2.2.2.2.2 w) (v1, v2, v3, s0, x30, x36, (0 : Int32)) w) ∧ (¬ v3 ≤ x51 → vc_J2_equalsArrayList_55 G fr P w)))))))
def vc_J2_equalsArrayList_0 (G : wv_G) (fr : Nat) (P : wv_R → wv_H → Prop) (v0 : Option Nat) (v1 : Option Nat) (w : wv_W) : Prop :=
  wv_gI w v1 ciJ2 0 (fun x1 => wv_gI w v0 ciJ2 2 (fun x6 => wv_gI w v1 ciJ2 2 (fun x12 => (¬ x6 = x12 → vc_J2_equalsArrayList_23 G fr P v0 v1 x1 x6 (0 : Int32) w) ∧ (x6 = x12 → vc_J2_equalsArrayList_23 G fr P v0 v1 x1 x6 (1 : Int32) w))))
set_option maxHeartbeats 4000000 in
theorem wk_J2_equalsArrayList_100 {G : wv_G} {p : Program} {e : Env} {R : Room} {s : State} {m : MethodId} {args : Array Value} {below : List Frame} {meth : Method} {c : Code} {fr : Nat} {P : wv_R → wv_H → Prop} (X : wv_ok G p R s m args meth c fr "java/util/ArrayList" cJ2_equalsArrayList 8 (Option.some Jvm.ClassFile.FieldType.boolean) "equalsArrayList" []) {v1 : Option Nat} {v2 : Int32} {v4 : Int32} {w : wv_W} (hv : vc_J2_equalsArrayList_100 G fr P v1 v2 v4 w) : wv_J G p e R s m args below meth c 8 P w 100 [(1, va_rf v1), (2, .int v2), (4, .int v4)] [] := by
  intro H locs cells slots ls S hl
  unfold vc_J2_equalsArrayList_100 at hv
  refine wq_aload_n X dJ2_equalsArrayList_100 rfl (lv_at hl 0 rfl) ?_
  refine lv_iload_n X.hx X.hb dJ2_equalsArrayList_101 rfl (lv_at hl 1 rfl) ?_
  refine wq_cV_V X S hv q2565 q2567 qs58 q63 ⟨by decide +kernel, by decide +kernel⟩ (nA := 1) (As := [.int v2]) (by decide +kernel) rfl rfl (by simp [wv_rfc, wv_kI, wv_kJ, wv_kF, wv_kD]) hl.1 dJ2_equalsArrayList_102 (fun w102 H locs cells slots S hv => ?_) (wq_kx X rfl)
  refine lv_iload X.hx X.hb dJ2_equalsArrayList_105 (lv_at hl 2 rfl) ?_
  exact wr_iret X S hv.1 hv.2 dJ2_equalsArrayList_107
set_option maxHeartbeats 4000000 in
theorem wk_J2_equalsArrayList_66 {G : wv_G} {p : Program} {e : Env} {R : Room} {s : State} {m : MethodId} {args : Array Value} {below : List Frame} {meth : Method} {c : Code} {fr : Nat} {P : wv_R → wv_H → Prop} (X : wv_ok G p R s m args meth c fr "java/util/ArrayList" cJ2_equalsArrayList 8 (Option.some Jvm.ClassFile.FieldType.boolean) "equalsArrayList" []) {K66 : ((Option Nat) × Int32 × Int32 × Int32 × (Option Nat) × (Option Nat) × Int32) → wv_W → Prop} (hK66 : ∀ a w, K66 a w → wv_J G p e R s m args below meth c 8 P w 66 [(1, va_rf a.1), (2, .int a.2.1), (3, .int a.2.2.1), (4, .int a.2.2.2.1), (5, va_rf a.2.2.2.2.1), (6, va_rf a.2.2.2.2.2.1), (7, .int a.2.2.2.2.2.2)] []) {v1 : Option Nat} {v2 : Int32} {v3 : Int32} {v4 : Int32} {v5 : Option Nat} {v6 : Option Nat} {v7 : Int32} {w : wv_W} (hv : vc_J2_equalsArrayList_66 G fr P K66 v1 v2 v3 v4 v5 v6 v7 w) : wv_J G p e R s m args below meth c 8 P w 66 [(1, va_rf v1), (2, .int v2), (3, .int v3), (4, .int v4), (5, va_rf v5), (6, va_rf v6), (7, .int v7)] [] := by
  intro H locs cells slots ls S hl
  unfold vc_J2_equalsArrayList_66 at hv
  refine lv_iload X.hx X.hb dJ2_equalsArrayList_66 (lv_at hl 6 rfl) ?_
  refine lv_iload_n X.hx X.hb dJ2_equalsArrayList_68 rfl (lv_at hl 2 rfl) ?_
  refine lv_icmp_ge (tgt := 100) X.hx X.hb dJ2_equalsArrayList_69 (by decide) (fun c69 => ?_) (fun c69 => ?_)
  · have hv := hv.1 c69
    exact wk_J2_equalsArrayList_100 X  hv H locs cells slots ls S (lv_sub hl [0, 1, 3] rfl)
  · have hv := hv.2 c69
    refine wq_aload X dJ2_equalsArrayList_72 (lv_at hl 5 rfl) ?_
    refine lv_iload X.hx X.hb dJ2_equalsArrayList_74 (lv_at hl 6 rfl) ?_
    refine wq_lq5 X S hv dJ2_equalsArrayList_76 (fun x76 hv => ?_)
    refine wq_aload X dJ2_equalsArrayList_77 (lv_at hl 4 rfl) ?_
    refine lv_iload X.hx X.hb dJ2_equalsArrayList_79 (lv_at hl 6 rfl) ?_
    refine wq_lq5 X S hv dJ2_equalsArrayList_81 (fun x81 hv => ?_)
    refine wq_cS_I X S hv q2561 q2562 q74 ⟨by decide +kernel, by decide +kernel⟩ (nA := 2) (As := [va_rf x76, va_rf x81]) (by decide +kernel) rfl rfl (by simp [wv_rfc, wv_kI, wv_kJ, wv_kF, wv_kD]) hl.1 dJ2_equalsArrayList_82 (fun x82 w82 H locs cells slots S hv => ?_) (wq_kx X rfl)
    refine lv_if_ne (tgt := 94) X.hx X.hb dJ2_equalsArrayList_85 (by decide) (fun c85 => ?_) (fun c85 => ?_)
    · have hv := hv.1 c85
      refine lv_iinc (v := (v7 + (1 : Int32))) (lv' := [(7, .int (v7 + (1 : Int32))), (1, va_rf v1), (2, .int v2), (3, .int v3), (4, .int v4), (5, va_rf v5), (6, va_rf v6)]) X.hx X.hb dJ2_equalsArrayList_94 hl (k := 6) rfl (by rfl) (by decide) (by simp [wv_rfc, wv_kI, wv_kJ, wv_kF, wv_kD]) (fun ls hl => ?_)
      refine lv_goto (tgt := 66) X.hx X.hb dJ2_equalsArrayList_97 (by decide) ?_
      exact hK66 _ _ hv H locs cells slots ls S (lv_sub hl [1, 2, 3, 4, 5, 6, 0] rfl)
    · have hv := hv.2 c85
      refine lv_iconst (v := (0 : Int32)) X.hx X.hb dJ2_equalsArrayList_88 (by decide) ?_
      refine lv_istore X.hx X.hb (i := 4) (lv' := [(4, .int (0 : Int32)), (1, va_rf v1), (2, .int v2), (3, .int v3), (5, va_rf v5), (6, va_rf v6), (7, .int v7)]) dJ2_equalsArrayList_89 hl (by decide) (by simp [wv_rfc, wv_kI, wv_kJ, wv_kF, wv_kD]) (fun ls hl => ?_)
      refine lv_goto (tgt := 100) X.hx X.hb dJ2_equalsArrayList_91 (by decide) ?_
      exact wk_J2_equalsArrayList_100 X  hv H locs cells slots ls S (lv_sub hl [1, 2, 0] rfl)
set_option maxHeartbeats 4000000 in
theorem wk_J2_equalsArrayList_55 {G : wv_G} {p : Program} {e : Env} {R : Room} {s : State} {m : MethodId} {args : Array Value} {below : List Frame} {meth : Method} {c : Code} {fr : Nat} {P : wv_R → wv_H → Prop} (X : wv_ok G p R s m args meth c fr "java/util/ArrayList" cJ2_equalsArrayList 8 (Option.some Jvm.ClassFile.FieldType.boolean) "equalsArrayList" []) {w : wv_W} (hv : vc_J2_equalsArrayList_55 G fr P w) : wv_J G p e R s m args below meth c 8 P w 55 [] [] := by
  intro H locs cells slots ls S hl
  unfold vc_J2_equalsArrayList_55 at hv
  exact hv.elim
set_option maxHeartbeats 4000000 in
theorem wk_J2_equalsArrayList_23 {G : wv_G} {p : Program} {e : Env} {R : Room} {s : State} {m : MethodId} {args : Array Value} {below : List Frame} {meth : Method} {c : Code} {fr : Nat} {P : wv_R → wv_H → Prop} (X : wv_ok G p R s m args meth c fr "java/util/ArrayList" cJ2_equalsArrayList 8 (Option.some Jvm.ClassFile.FieldType.boolean) "equalsArrayList" []) {v0 : Option Nat} {v1 : Option Nat} {v2 : Int32} {v3 : Int32} {s0 : Int32} {w : wv_W} (hv : vc_J2_equalsArrayList_23 G fr P v0 v1 v2 v3 s0 w) : wv_J G p e R s m args below meth c 8 P w 23 [(0, va_rf v0), (1, va_rf v1), (2, .int v2), (3, .int v3)] [.int s0] := by
  intro H locs cells slots ls S hl
  unfold vc_J2_equalsArrayList_23 at hv
  refine lv_dup X.hx X.hb dJ2_equalsArrayList_23 rfl ?_
  refine lv_istore X.hx X.hb (i := 4) (lv' := [(4, .int s0), (0, va_rf v0), (1, va_rf v1), (2, .int v2), (3, .int v3)]) dJ2_equalsArrayList_24 hl (by decide) (by simp [wv_rfc, wv_kI, wv_kJ, wv_kF, wv_kD]) (fun ls hl => ?_)
  refine lv_if_eq (tgt := 100) X.hx X.hb dJ2_equalsArrayList_26 (by decide) (fun c26 => ?_) (fun c26 => ?_)
  · have hv := hv.1 c26
    exact wk_J2_equalsArrayList_100 X  hv H locs cells slots ls S (lv_sub hl [2, 3, 0] rfl)
  · have hv := hv.2 c26
    refine wq_aload_n X dJ2_equalsArrayList_29 rfl (lv_at hl 2 rfl) ?_
    refine wq_gA X S hv ccJ2 in_J2 (k := 1) (by decide) q141 dJ2_equalsArrayList_30 (fun x30 hv => ?_)
    refine wq_astore X (i := 5) (lv' := [(5, va_rf x30), (4, .int s0), (0, va_rf v0), (1, va_rf v1), (2, .int v2), (3, .int v3)]) dJ2_equalsArrayList_33 hl (by decide) (by simp [wv_rfc, wv_kI, wv_kJ, wv_kF, wv_kD]) (fun ls hl => ?_)
    refine wq_aload_n X dJ2_equalsArrayList_35 rfl (lv_at hl 2 rfl) ?_
    refine wq_gA X S hv ccJ2 in_J2 (k := 1) (by decide) q141 dJ2_equalsArrayList_36 (fun x36 hv => ?_)
    refine wq_astore X (i := 6) (lv' := [(6, va_rf x36), (5, va_rf x30), (4, .int s0), (0, va_rf v0), (1, va_rf v1), (2, .int v2), (3, .int v3)]) dJ2_equalsArrayList_39 hl (by decide) (by simp [wv_rfc, wv_kI, wv_kJ, wv_kF, wv_kD]) (fun ls hl => ?_)
    refine lv_iload_n X.hx X.hb dJ2_equalsArrayList_41 rfl (lv_at hl 6 rfl) ?_
    refine wq_aload X dJ2_equalsArrayList_42 (lv_at hl 0 rfl) ?_
    refine wq_lenA X S hv dJ2_equalsArrayList_44 (fun x44 hv => ?_)
    refine lv_icmp_gt (tgt := 55) X.hx X.hb dJ2_equalsArrayList_45 (by decide) (fun c45 => ?_) (fun c45 => ?_)
    · have hv := hv.1 c45
      exact wk_J2_equalsArrayList_55 X  hv H locs cells slots ls S (lv_sub hl [] rfl)
    · have hv := hv.2 c45
      refine lv_iload_n X.hx X.hb dJ2_equalsArrayList_48 rfl (lv_at hl 6 rfl) ?_
      refine wq_aload X dJ2_equalsArrayList_49 (lv_at hl 1 rfl) ?_
      refine wq_lenA X S hv dJ2_equalsArrayList_51 (fun x51 hv => ?_)
      refine lv_icmp_le (tgt := 63) X.hx X.hb dJ2_equalsArrayList_52 (by decide) (fun c52 => ?_) (fun c52 => ?_)
      · have hv := hv.1 c52
        refine lv_iconst (v := (0 : Int32)) X.hx X.hb dJ2_equalsArrayList_63 (by decide) ?_
        refine lv_istore X.hx X.hb (i := 7) (lv' := [(7, .int (0 : Int32)), (6, va_rf x36), (5, va_rf x30), (4, .int s0), (0, va_rf v0), (1, va_rf v1), (2, .int v2), (3, .int v3)]) dJ2_equalsArrayList_64 hl (by decide) (by simp [wv_rfc, wv_kI, wv_kJ, wv_kF, wv_kD]) (fun ls hl => ?_)
        exact wv_loop (A := (Option Nat) × Int32 × Int32 × Int32 × (Option Nat) × (Option Nat) × Int32) (fun a w => wv_J G p e R s m args below meth c 8 P w 66 [(1, va_rf a.1), (2, .int a.2.1), (3, .int a.2.2.1), (4, .int a.2.2.2.1), (5, va_rf a.2.2.2.2.1), (6, va_rf a.2.2.2.2.2.1), (7, .int a.2.2.2.2.2.2)] []) (fun K66 hK66 a w hv => wk_J2_equalsArrayList_66 X hK66 hv) hv H locs cells slots ls S (lv_sub hl [5, 6, 7, 3, 2, 1, 0] rfl)
      · have hv := hv.2 c52
        exact wk_J2_equalsArrayList_55 X  hv H locs cells slots ls S (lv_sub hl [] rfl)
set_option maxHeartbeats 4000000 in
theorem wk_J2_equalsArrayList_0 {G : wv_G} {p : Program} {e : Env} {R : Room} {s : State} {m : MethodId} {args : Array Value} {below : List Frame} {meth : Method} {c : Code} {fr : Nat} {P : wv_R → wv_H → Prop} (X : wv_ok G p R s m args meth c fr "java/util/ArrayList" cJ2_equalsArrayList 8 (Option.some Jvm.ClassFile.FieldType.boolean) "equalsArrayList" []) {v0 : Option Nat} {v1 : Option Nat} {w : wv_W} (hv : vc_J2_equalsArrayList_0 G fr P v0 v1 w) : wv_J G p e R s m args below meth c 8 P w 0 [(0, va_rf v0), (1, va_rf v1)] [] := by
  intro H locs cells slots ls S hl
  unfold vc_J2_equalsArrayList_0 at hv
  refine wq_aload_n X dJ2_equalsArrayList_0 rfl (lv_at hl 1 rfl) ?_
  refine wq_gIS X S hv ccJ2 in_J2 (k := 0) (by decide) q148 q147 dJ2_equalsArrayList_1 (fun x1 hv => ?_)
  refine lv_istore_n X.hx X.hb (i := 2) (lv' := [(2, .int x1), (0, va_rf v0), (1, va_rf v1)]) dJ2_equalsArrayList_4 rfl hl (by decide) (by simp [wv_rfc, wv_kI, wv_kJ, wv_kF, wv_kD]) (fun ls hl => ?_)
  refine wq_aload_n X dJ2_equalsArrayList_5 rfl (lv_at hl 1 rfl) ?_
  refine wq_gI X S hv ccJ2 in_J2 (k := 2) (by decide) q144 dJ2_equalsArrayList_6 (fun x6 hv => ?_)
  refine lv_istore_n X.hx X.hb (i := 3) (lv' := [(3, .int x6), (2, .int x1), (0, va_rf v0), (1, va_rf v1)]) dJ2_equalsArrayList_9 rfl hl (by decide) (by simp [wv_rfc, wv_kI, wv_kJ, wv_kF, wv_kD]) (fun ls hl => ?_)
  refine lv_iload_n X.hx X.hb dJ2_equalsArrayList_10 rfl (lv_at hl 0 rfl) ?_
  refine wq_aload_n X dJ2_equalsArrayList_11 rfl (lv_at hl 3 rfl) ?_
  refine wq_gI X S hv ccJ2 in_J2 (k := 2) (by decide) q144 dJ2_equalsArrayList_12 (fun x12 hv => ?_)
  refine lv_icmp_ne (tgt := 22) X.hx X.hb dJ2_equalsArrayList_15 (by decide) (fun c15 => ?_) (fun c15 => ?_)
  · have hv := hv.1 c15
    refine lv_iconst (v := (0 : Int32)) X.hx X.hb dJ2_equalsArrayList_22 (by decide) ?_
    exact wk_J2_equalsArrayList_23 X  hv H locs cells slots ls S (lv_sub hl [2, 3, 1, 0] rfl)
  · have hv := hv.2 c15
    refine lv_iconst (v := (1 : Int32)) X.hx X.hb dJ2_equalsArrayList_18 (by decide) ?_
    refine lv_goto (tgt := 23) X.hx X.hb dJ2_equalsArrayList_19 (by decide) ?_
    exact wk_J2_equalsArrayList_23 X  hv H locs cells slots ls S (lv_sub hl [2, 3, 1, 0] rfl)
theorem wk_J2_equalsArrayList {G : wv_G} (hG : wv_G0 G) {v0 : Option Nat} {v1 : Option Nat} {h : wv_H} {fr kc ks : Nat} {P : wv_R → wv_H → Prop} (hv : vc_J2_equalsArrayList_0 G fr P v0 v1 (h, kc, ks)) : wv_C G yJ2_equalsArrayList [va_rf v0, va_rf v1] h fr kc ks P := by
  refine wv_enter (lv := [(0, va_rf v0), (1, va_rf v1)]) hG (by decide +kernel) q2560 (by decide) (by simp [lg_sl, wv_rfc, wv_kI, wv_kJ, wv_kF, wv_kD]) (by simp [lv_args, wv_rfc, wv_kI, wv_kJ, wv_kF, wv_kD]) ?_
  intro p e R s m args below meth c X H locs cells slots ls S hl
  exact wk_J2_equalsArrayList_0 X hv H locs cells slots ls S (lv_sub hl [0, 1] rfl)

def vc_J2_checkForComodification_0 (G : wv_G) (fr : Nat) (P : wv_R → wv_H → Prop) (v0 : Option Nat) (v1 : Int32) (w : wv_W) : Prop :=
  wv_gI w v0 ciJ2 0 (fun x1 => (x1 = v1 → P (.inl none) w.1) ∧ (¬ x1 = v1 → False))
set_option maxHeartbeats 4000000 in
theorem wk_J2_checkForComodification_0 {G : wv_G} {p : Program} {e : Env} {R : Room} {s : State} {m : MethodId} {args : Array Value} {below : List Frame} {meth : Method} {c : Code} {fr : Nat} {P : wv_R → wv_H → Prop} (X : wv_ok G p R s m args meth c fr "java/util/ArrayList" cJ2_checkForComodification 2 (Option.none : Option Jvm.ClassFile.FieldType) "checkForComodification" []) {v0 : Option Nat} {v1 : Int32} {w : wv_W} (hv : vc_J2_checkForComodification_0 G fr P v0 v1 w) : wv_J G p e R s m args below meth c 2 P w 0 [(0, va_rf v0), (1, .int v1)] [] := by
  intro H locs cells slots ls S hl
  unfold vc_J2_checkForComodification_0 at hv
  refine wq_aload_n X dJ2_checkForComodification_0 rfl (lv_at hl 0 rfl) ?_
  refine wq_gIS X S hv ccJ2 in_J2 (k := 0) (by decide) q148 q147 dJ2_checkForComodification_1 (fun x1 hv => ?_)
  refine lv_iload_n X.hx X.hb dJ2_checkForComodification_4 rfl (lv_at hl 1 rfl) ?_
  refine lv_icmp_eq (tgt := 16) X.hx X.hb dJ2_checkForComodification_5 (by decide) (fun c5 => ?_) (fun c5 => ?_)
  · have hv := hv.1 c5
    exact wr_vret X S hv dJ2_checkForComodification_16
  · have hv := hv.2 c5
    exact hv.elim
theorem wk_J2_checkForComodification {G : wv_G} (hG : wv_G0 G) {v0 : Option Nat} {v1 : Int32} {h : wv_H} {fr kc ks : Nat} {P : wv_R → wv_H → Prop} (hv : vc_J2_checkForComodification_0 G fr P v0 v1 (h, kc, ks)) : wv_C G yJ2_checkForComodification [va_rf v0, .int v1] h fr kc ks P := by
  refine wv_enter (lv := [(0, va_rf v0), (1, .int v1)]) hG (by decide +kernel) q2568 (by decide) (by simp [lg_sl, wv_rfc, wv_kI, wv_kJ, wv_kF, wv_kD]) (by simp [lv_args, wv_rfc, wv_kI, wv_kJ, wv_kF, wv_kD]) ?_
  intro p e R s m args below meth c X H locs cells slots ls S hl
  exact wk_J2_checkForComodification_0 X hv H locs cells slots ls S (lv_sub hl [0, 1] rfl)

def vc_J24_init_0 (G : wv_G) (fr : Nat) (P : wv_R → wv_H → Prop) (v0 : Option Nat) (v1 : Option Nat) (w : wv_W) : Prop :=
  wv_pt w v0 ciJ24 3 (va_rf v1) (fun w2 => (∃ a, v0 = some a) ∧ 1 ≤ fr ∧ (wv_pt w2 v0 ciJ24 1 (.int (-1 : Int32)) (fun w11 => wv_gA w11 v0 ciJ24 3 (fun x16 => wv_gI w11 x16 ciJ2 0 (fun x19 => wv_pt w11 v0 ciJ24 2 (.int x19) (fun w22 => P (.inl none) w22.1))))))
set_option maxHeartbeats 4000000 in
theorem wk_J24_init_0 {G : wv_G} {p : Program} {e : Env} {R : Room} {s : State} {m : MethodId} {args : Array Value} {below : List Frame} {meth : Method} {c : Code} {fr : Nat} {P : wv_R → wv_H → Prop} (X : wv_ok G p R s m args meth c fr "java/util/ArrayList$Itr" cJ24_init 2 (Option.none : Option Jvm.ClassFile.FieldType) "<init>" []) {v0 : Option Nat} {v1 : Option Nat} {w : wv_W} (hv : vc_J24_init_0 G fr P v0 v1 w) : wv_J G p e R s m args below meth c 2 P w 0 [(0, va_rf v0), (1, va_rf v1)] [] := by
  intro H locs cells slots ls S hl
  unfold vc_J24_init_0 at hv
  refine wq_aload_n X dJ24_init_0 rfl (lv_at hl 0 rfl) ?_
  refine wq_aload_n X dJ24_init_1 rfl (lv_at hl 1 rfl) ?_
  refine wq_ptF X S hv tyJ24 tyJ24_ok nmJ24 ccJ24 in_J24 (k := 3) (by decide) q2187 rfl rfl rfl (wv_fnA (Or.inl ⟨_, rfl⟩)).1 (wv_fnA (Or.inl ⟨_, rfl⟩)).2 dJ24_init_2 (fun w2 H locs S hv => ?_)
  refine wq_aload_n X dJ24_init_5 rfl (lv_at hl 0 rfl) ?_
  obtain ⟨⟨_, hr⟩, h1, hv⟩ := hv
  refine wq_objInit X hr q2183 q125 q126 h1 (by simp [wv_rfc, wv_kI, wv_kJ, wv_kF, wv_kD]) hl.1 dJ24_init_6 ?_
  refine wq_aload_n X dJ24_init_9 rfl (lv_at hl 0 rfl) ?_
  refine lv_iconst (v := (-1 : Int32)) X.hx X.hb dJ24_init_10 (by decide) ?_
  refine wq_pt X S hv tyJ24 tyJ24_ok nmJ24 ccJ24 in_J24 (k := 1) (by decide) q2185 rfl rfl rfl rfl dJ24_init_11 (fun w11 H locs S hv => ?_)
  refine wq_aload_n X dJ24_init_14 rfl (lv_at hl 0 rfl) ?_
  refine wq_aload_n X dJ24_init_15 rfl (lv_at hl 0 rfl) ?_
  refine wq_gA X S hv ccJ24 in_J24 (k := 3) (by decide) q2187 dJ24_init_16 (fun x16 hv => ?_)
  refine wq_gIS X S hv ccJ2 in_J2 (k := 0) (by decide) q146 q147 dJ24_init_19 (fun x19 hv => ?_)
  refine wq_pt X S hv tyJ24 tyJ24_ok nmJ24 ccJ24 in_J24 (k := 2) (by decide) q2186 rfl rfl rfl rfl dJ24_init_22 (fun w22 H locs S hv => ?_)
  exact wr_vret X S hv dJ24_init_25
theorem wk_J24_init {G : wv_G} (hG : wv_G0 G) {v0 : Option Nat} {v1 : Option Nat} {h : wv_H} {fr kc ks : Nat} {P : wv_R → wv_H → Prop} (hv : vc_J24_init_0 G fr P v0 v1 (h, kc, ks)) : wv_C G yJ24_init [va_rf v0, va_rf v1] h fr kc ks P := by
  refine wv_enter (lv := [(0, va_rf v0), (1, va_rf v1)]) hG (by decide +kernel) q2182 (by decide) (by simp [lg_sl, wv_rfc, wv_kI, wv_kJ, wv_kF, wv_kD]) (by simp [lv_args, wv_rfc, wv_kI, wv_kJ, wv_kF, wv_kD]) ?_
  intro p e R s m args below meth c X H locs cells slots ls S hl
  exact wk_J24_init_0 X hv H locs cells slots ls S (lv_sub hl [0, 1] rfl)

def vc_J24_hasNext_0 (G : wv_G) (fr : Nat) (P : wv_R → wv_H → Prop) (v0 : Option Nat) (w : wv_W) : Prop :=
  wv_gI w v0 ciJ24 0 (fun x1 => wv_gA w v0 ciJ24 3 (fun x5 => wv_gI w x5 ciJ2 2 (fun x8 => (x1 = x8 → narrow .boolean (.int (0 : Int32)) = .int (0 : Int32) ∧ P (.inl (some (.int (0 : Int32)))) w.1) ∧ (¬ x1 = x8 → narrow .boolean (.int (1 : Int32)) = .int (1 : Int32) ∧ P (.inl (some (.int (1 : Int32)))) w.1))))
set_option maxHeartbeats 4000000 in
theorem wk_J24_hasNext_0 {G : wv_G} {p : Program} {e : Env} {R : Room} {s : State} {m : MethodId} {args : Array Value} {below : List Frame} {meth : Method} {c : Code} {fr : Nat} {P : wv_R → wv_H → Prop} (X : wv_ok G p R s m args meth c fr "java/util/ArrayList$Itr" cJ24_hasNext 1 (Option.some Jvm.ClassFile.FieldType.boolean) "hasNext" []) {v0 : Option Nat} {w : wv_W} (hv : vc_J24_hasNext_0 G fr P v0 w) : wv_J G p e R s m args below meth c 1 P w 0 [(0, va_rf v0)] [] := by
  intro H locs cells slots ls S hl
  unfold vc_J24_hasNext_0 at hv
  refine wq_aload_n X dJ24_hasNext_0 rfl (lv_at hl 0 rfl) ?_
  refine wq_gI X S hv ccJ24 in_J24 (k := 0) (by decide) q2184 dJ24_hasNext_1 (fun x1 hv => ?_)
  refine wq_aload_n X dJ24_hasNext_4 rfl (lv_at hl 0 rfl) ?_
  refine wq_gA X S hv ccJ24 in_J24 (k := 3) (by decide) q2187 dJ24_hasNext_5 (fun x5 hv => ?_)
  refine wq_gIN X S hv ccJ2 in_J2 (k := 2) (by decide) q143 dJ24_hasNext_8 (fun x8 hv => ?_)
  refine lv_icmp_eq (tgt := 18) X.hx X.hb dJ24_hasNext_11 (by decide) (fun c11 => ?_) (fun c11 => ?_)
  · have hv := hv.1 c11
    refine lv_iconst (v := (0 : Int32)) X.hx X.hb dJ24_hasNext_18 (by decide) ?_
    exact wr_iret X S hv.1 hv.2 dJ24_hasNext_19
  · have hv := hv.2 c11
    refine lv_iconst (v := (1 : Int32)) X.hx X.hb dJ24_hasNext_14 (by decide) ?_
    refine lv_goto (tgt := 19) X.hx X.hb dJ24_hasNext_15 (by decide) ?_
    exact wr_iret X S hv.1 hv.2 dJ24_hasNext_19
theorem wk_J24_hasNext {G : wv_G} (hG : wv_G0 G) {v0 : Option Nat} {h : wv_H} {fr kc ks : Nat} {P : wv_R → wv_H → Prop} (hv : vc_J24_hasNext_0 G fr P v0 (h, kc, ks)) : wv_C G yJ24_hasNext [va_rf v0] h fr kc ks P := by
  refine wv_enter (lv := [(0, va_rf v0)]) hG (by decide +kernel) q2206 (by decide) (by simp [lg_sl, wv_rfc, wv_kI, wv_kJ, wv_kF, wv_kD]) (by simp [lv_args, wv_rfc, wv_kI, wv_kJ, wv_kF, wv_kD]) ?_
  intro p e R s m args below meth c X H locs cells slots ls S hl
  exact wk_J24_hasNext_0 X hv H locs cells slots ls S (lv_sub hl [0] rfl)

def vc_J24_next_0 (G : wv_G) (fr : Nat) (P : wv_R → wv_H → Prop) (v0 : Option Nat) (w : wv_W) : Prop :=
  wv_cV G fr yJ24_checkForComodification v0 [] w (wv_rV (fun w1 => wv_gI w1 v0 ciJ24 0 (fun x5 => wv_gA w1 v0 ciJ24 3 (fun x11 => wv_gI w1 x11 ciJ2 2 (fun x14 => (x5 < x14 → wv_gA w1 v0 ciJ24 3 (fun x29 => wv_gA w1 x29 ciJ2 1 (fun x32 => wv_lenA G w1 x32 (fun x38 => (x5 < x38 → wv_pt w1 v0 ciJ24 0 (.int (x5 + (1 : Int32))) (fun w54 => wv_pt w54 v0 ciJ24 1 (.int x5) (fun w61 => wv_lq G 5 w61 x32 x5 (fun x64 => P (.inl (some (va_rf x64))) w61.1)))) ∧ (¬ x5 < x38 → False))))) ∧ (¬ x5 < x14 → False))))) (wv_pr P))
set_option maxHeartbeats 4000000 in
theorem wk_J24_next_0 {G : wv_G} {p : Program} {e : Env} {R : Room} {s : State} {m : MethodId} {args : Array Value} {below : List Frame} {meth : Method} {c : Code} {fr : Nat} {P : wv_R → wv_H → Prop} (X : wv_ok G p R s m args meth c fr "java/util/ArrayList$Itr" cJ24_next 3 (Option.some (Jvm.ClassFile.FieldType.object "java/lang/Object")) "next" []) {v0 : Option Nat} {w : wv_W} (hv : vc_J24_next_0 G fr P v0 w) : wv_J G p e R s m args below meth c 3 P w 0 [(0, va_rf v0)] [] := by
  intro H locs cells slots ls S hl
  unfold vc_J24_next_0 at hv
  refine wq_aload_n X dJ24_next_0 rfl (lv_at hl 0 rfl) ?_
  refine wq_cV_V X S hv q2216 q2217 q2218 q107 ⟨by decide +kernel, by decide +kernel⟩ (nA := 0) (As := []) (by decide +kernel) rfl rfl (by simp [wv_rfc, wv_kI, wv_kJ, wv_kF, wv_kD]) hl.1 dJ24_next_1 (fun w1 H locs cells slots S hv => ?_) (wq_kx X rfl)
  refine wq_aload_n X dJ24_next_4 rfl (lv_at hl 0 rfl) ?_
  refine wq_gI X S hv ccJ24 in_J24 (k := 0) (by decide) q2184 dJ24_next_5 (fun x5 hv => ?_)
  refine lv_istore_n X.hx X.hb (i := 1) (lv' := [(1, .int x5), (0, va_rf v0)]) dJ24_next_8 rfl hl (by decide) (by simp [wv_rfc, wv_kI, wv_kJ, wv_kF, wv_kD]) (fun ls hl => ?_)
  refine lv_iload_n X.hx X.hb dJ24_next_9 rfl (lv_at hl 0 rfl) ?_
  refine wq_aload_n X dJ24_next_10 rfl (lv_at hl 1 rfl) ?_
  refine wq_gA X S hv ccJ24 in_J24 (k := 3) (by decide) q2187 dJ24_next_11 (fun x11 hv => ?_)
  refine wq_gIN X S hv ccJ2 in_J2 (k := 2) (by decide) q143 dJ24_next_14 (fun x14 hv => ?_)
  refine lv_icmp_lt (tgt := 28) X.hx X.hb dJ24_next_17 (by decide) (fun c17 => ?_) (fun c17 => ?_)
  · have hv := hv.1 c17
    refine wq_aload_n X dJ24_next_28 rfl (lv_at hl 1 rfl) ?_
    refine wq_gA X S hv ccJ24 in_J24 (k := 3) (by decide) q2187 dJ24_next_29 (fun x29 hv => ?_)
    refine wq_gA X S hv ccJ2 in_J2 (k := 1) (by decide) q142 dJ24_next_32 (fun x32 hv => ?_)
    refine wq_astore_n X (i := 2) (lv' := [(2, va_rf x32), (1, .int x5), (0, va_rf v0)]) dJ24_next_35 rfl hl (by decide) (by simp [wv_rfc, wv_kI, wv_kJ, wv_kF, wv_kD]) (fun ls hl => ?_)
    refine lv_iload_n X.hx X.hb dJ24_next_36 rfl (lv_at hl 1 rfl) ?_
    refine wq_aload_n X dJ24_next_37 rfl (lv_at hl 0 rfl) ?_
    refine wq_lenA X S hv dJ24_next_38 (fun x38 hv => ?_)
    refine lv_icmp_lt (tgt := 50) X.hx X.hb dJ24_next_39 (by decide) (fun c39 => ?_) (fun c39 => ?_)
    · have hv := hv.1 c39
      refine wq_aload_n X dJ24_next_50 rfl (lv_at hl 2 rfl) ?_
      refine lv_iload_n X.hx X.hb dJ24_next_51 rfl (lv_at hl 1 rfl) ?_
      refine lv_iconst (v := (1 : Int32)) X.hx X.hb dJ24_next_52 (by decide) ?_
      refine lv_iadd X.hx X.hb dJ24_next_53 ?_
      refine wq_pt X S hv tyJ24 tyJ24_ok nmJ24 ccJ24 in_J24 (k := 0) (by decide) q2184 rfl rfl rfl rfl dJ24_next_54 (fun w54 H locs S hv => ?_)
      refine wq_aload_n X dJ24_next_57 rfl (lv_at hl 0 rfl) ?_
      refine wq_aload_n X dJ24_next_58 rfl (lv_at hl 2 rfl) ?_
      refine lv_iload_n X.hx X.hb dJ24_next_59 rfl (lv_at hl 1 rfl) ?_
      refine lv_dup_x1 X.hx X.hb dJ24_next_60 rfl (wv_rfc _) ?_
      refine wq_pt X S hv tyJ24 tyJ24_ok nmJ24 ccJ24 in_J24 (k := 1) (by decide) q2185 rfl rfl rfl rfl dJ24_next_61 (fun w61 H locs S hv => ?_)
      refine wq_lq5 X S hv dJ24_next_64 (fun x64 hv => ?_)
      exact wr_aret X S (Or.inl ⟨_, rfl⟩) hv dJ24_next_65
    · have hv := hv.2 c39
      exact hv.elim
  · have hv := hv.2 c17
    exact hv.elim
theorem wk_J24_next {G : wv_G} (hG : wv_G0 G) {v0 : Option Nat} {h : wv_H} {fr kc ks : Nat} {P : wv_R → wv_H → Prop} (hv : vc_J24_next_0 G fr P v0 (h, kc, ks)) : wv_C G yJ24_next [va_rf v0] h fr kc ks P := by
  refine wv_enter (lv := [(0, va_rf v0)]) hG (by decide +kernel) q2215 (by decide) (by simp [lg_sl, wv_rfc, wv_kI, wv_kJ, wv_kF, wv_kD]) (by simp [lv_args, wv_rfc, wv_kI, wv_kJ, wv_kF, wv_kD]) ?_
  intro p e R s m args below meth c X H locs cells slots ls S hl
  exact wk_J24_next_0 X hv H locs cells slots ls S (lv_sub hl [0] rfl)

def vc_J24_checkForComodification_0 (G : wv_G) (fr : Nat) (P : wv_R → wv_H → Prop) (v0 : Option Nat) (w : wv_W) : Prop :=
  wv_gA w v0 ciJ24 3 (fun x1 => wv_gI w x1 ciJ2 0 (fun x4 => wv_gI w v0 ciJ24 2 (fun x8 => (x4 = x8 → P (.inl none) w.1) ∧ (¬ x4 = x8 → False))))
set_option maxHeartbeats 4000000 in
theorem wk_J24_checkForComodification_0 {G : wv_G} {p : Program} {e : Env} {R : Room} {s : State} {m : MethodId} {args : Array Value} {below : List Frame} {meth : Method} {c : Code} {fr : Nat} {P : wv_R → wv_H → Prop} (X : wv_ok G p R s m args meth c fr "java/util/ArrayList$Itr" cJ24_checkForComodification 1 (Option.none : Option Jvm.ClassFile.FieldType) "checkForComodification" []) {v0 : Option Nat} {w : wv_W} (hv : vc_J24_checkForComodification_0 G fr P v0 w) : wv_J G p e R s m args below meth c 1 P w 0 [(0, va_rf v0)] [] := by
  intro H locs cells slots ls S hl
  unfold vc_J24_checkForComodification_0 at hv
  refine wq_aload_n X dJ24_checkForComodification_0 rfl (lv_at hl 0 rfl) ?_
  refine wq_gA X S hv ccJ24 in_J24 (k := 3) (by decide) q2187 dJ24_checkForComodification_1 (fun x1 hv => ?_)
  refine wq_gIS X S hv ccJ2 in_J2 (k := 0) (by decide) q146 q147 dJ24_checkForComodification_4 (fun x4 hv => ?_)
  refine wq_aload_n X dJ24_checkForComodification_7 rfl (lv_at hl 0 rfl) ?_
  refine wq_gI X S hv ccJ24 in_J24 (k := 2) (by decide) q2186 dJ24_checkForComodification_8 (fun x8 hv => ?_)
  refine lv_icmp_eq (tgt := 22) X.hx X.hb dJ24_checkForComodification_11 (by decide) (fun c11 => ?_) (fun c11 => ?_)
  · have hv := hv.1 c11
    exact wr_vret X S hv dJ24_checkForComodification_22
  · have hv := hv.2 c11
    exact hv.elim
theorem wk_J24_checkForComodification {G : wv_G} (hG : wv_G0 G) {v0 : Option Nat} {h : wv_H} {fr kc ks : Nat} {P : wv_R → wv_H → Prop} (hv : vc_J24_checkForComodification_0 G fr P v0 (h, kc, ks)) : wv_C G yJ24_checkForComodification [va_rf v0] h fr kc ks P := by
  refine wv_enter (lv := [(0, va_rf v0)]) hG (by decide +kernel) q2219 (by decide) (by simp [lg_sl, wv_rfc, wv_kI, wv_kJ, wv_kF, wv_kD]) (by simp [lv_args, wv_rfc, wv_kI, wv_kJ, wv_kF, wv_kD]) ?_
  intro p e R s m args below meth c X H locs cells slots ls S hl
  exact wk_J24_checkForComodification_0 X hv H locs cells slots ls S (lv_sub hl [0] rfl)

def vc_X1_init_0 (G : wv_G) (fr : Nat) (P : wv_R → wv_H → Prop) (v0 : Option Nat) (w : wv_W) : Prop :=
  (∃ a, v0 = some a) ∧ 1 ≤ fr ∧ (wv_no G w (wo_o ciJ2 [.int 0, va_rf none, .int 0]) 3 (fun a5 w5 => wv_cI G fr yJ2_init (some a5) [] w5 (wv_rV (fun w9 => wv_pt w9 v0 ciX1 0 (va_rf (some a5)) (fun w12 => wv_no G w12 (wo_o ciJ2 [.int 0, va_rf none, .int 0]) 3 (fun a16 w16 => wv_cI G fr yJ2_init (some a16) [] w16 (wv_rV (fun w20 => wv_pt w20 v0 ciX1 1 (va_rf (some a16)) (fun w23 => wv_no G w23 (wo_o ciJ2 [.int 0, va_rf none, .int 0]) 3 (fun a27 w27 => wv_cI G fr yJ2_init (some a27) [] w27 (wv_rV (fun w31 => wv_pt w31 v0 ciX1 2 (va_rf (some a27)) (fun w34 => wv_mn G w34 (4 : Int32) (4 : Int32) (fun a40 w40 => wv_pt w40 v0 ciX1 3 (va_rf (some a40)) (fun w44 => wv_no G w44 (wo_o ciX2 [va_rf none, va_rf none, .int 0, .int 0, .int 0, .int 0, .int 0, va_rf none, va_rf none]) 9 (fun a48 w48 => wv_cI G fr yX2_init (some a48) [va_rf v0] w48 (wv_rV (fun w53 => wv_pt w53 v0 ciX1 4 (va_rf (some a48)) (fun w56 => wv_no G w56 (wo_o ciX2 [va_rf none, va_rf none, .int 0, .int 0, .int 0, .int 0, .int 0, va_rf none, va_rf none]) 9 (fun a60 w60 => wv_cI G fr yX2_init (some a60) [va_rf v0] w60 (wv_rV (fun w65 => wv_pt w65 v0 ciX1 5 (va_rf (some a60)) (fun w68 => wv_no G w68 (wo_o ciX2 [va_rf none, va_rf none, .int 0, .int 0, .int 0, .int 0, .int 0, va_rf none, va_rf none]) 9 (fun a72 w72 => wv_cI G fr yX2_init (some a72) [va_rf v0] w72 (wv_rV (fun w77 => wv_pt w77 v0 ciX1 6 (va_rf (some a72)) (fun w80 => P (.inl none) w80.1)) (wv_pr P))))) (wv_pr P))))) (wv_pr P))))))) (wv_pr P))))) (wv_pr P))))) (wv_pr P))))
set_option maxHeartbeats 4000000 in
theorem wk_X1_init_0 {G : wv_G} {p : Program} {e : Env} {R : Room} {s : State} {m : MethodId} {args : Array Value} {below : List Frame} {meth : Method} {c : Code} {fr : Nat} {P : wv_R → wv_H → Prop} (X : wv_ok G p R s m args meth c fr "Weaversgate" cX1_init 1 (Option.none : Option Jvm.ClassFile.FieldType) "<init>" []) {v0 : Option Nat} {w : wv_W} (hv : vc_X1_init_0 G fr P v0 w) : wv_J G p e R s m args below meth c 1 P w 0 [(0, va_rf v0)] [] := by
  intro H locs cells slots ls S hl
  unfold vc_X1_init_0 at hv
  refine wq_aload_n X dX1_init_0 rfl (lv_at hl 0 rfl) ?_
  obtain ⟨⟨_, hr⟩, h1, hv⟩ := hv
  refine wq_objInit X hr q124 q125 q126 h1 (by simp [wv_rfc, wv_kI, wv_kJ, wv_kF, wv_kD]) hl.1 dX1_init_1 ?_
  refine wq_aload_n X dX1_init_4 rfl (lv_at hl 0 rfl) ?_
  refine wq_new X S hv tyJ2 tyJ2_ok ccJ2 in_J2 q127 q128 q63 (fun j hj => by have hj : j < 3 := hj; rcases (show j = 0 ∨ j = 1 ∨ j = 2 by omega) with rfl | rfl | rfl <;> rfl) dX1_init_5 (fun a5 w5 H cells slots S hv => ?_)
  refine lv_dup X.hx X.hb dX1_init_8 (wv_rfc _) ?_
  refine wq_cI_V X S hv rfl q129 q130 q131 q63 ⟨by decide +kernel, by decide +kernel⟩ (nA := 0) (As := []) (by decide +kernel) rfl rfl (by simp [wv_rfc, wv_kI, wv_kJ, wv_kF, wv_kD]) hl.1 dX1_init_9 (fun w9 H locs cells slots S hv => ?_) (wq_kx X rfl)
  refine wq_ptF X S hv tyX1 tyX1_ok nmX1 ccX1 in_X1 (k := 0) (by decide) q225 rfl rfl rfl (wv_fnA (Or.inl ⟨_, rfl⟩)).1 (wv_fnA (Or.inl ⟨_, rfl⟩)).2 dX1_init_12 (fun w12 H locs S hv => ?_)
  refine wq_aload_n X dX1_init_15 rfl (lv_at hl 0 rfl) ?_
  refine wq_new X S hv tyJ2 tyJ2_ok ccJ2 in_J2 q127 q128 q63 (fun j hj => by have hj : j < 3 := hj; rcases (show j = 0 ∨ j = 1 ∨ j = 2 by omega) with rfl | rfl | rfl <;> rfl) dX1_init_16 (fun a16 w16 H cells slots S hv => ?_)
  refine lv_dup X.hx X.hb dX1_init_19 (wv_rfc _) ?_
  refine wq_cI_V X S hv rfl q129 q130 q131 q63 ⟨by decide +kernel, by decide +kernel⟩ (nA := 0) (As := []) (by decide +kernel) rfl rfl (by simp [wv_rfc, wv_kI, wv_kJ, wv_kF, wv_kD]) hl.1 dX1_init_20 (fun w20 H locs cells slots S hv => ?_) (wq_kx X rfl)
  refine wq_ptF X S hv tyX1 tyX1_ok nmX1 ccX1 in_X1 (k := 1) (by decide) q227 rfl rfl rfl (wv_fnA (Or.inl ⟨_, rfl⟩)).1 (wv_fnA (Or.inl ⟨_, rfl⟩)).2 dX1_init_23 (fun w23 H locs S hv => ?_)
  refine wq_aload_n X dX1_init_26 rfl (lv_at hl 0 rfl) ?_
  refine wq_new X S hv tyJ2 tyJ2_ok ccJ2 in_J2 q127 q128 q63 (fun j hj => by have hj : j < 3 := hj; rcases (show j = 0 ∨ j = 1 ∨ j = 2 by omega) with rfl | rfl | rfl <;> rfl) dX1_init_27 (fun a27 w27 H cells slots S hv => ?_)
  refine lv_dup X.hx X.hb dX1_init_30 (wv_rfc _) ?_
  refine wq_cI_V X S hv rfl q129 q130 q131 q63 ⟨by decide +kernel, by decide +kernel⟩ (nA := 0) (As := []) (by decide +kernel) rfl rfl (by simp [wv_rfc, wv_kI, wv_kJ, wv_kF, wv_kD]) hl.1 dX1_init_31 (fun w31 H locs cells slots S hv => ?_) (wq_kx X rfl)
  refine wq_ptF X S hv tyX1 tyX1_ok nmX1 ccX1 in_X1 (k := 2) (by decide) q229 rfl rfl rfl (wv_fnA (Or.inl ⟨_, rfl⟩)).1 (wv_fnA (Or.inl ⟨_, rfl⟩)).2 dX1_init_34 (fun w34 H locs S hv => ?_)
  refine wq_aload_n X dX1_init_37 rfl (lv_at hl 0 rfl) ?_
  refine lv_iconst (v := (4 : Int32)) X.hx X.hb dX1_init_38 (by decide) ?_
  refine lv_iconst (v := (4 : Int32)) X.hx X.hb dX1_init_39 (by decide) ?_
  refine wq_mn X S hv q156 dX1_init_40 (fun a40 w40 H locs cells slots S hv => ?_)
  refine wq_ptF X S hv tyX1 tyX1_ok nmX1 ccX1 in_X1 (k := 3) (by decide) q230 rfl rfl rfl (wv_fnA (Or.inr ⟨_, rfl⟩)).1 (wv_fnA (Or.inr ⟨_, rfl⟩)).2 dX1_init_44 (fun w44 H locs S hv => ?_)
  refine wq_aload_n X dX1_init_47 rfl (lv_at hl 0 rfl) ?_
  refine wq_new X S hv tyX2 tyX2_ok ccX2 in_X2 q158 q159 q64 (fun j hj => by have hj : j < 9 := hj; rcases (show j = 0 ∨ j = 1 ∨ j = 2 ∨ j = 3 ∨ j = 4 ∨ j = 5 ∨ j = 6 ∨ j = 7 ∨ j = 8 by omega) with rfl | rfl | rfl | rfl | rfl | rfl | rfl | rfl | rfl <;> rfl) dX1_init_48 (fun a48 w48 H cells slots S hv => ?_)
  refine lv_dup X.hx X.hb dX1_init_51 (wv_rfc _) ?_
  refine wq_aload_n X dX1_init_52 rfl (lv_at hl 0 rfl) ?_
  refine wq_cIN_V X S hv rfl q160 q161 q162 q64 ⟨by decide +kernel, by decide +kernel⟩ (nA := 1) (As := [va_rf v0]) (by decide +kernel) rfl rfl (by simp [wv_rfc, wv_kI, wv_kJ, wv_kF, wv_kD]) hl.1 dX1_init_53 (fun w53 H locs cells slots S hv => ?_) (wq_kx X rfl)
  refine wq_ptF X S hv tyX1 tyX1_ok nmX1 ccX1 in_X1 (k := 4) (by decide) q231 rfl rfl rfl (wv_fnA (Or.inl ⟨_, rfl⟩)).1 (wv_fnA (Or.inl ⟨_, rfl⟩)).2 dX1_init_56 (fun w56 H locs S hv => ?_)
  refine wq_aload_n X dX1_init_59 rfl (lv_at hl 0 rfl) ?_
  refine wq_new X S hv tyX2 tyX2_ok ccX2 in_X2 q158 q159 q64 (fun j hj => by have hj : j < 9 := hj; rcases (show j = 0 ∨ j = 1 ∨ j = 2 ∨ j = 3 ∨ j = 4 ∨ j = 5 ∨ j = 6 ∨ j = 7 ∨ j = 8 by omega) with rfl | rfl | rfl | rfl | rfl | rfl | rfl | rfl | rfl <;> rfl) dX1_init_60 (fun a60 w60 H cells slots S hv => ?_)
  refine lv_dup X.hx X.hb dX1_init_63 (wv_rfc _) ?_
  refine wq_aload_n X dX1_init_64 rfl (lv_at hl 0 rfl) ?_
  refine wq_cIN_V X S hv rfl q160 q161 q162 q64 ⟨by decide +kernel, by decide +kernel⟩ (nA := 1) (As := [va_rf v0]) (by decide +kernel) rfl rfl (by simp [wv_rfc, wv_kI, wv_kJ, wv_kF, wv_kD]) hl.1 dX1_init_65 (fun w65 H locs cells slots S hv => ?_) (wq_kx X rfl)
  refine wq_ptF X S hv tyX1 tyX1_ok nmX1 ccX1 in_X1 (k := 5) (by decide) q232 rfl rfl rfl (wv_fnA (Or.inl ⟨_, rfl⟩)).1 (wv_fnA (Or.inl ⟨_, rfl⟩)).2 dX1_init_68 (fun w68 H locs S hv => ?_)
  refine wq_aload_n X dX1_init_71 rfl (lv_at hl 0 rfl) ?_
  refine wq_new X S hv tyX2 tyX2_ok ccX2 in_X2 q158 q159 q64 (fun j hj => by have hj : j < 9 := hj; rcases (show j = 0 ∨ j = 1 ∨ j = 2 ∨ j = 3 ∨ j = 4 ∨ j = 5 ∨ j = 6 ∨ j = 7 ∨ j = 8 by omega) with rfl | rfl | rfl | rfl | rfl | rfl | rfl | rfl | rfl <;> rfl) dX1_init_72 (fun a72 w72 H cells slots S hv => ?_)
  refine lv_dup X.hx X.hb dX1_init_75 (wv_rfc _) ?_
  refine wq_aload_n X dX1_init_76 rfl (lv_at hl 0 rfl) ?_
  refine wq_cIN_V X S hv rfl q160 q161 q162 q64 ⟨by decide +kernel, by decide +kernel⟩ (nA := 1) (As := [va_rf v0]) (by decide +kernel) rfl rfl (by simp [wv_rfc, wv_kI, wv_kJ, wv_kF, wv_kD]) hl.1 dX1_init_77 (fun w77 H locs cells slots S hv => ?_) (wq_kx X rfl)
  refine wq_ptF X S hv tyX1 tyX1_ok nmX1 ccX1 in_X1 (k := 6) (by decide) q233 rfl rfl rfl (wv_fnA (Or.inl ⟨_, rfl⟩)).1 (wv_fnA (Or.inl ⟨_, rfl⟩)).2 dX1_init_80 (fun w80 H locs S hv => ?_)
  exact wr_vret X S hv dX1_init_83
theorem wk_X1_init {G : wv_G} (hG : wv_G0 G) {v0 : Option Nat} {h : wv_H} {fr kc ks : Nat} {P : wv_R → wv_H → Prop} (hv : vc_X1_init_0 G fr P v0 (h, kc, ks)) : wv_C G yX1_init [va_rf v0] h fr kc ks P := by
  refine wv_enter (lv := [(0, va_rf v0)]) hG (by decide +kernel) q123 (by decide) (by simp [lg_sl, wv_rfc, wv_kI, wv_kJ, wv_kF, wv_kD]) (by simp [lv_args, wv_rfc, wv_kI, wv_kJ, wv_kF, wv_kD]) ?_
  intro p e R s m args below meth c X H locs cells slots ls S hl
  exact wk_X1_init_0 X hv H locs cells slots ls S (lv_sub hl [0] rfl)
