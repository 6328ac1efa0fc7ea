def vc_X3_add_0 (G : wv_G) (fr : Nat) (P : wv_R → wv_H → Prop) (v0 : Option Nat) (v1 : Option Nat) (v2 : Int32) (w : wv_W) : Prop :=
  wv_gI w v0 ciX3 3 (fun x1 => (¬ x1 = (400 : Int32) → wv_gA w v0 ciX3 0 (fun x19 => wv_gI w v0 ciX3 3 (fun x23 => wv_gI w v1 ciX19 2 (fun x27 => wv_si G 1 w x19 x23 (vp_nar .char x27) (fun w30 => wv_gA w30 v0 ciX3 1 (fun x32 => wv_gI w30 v0 ciX3 3 (fun x36 => wv_si G 0 w30 x32 x36 v2 (fun w40 => wv_gA w40 v0 ciX3 2 (fun x42 => wv_gI w40 v0 ciX3 3 (fun x46 => wv_gI w40 v1 ciX19 0 (fun x50 => wv_si G 0 w40 x42 x46 x50 (fun w53 => wv_gI w53 v0 ciX3 3 (fun x56 => wv_pt w53 v0 ciX3 3 (.int (x56 + (1 : Int32))) (fun w61 => P (.inl none) w61.1)))))))))))))) ∧ (x1 = (400 : Int32) → wv_no G w (wo_o ciX24 [va_rf none, va_rf none, va_rf none, va_rf none, va_rf none, .int 0]) 6 (fun a10 w10 => wv_cI G fr yX24_init (some a10) [] w10 (wv_rV (fun w14 => wv_at w14 (some a10) (wv_pr P)) (wv_pr P)))))
set_option maxHeartbeats 4000000 in
theorem wk_X3_add_0 {G : wv_G} {p : Program} {e : Env} {R : Room} {s : State} {m : MethodId} {args : Array Value} {below : List Frame} {meth : Method} {c : Code} {fr : Nat} {P : wv_R → wv_H → Prop} (X : wv_ok G p R s m args meth c fr "Weaversgate$Trace" cX3_add 3 (Option.none : Option Jvm.ClassFile.FieldType) "add" []) {v0 : Option Nat} {v1 : Option Nat} {v2 : Int32} {w : wv_W} (hv : vc_X3_add_0 G fr P v0 v1 v2 w) : wv_J G p e R s m args below meth c 3 P w 0 [(0, va_rf v0), (1, va_rf v1), (2, .int v2)] [] := by
  intro H locs cells slots ls S hl
  unfold vc_X3_add_0 at hv
  refine wq_aload_n X dX3_add_0 rfl (lv_at hl 0 rfl) ?_
  refine wq_gI X S hv ccX3 in_X3 (k := 3) (by decide) q175 dX3_add_1 (fun x1 hv => ?_)
  refine lv_sipush (v := (400 : Int32)) X.hx X.hb dX3_add_4 (by decide) ?_
  refine lv_icmp_ne (tgt := 18) X.hx X.hb dX3_add_7 (by decide) (fun c7 => ?_) (fun c7 => ?_)
  · have hv := hv.1 c7
    refine wq_aload_n X dX3_add_18 rfl (lv_at hl 0 rfl) ?_
    refine wq_gA X S hv ccX3 in_X3 (k := 0) (by decide) q170 dX3_add_19 (fun x19 hv => ?_)
    refine wq_aload_n X dX3_add_22 rfl (lv_at hl 0 rfl) ?_
    refine wq_gI X S hv ccX3 in_X3 (k := 3) (by decide) q175 dX3_add_23 (fun x23 hv => ?_)
    refine wq_aload_n X dX3_add_26 rfl (lv_at hl 1 rfl) ?_
    refine wq_gIN X S hv ccX19 in_X19 (k := 2) (by decide) q1542 dX3_add_27 (fun x27 hv => ?_)
    refine wq_si1 X S hv dX3_add_30 (fun w30 H locs S hv => ?_)
    refine wq_aload_n X dX3_add_31 rfl (lv_at hl 0 rfl) ?_
    refine wq_gA X S hv ccX3 in_X3 (k := 1) (by decide) q171 dX3_add_32 (fun x32 hv => ?_)
    refine wq_aload_n X dX3_add_35 rfl (lv_at hl 0 rfl) ?_
    refine wq_gI X S hv ccX3 in_X3 (k := 3) (by decide) q175 dX3_add_36 (fun x36 hv => ?_)
    refine lv_iload_n X.hx X.hb dX3_add_39 rfl (lv_at hl 2 rfl) ?_
    refine wq_si0 X S hv dX3_add_40 (fun w40 H locs S hv => ?_)
    refine wq_aload_n X dX3_add_41 rfl (lv_at hl 0 rfl) ?_
    refine wq_gA X S hv ccX3 in_X3 (k := 2) (by decide) q173 dX3_add_42 (fun x42 hv => ?_)
    refine wq_aload_n X dX3_add_45 rfl (lv_at hl 0 rfl) ?_
    refine wq_gI X S hv ccX3 in_X3 (k := 3) (by decide) q175 dX3_add_46 (fun x46 hv => ?_)
    refine wq_aload_n X dX3_add_49 rfl (lv_at hl 1 rfl) ?_
    refine wq_gIN X S hv ccX19 in_X19 (k := 0) (by decide) q1538 dX3_add_50 (fun x50 hv => ?_)
    refine wq_si0 X S hv dX3_add_53 (fun w53 H locs S hv => ?_)
    refine wq_aload_n X dX3_add_54 rfl (lv_at hl 0 rfl) ?_
    refine lv_dup X.hx X.hb dX3_add_55 (wv_rfc _) ?_
    refine wq_gI X S hv ccX3 in_X3 (k := 3) (by decide) q175 dX3_add_56 (fun x56 hv => ?_)
    refine lv_iconst (v := (1 : Int32)) X.hx X.hb dX3_add_59 (by decide) ?_
    refine lv_iadd X.hx X.hb dX3_add_60 ?_
    refine wq_pt X S hv tyX3 tyX3_ok nmX3 ccX3 in_X3 (k := 3) (by decide) q175 rfl rfl rfl rfl dX3_add_61 (fun w61 H locs S hv => ?_)
    exact wr_vret X S hv dX3_add_64
  · have hv := hv.2 c7
    refine wq_new X S hv tyX24 tyX24_ok ccX24 in_X24 q1187 q1036 q110 (fun j hj => by have hj : j < 6 := hj; rcases (show j = 0 ∨ j = 1 ∨ j = 2 ∨ j = 3 ∨ j = 4 ∨ j = 5 by omega) with rfl | rfl | rfl | rfl | rfl | rfl <;> rfl) dX3_add_10 (fun a10 w10 H cells slots S hv => ?_)
    refine lv_dup X.hx X.hb dX3_add_13 (wv_rfc _) ?_
    refine wq_cIN_V X S hv rfl q1188 q1045 q1046 q110 ⟨by decide +kernel, by decide +kernel⟩ (nA := 0) (As := []) (by decide +kernel) rfl rfl (by simp [wv_rfc, wv_kI, wv_kJ, wv_kF, wv_kD]) hl.1 dX3_add_14 (fun w14 H locs cells slots S hv => ?_) (wq_kx X rfl)
    exact wq_athrow X S hv dX3_add_17 (wq_kx X rfl)
theorem wk_X3_add {G : wv_G} (hG : wv_G0 G) {v0 : Option Nat} {v1 : Option Nat} {v2 : Int32} {h : wv_H} {fr kc ks : Nat} {P : wv_R → wv_H → Prop} (hv : vc_X3_add_0 G fr P v0 v1 v2 (h, kc, ks)) : wv_C G yX3_add [va_rf v0, va_rf v1, .int v2] h fr kc ks P := by
  refine wv_enter (lv := [(0, va_rf v0), (1, va_rf v1), (2, .int v2)]) hG (by decide +kernel) q1186 (by decide) (by simp [lg_sl, wv_rfc, wv_kI, wv_kJ, wv_kF, wv_kD]) (by simp [lv_args, wv_rfc, wv_kI, wv_kJ, wv_kF, wv_kD]) ?_
  intro p e R s m args below meth c X H locs cells slots ls S hl
  exact wk_X3_add_0 X hv H locs cells slots ls S (lv_sub hl [0, 1, 2] rfl)

def vc_X3_charAt_0 (G : wv_G) (fr : Nat) (P : wv_R → wv_H → Prop) (v0 : Option Nat) (v1 : Int32) (w : wv_W) : Prop :=
  wv_gA w v0 ciX3 0 (fun x1 => wv_li G 1 w x1 v1 (fun x5 => narrow .char (.int x5) = .int x5 ∧ P (.inl (some (.int x5))) w.1))
set_option maxHeartbeats 4000000 in
theorem wk_X3_charAt_0 {G : wv_G} {p : Program} {e : Env} {R : Room} {s : State} {m : MethodId} {args : Array Value} {below : List Frame} {meth : Method} {c : Code} {fr : Nat} {P : wv_R → wv_H → Prop} (X : wv_ok G p R s m args meth c fr "Weaversgate$Trace" cX3_charAt 2 (Option.some Jvm.ClassFile.FieldType.char) "charAt" []) {v0 : Option Nat} {v1 : Int32} {w : wv_W} (hv : vc_X3_charAt_0 G fr P v0 v1 w) : wv_J G p e R s m args below meth c 2 P w 0 [(0, va_rf v0), (1, .int v1)] [] := by
  intro H locs cells slots ls S hl
  unfold vc_X3_charAt_0 at hv
  refine wq_aload_n X dX3_charAt_0 rfl (lv_at hl 0 rfl) ?_
  refine wq_gA X S hv ccX3 in_X3 (k := 0) (by decide) q170 dX3_charAt_1 (fun x1 hv => ?_)
  refine lv_iload_n X.hx X.hb dX3_charAt_4 rfl (lv_at hl 1 rfl) ?_
  refine wq_li1 X S hv dX3_charAt_5 (fun x5 hv => ?_)
  exact wr_iret X S hv.1 hv.2 dX3_charAt_6
theorem wk_X3_charAt {G : wv_G} (hG : wv_G0 G) {v0 : Option Nat} {v1 : Int32} {h : wv_H} {fr kc ks : Nat} {P : wv_R → wv_H → Prop} (hv : vc_X3_charAt_0 G fr P v0 v1 (h, kc, ks)) : wv_C G yX3_charAt [va_rf v0, .int v1] h fr kc ks P := by
  refine wv_enter (lv := [(0, va_rf v0), (1, .int v1)]) hG (by decide +kernel) q1647 (by decide) (by simp [lg_sl, wv_rfc, wv_kI, wv_kJ, wv_kF, wv_kD]) (by simp [lv_args, wv_rfc, wv_kI, wv_kJ, wv_kF, wv_kD]) ?_
  intro p e R s m args below meth c X H locs cells slots ls S hl
  exact wk_X3_charAt_0 X hv H locs cells slots ls S (lv_sub hl [0, 1] rfl)

def vc_X3_init_0 (G : wv_G) (fr : Nat) (P : wv_R → wv_H → Prop) (v0 : Option Nat) (w : wv_W) : Prop :=
  (∃ a, v0 = some a) ∧ 1 ≤ fr ∧ (wv_na G w (400 : Int32) (fun N => wo_i (wv_A G 1) N (fun _ => 0)) (fun a8 w8 => wv_pt w8 v0 ciX3 0 (va_rf (some a8)) (fun w10 => wv_na G w10 (400 : Int32) (fun N => wo_i (wv_A G 0) N (fun _ => 0)) (fun a17 w17 => wv_pt w17 v0 ciX3 1 (va_rf (some a17)) (fun w19 => wv_na G w19 (400 : Int32) (fun N => wo_i (wv_A G 0) N (fun _ => 0)) (fun a26 w26 => wv_pt w26 v0 ciX3 2 (va_rf (some a26)) (fun w28 => P (.inl none) w28.1)))))))
set_option maxHeartbeats 4000000 in
theorem wk_X3_init_0 {G : wv_G} {p : Program} {e : Env} {R : Room} {s : State} {m : MethodId} {args : Array Value} {below : List Frame} {meth : Method} {c : Code} {fr : Nat} {P : wv_R → wv_H → Prop} (X : wv_ok G p R s m args meth c fr "Weaversgate$Trace" cX3_init 1 (Option.none : Option Jvm.ClassFile.FieldType) "<init>" []) {v0 : Option Nat} {w : wv_W} (hv : vc_X3_init_0 G fr P v0 w) : wv_J G p e R s m args below meth c 1 P w 0 [(0, va_rf v0)] [] := by
  intro H locs cells slots ls S hl
  unfold vc_X3_init_0 at hv
  refine wq_aload_n X dX3_init_0 rfl (lv_at hl 0 rfl) ?_
  obtain ⟨⟨_, hr⟩, h1, hv⟩ := hv
  refine wq_objInit X hr q169 q125 q126 h1 (by simp [wv_rfc, wv_kI, wv_kJ, wv_kF, wv_kD]) hl.1 dX3_init_1 ?_
  refine wq_aload_n X dX3_init_4 rfl (lv_at hl 0 rfl) ?_
  refine lv_sipush (v := (400 : Int32)) X.hx X.hb dX3_init_5 (by decide) ?_
  refine wq_nwc X S hv q187 dX3_init_8 (fun a8 w8 H cells slots S hv => ?_)
  refine wq_ptF X S hv tyX3 tyX3_ok nmX3 ccX3 in_X3 (k := 0) (by decide) q170 rfl rfl rfl (wv_fnA (Or.inr ⟨_, rfl⟩)).1 (wv_fnA (Or.inr ⟨_, rfl⟩)).2 dX3_init_10 (fun w10 H locs S hv => ?_)
  refine wq_aload_n X dX3_init_13 rfl (lv_at hl 0 rfl) ?_
  refine lv_sipush (v := (400 : Int32)) X.hx X.hb dX3_init_14 (by decide) ?_
  refine wq_nwi X S hv q188 dX3_init_17 (fun a17 w17 H cells slots S hv => ?_)
  refine wq_ptF X S hv tyX3 tyX3_ok nmX3 ccX3 in_X3 (k := 1) (by decide) q171 rfl rfl rfl (wv_fnA (Or.inr ⟨_, rfl⟩)).1 (wv_fnA (Or.inr ⟨_, rfl⟩)).2 dX3_init_19 (fun w19 H locs S hv => ?_)
  refine wq_aload_n X dX3_init_22 rfl (lv_at hl 0 rfl) ?_
  refine lv_sipush (v := (400 : Int32)) X.hx X.hb dX3_init_23 (by decide) ?_
  refine wq_nwi X S hv q188 dX3_init_26 (fun a26 w26 H cells slots S hv => ?_)
  refine wq_ptF X S hv tyX3 tyX3_ok nmX3 ccX3 in_X3 (k := 2) (by decide) q173 rfl rfl rfl (wv_fnA (Or.inr ⟨_, rfl⟩)).1 (wv_fnA (Or.inr ⟨_, rfl⟩)).2 dX3_init_28 (fun w28 H locs S hv => ?_)
  exact wr_vret X S hv dX3_init_31
theorem wk_X3_init {G : wv_G} (hG : wv_G0 G) {v0 : Option Nat} {h : wv_H} {fr kc ks : Nat} {P : wv_R → wv_H → Prop} (hv : vc_X3_init_0 G fr P v0 (h, kc, ks)) : wv_C G yX3_init [va_rf v0] h fr kc ks P := by
  refine wv_enter (lv := [(0, va_rf v0)]) hG (by decide +kernel) q168 (by decide) (by simp [lg_sl, wv_rfc, wv_kI, wv_kJ, wv_kF, wv_kD]) (by simp [lv_args, wv_rfc, wv_kI, wv_kJ, wv_kF, wv_kD]) ?_
  intro p e R s m args below meth c X H locs cells slots ls S hl
  exact wk_X3_init_0 X hv H locs cells slots ls S (lv_sub hl [0] rfl)

def vc_X3_isLike_81 (G : wv_G) (fr : Nat) (P : wv_R → wv_H → Prop) (K19 : ((Option Nat) × (Option Nat) × Int32 × Int32) → wv_W → Prop) (v0 : Option Nat) (v1 : Option Nat) (v3 : Int32) (s0 : Int32) (w : wv_W) : Prop :=
  K19 (v0, v1, s0, (v3 + (1 : Int32))) w
def vc_X3_isLike_19 (G : wv_G) (fr : Nat) (P : wv_R → wv_H → Prop) (K19 : ((Option Nat) × (Option Nat) × Int32 × Int32) → wv_W → Prop) (v0 : Option Nat) (v1 : Option Nat) (v2 : Int32) (v3 : Int32) (w : wv_W) : Prop :=
  wv_gI w v0 ciX3 3 (fun x21 => (x21 ≤ v3 → narrow .boolean (.int v2) = .int v2 ∧ P (.inl (some (.int v2))) w.1) ∧ (¬ x21 ≤ v3 → (v2 = 0 → narrow .boolean (.int v2) = .int v2 ∧ P (.inl (some (.int v2))) w.1) ∧ (¬ v2 = 0 → wv_gA w v0 ciX3 0 (fun x32 => wv_li G 1 w x32 v3 (fun x36 => wv_gA w v1 ciX3 0 (fun x38 => wv_li G 1 w x38 v3 (fun x42 => (¬ x36 = x42 → vc_X3_isLike_81 G fr P K19 v0 v1 v3 (0 : Int32) w) ∧ (x36 = x42 → wv_gA w v0 ciX3 1 (fun x47 => wv_li G 0 w x47 v3 (fun x51 => wv_gA w v1 ciX3 1 (fun x53 => wv_li G 0 w x53 v3 (fun x57 => (¬ x51 = x57 → vc_X3_isLike_81 G fr P K19 v0 v1 v3 (0 : Int32) w) ∧ (x51 = x57 → wv_gA w v0 ciX3 2 (fun x62 => wv_li G 0 w x62 v3 (fun x66 => wv_gA w v1 ciX3 2 (fun x68 => wv_li G 0 w x68 v3 (fun x72 => (¬ x66 = x72 → vc_X3_isLike_81 G fr P K19 v0 v1 v3 (0 : Int32) w) ∧ (x66 = x72 → vc_X3_isLike_81 G fr P K19 v0 v1 v3 (1 : Int32) w))))))))))))))))))
def vc_X3_isLike_16 (G : wv_G) (fr : Nat) (P : wv_R → wv_H → Prop) (v0 : Option Nat) (v1 : Option Nat) (s0 : Int32) (w : wv_W) : Prop :=
  wv_L (fun K19 a w => vc_X3_isLike_19 G fr P K19 a.1 a.2.1 a.2.2.1 a.2.2.2 w) (v0, v1, s0, (0 : Int32)) w
def vc_X3_isLike_0 (G : wv_G) (fr : Nat) (P : wv_R → wv_H → Prop) (v0 : Option Nat) (v1 : Option Nat) (w : wv_W) : Prop :=
  wv_gI w v0 ciX3 3 (fun x1 => wv_gI w v1 ciX3 3 (fun x5 => (¬ x1 = x5 → vc_X3_isLike_16 G fr P v0 v1 (0 : Int32) w) ∧ (x1 = x5 → vc_X3_isLike_16 G fr P v0 v1 (1 : Int32) w)))
set_option maxHeartbeats 4000000 in
theorem wk_X3_isLike_81 {G : wv_G} {p : Program} {e : Env} {R : Room} {s : State} {m : MethodId} {args : Array Value} {below : List Frame} {meth : Method} {c : Code} {fr : Nat} {P : wv_R → wv_H → Prop} (X : wv_ok G p R s m args meth c fr "Weaversgate$Trace" cX3_isLike 4 (Option.some Jvm.ClassFile.FieldType.boolean) "isLike" []) {K19 : ((Option Nat) × (Option Nat) × Int32 × Int32) → wv_W → Prop} (hK19 : ∀ a w, K19 a w → wv_J G p e R s m args below meth c 4 P w 19 [(0, va_rf a.1), (1, va_rf a.2.1), (2, .int a.2.2.1), (3, .int a.2.2.2)] []) {v0 : Option Nat} {v1 : Option Nat} {v3 : Int32} {s0 : Int32} {w : wv_W} (hv : vc_X3_isLike_81 G fr P K19 v0 v1 v3 s0 w) : wv_J G p e R s m args below meth c 4 P w 81 [(0, va_rf v0), (1, va_rf v1), (3, .int v3)] [.int s0] := by
  intro H locs cells slots ls S hl
  unfold vc_X3_isLike_81 at hv
  refine lv_istore_n X.hx X.hb (i := 2) (lv' := [(2, .int s0), (0, va_rf v0), (1, va_rf v1), (3, .int v3)]) dX3_isLike_81 rfl hl (by decide) (by simp [wv_rfc, wv_kI, wv_kJ, wv_kF, wv_kD]) (fun ls hl => ?_)
  refine lv_iinc (v := (v3 + (1 : Int32))) (lv' := [(3, .int (v3 + (1 : Int32))), (2, .int s0), (0, va_rf v0), (1, va_rf v1)]) X.hx X.hb dX3_isLike_82 hl (k := 3) rfl (by rfl) (by decide) (by simp [wv_rfc, wv_kI, wv_kJ, wv_kF, wv_kD]) (fun ls hl => ?_)
  refine lv_goto (tgt := 19) X.hx X.hb dX3_isLike_85 (by decide) ?_
  exact hK19 _ _ hv H locs cells slots ls S (lv_sub hl [2, 3, 1, 0] rfl)
set_option maxHeartbeats 4000000 in
theorem wk_X3_isLike_19 {G : wv_G} {p : Program} {e : Env} {R : Room} {s : State} {m : MethodId} {args : Array Value} {below : List Frame} {meth : Method} {c : Code} {fr : Nat} {P : wv_R → wv_H → Prop} (X : wv_ok G p R s m args meth c fr "Weaversgate$Trace" cX3_isLike 4 (Option.some Jvm.ClassFile.FieldType.boolean) "isLike" []) {K19 : ((Option Nat) × (Option Nat) × Int32 × Int32) → wv_W → Prop} (hK19 : ∀ a w, K19 a w → wv_J G p e R s m args below meth c 4 P w 19 [(0, va_rf a.1), (1, va_rf a.2.1), (2, .int a.2.2.1), (3, .int a.2.2.2)] []) {v0 : Option Nat} {v1 : Option Nat} {v2 : Int32} {v3 : Int32} {w : wv_W} (hv : vc_X3_isLike_19 G fr P K19 v0 v1 v2 v3 w) : wv_J G p e R s m args below meth c 4 P w 19 [(0, va_rf v0), (1, va_rf v1), (2, .int v2), (3, .int v3)] [] := by
  intro H locs cells slots ls S hl
  unfold vc_X3_isLike_19 at hv
  refine lv_iload_n X.hx X.hb dX3_isLike_19 rfl (lv_at hl 3 rfl) ?_
  refine wq_aload_n X dX3_isLike_20 rfl (lv_at hl 0 rfl) ?_
  refine wq_gI X S hv ccX3 in_X3 (k := 3) (by decide) q175 dX3_isLike_21 (fun x21 hv => ?_)
  refine lv_icmp_ge (tgt := 88) X.hx X.hb dX3_isLike_24 (by decide) (fun c24 => ?_) (fun c24 => ?_)
  · have hv := hv.1 c24
    refine lv_iload_n X.hx X.hb dX3_isLike_88 rfl (lv_at hl 2 rfl) ?_
    exact wr_iret X S hv.1 hv.2 dX3_isLike_89
  · have hv := hv.2 c24
    refine lv_iload_n X.hx X.hb dX3_isLike_27 rfl (lv_at hl 2 rfl) ?_
    refine lv_if_eq (tgt := 88) X.hx X.hb dX3_isLike_28 (by decide) (fun c28 => ?_) (fun c28 => ?_)
    · have hv := hv.1 c28
      refine lv_iload_n X.hx X.hb dX3_isLike_88 rfl (lv_at hl 2 rfl) ?_
      exact wr_iret X S hv.1 hv.2 dX3_isLike_89
    · have hv := hv.2 c28
      refine wq_aload_n X dX3_isLike_31 rfl (lv_at hl 0 rfl) ?_
      refine wq_gA X S hv ccX3 in_X3 (k := 0) (by decide) q170 dX3_isLike_32 (fun x32 hv => ?_)
      refine lv_iload_n X.hx X.hb dX3_isLike_35 rfl (lv_at hl 3 rfl) ?_
      refine wq_li1 X S hv dX3_isLike_36 (fun x36 hv => ?_)
      refine wq_aload_n X dX3_isLike_37 rfl (lv_at hl 1 rfl) ?_
      refine wq_gA X S hv ccX3 in_X3 (k := 0) (by decide) q170 dX3_isLike_38 (fun x38 hv => ?_)
      refine lv_iload_n X.hx X.hb dX3_isLike_41 rfl (lv_at hl 3 rfl) ?_
      refine wq_li1 X S hv dX3_isLike_42 (fun x42 hv => ?_)
      refine lv_icmp_ne (tgt := 80) X.hx X.hb dX3_isLike_43 (by decide) (fun c43 => ?_) (fun c43 => ?_)
      · have hv := hv.1 c43
        refine lv_iconst (v := (0 : Int32)) X.hx X.hb dX3_isLike_80 (by decide) ?_
        exact wk_X3_isLike_81 X hK19 hv H locs cells slots ls S (lv_sub hl [0, 1, 3] rfl)
      · have hv := hv.2 c43
        refine wq_aload_n X dX3_isLike_46 rfl (lv_at hl 0 rfl) ?_
        refine wq_gA X S hv ccX3 in_X3 (k := 1) (by decide) q171 dX3_isLike_47 (fun x47 hv => ?_)
        refine lv_iload_n X.hx X.hb dX3_isLike_50 rfl (lv_at hl 3 rfl) ?_
        refine wq_li0 X S hv dX3_isLike_51 (fun x51 hv => ?_)
        refine wq_aload_n X dX3_isLike_52 rfl (lv_at hl 1 rfl) ?_
        refine wq_gA X S hv ccX3 in_X3 (k := 1) (by decide) q171 dX3_isLike_53 (fun x53 hv => ?_)
        refine lv_iload_n X.hx X.hb dX3_isLike_56 rfl (lv_at hl 3 rfl) ?_
        refine wq_li0 X S hv dX3_isLike_57 (fun x57 hv => ?_)
        refine lv_icmp_ne (tgt := 80) X.hx X.hb dX3_isLike_58 (by decide) (fun c58 => ?_) (fun c58 => ?_)
        · have hv := hv.1 c58
          refine lv_iconst (v := (0 : Int32)) X.hx X.hb dX3_isLike_80 (by decide) ?_
          exact wk_X3_isLike_81 X hK19 hv H locs cells slots ls S (lv_sub hl [0, 1, 3] rfl)
        · have hv := hv.2 c58
          refine wq_aload_n X dX3_isLike_61 rfl (lv_at hl 0 rfl) ?_
          refine wq_gA X S hv ccX3 in_X3 (k := 2) (by decide) q173 dX3_isLike_62 (fun x62 hv => ?_)
          refine lv_iload_n X.hx X.hb dX3_isLike_65 rfl (lv_at hl 3 rfl) ?_
          refine wq_li0 X S hv dX3_isLike_66 (fun x66 hv => ?_)
          refine wq_aload_n X dX3_isLike_67 rfl (lv_at hl 1 rfl) ?_
          refine wq_gA X S hv ccX3 in_X3 (k := 2) (by decide) q173 dX3_isLike_68 (fun x68 hv => ?_)
          refine lv_iload_n X.hx X.hb dX3_isLike_71 rfl (lv_at hl 3 rfl) ?_
          refine wq_li0 X S hv dX3_isLike_72 (fun x72 hv => ?_)
          refine lv_icmp_ne (tgt := 80) X.hx X.hb dX3_isLike_73 (by decide) (fun c73 => ?_) (fun c73 => ?_)
          · have hv := hv.1 c73
            refine lv_iconst (v := (0 : Int32)) X.hx X.hb dX3_isLike_80 (by decide) ?_
            exact wk_X3_isLike_81 X hK19 hv H locs cells slots ls S (lv_sub hl [0, 1, 3] rfl)
          · have hv := hv.2 c73
            refine lv_iconst (v := (1 : Int32)) X.hx X.hb dX3_isLike_76 (by decide) ?_
            refine lv_goto (tgt := 81) X.hx X.hb dX3_isLike_77 (by decide) ?_
            exact wk_X3_isLike_81 X hK19 hv H locs cells slots ls S (lv_sub hl [0, 1, 3] rfl)
set_option maxHeartbeats 4000000 in
theorem wk_X3_isLike_16 {G : wv_G} {p : Program} {e : Env} {R : Room} {s : State} {m : MethodId} {args : Array Value} {below : List Frame} {meth : Method} {c : Code} {fr : Nat} {P : wv_R → wv_H → Prop} (X : wv_ok G p R s m args meth c fr "Weaversgate$Trace" cX3_isLike 4 (Option.some Jvm.ClassFile.FieldType.boolean) "isLike" []) {v0 : Option Nat} {v1 : Option Nat} {s0 : Int32} {w : wv_W} (hv : vc_X3_isLike_16 G fr P v0 v1 s0 w) : wv_J G p e R s m args below meth c 4 P w 16 [(0, va_rf v0), (1, va_rf v1)] [.int s0] := by
  intro H locs cells slots ls S hl
  unfold vc_X3_isLike_16 at hv
  refine lv_istore_n X.hx X.hb (i := 2) (lv' := [(2, .int s0), (0, va_rf v0), (1, va_rf v1)]) dX3_isLike_16 rfl hl (by decide) (by simp [wv_rfc, wv_kI, wv_kJ, wv_kF, wv_kD]) (fun ls hl => ?_)
  refine lv_iconst (v := (0 : Int32)) X.hx X.hb dX3_isLike_17 (by decide) ?_
  refine lv_istore_n X.hx X.hb (i := 3) (lv' := [(3, .int (0 : Int32)), (2, .int s0), (0, va_rf v0), (1, va_rf v1)]) dX3_isLike_18 rfl hl (by decide) (by simp [wv_rfc, wv_kI, wv_kJ, wv_kF, wv_kD]) (fun ls hl => ?_)
  exact wv_loop (A := (Option Nat) × (Option Nat) × Int32 × Int32) (fun a w => wv_J G p e R s m args below meth c 4 P w 19 [(0, va_rf a.1), (1, va_rf a.2.1), (2, .int a.2.2.1), (3, .int a.2.2.2)] []) (fun K19 hK19 a w hv => wk_X3_isLike_19 X hK19 hv) hv H locs cells slots ls S (lv_sub hl [2, 3, 1, 0] rfl)
set_option maxHeartbeats 4000000 in
theorem wk_X3_isLike_0 {G : wv_G} {p : Program} {e : Env} {R : Room} {s : State} {m : MethodId} {args : Array Value} {below : List Frame} {meth : Method} {c : Code} {fr : Nat} {P : wv_R → wv_H → Prop} (X : wv_ok G p R s m args meth c fr "Weaversgate$Trace" cX3_isLike 4 (Option.some Jvm.ClassFile.FieldType.boolean) "isLike" []) {v0 : Option Nat} {v1 : Option Nat} {w : wv_W} (hv : vc_X3_isLike_0 G fr P v0 v1 w) : wv_J G p e R s m args below meth c 4 P w 0 [(0, va_rf v0), (1, va_rf v1)] [] := by
  intro H locs cells slots ls S hl
  unfold vc_X3_isLike_0 at hv
  refine wq_aload_n X dX3_isLike_0 rfl (lv_at hl 0 rfl) ?_
  refine wq_gI X S hv ccX3 in_X3 (k := 3) (by decide) q175 dX3_isLike_1 (fun x1 hv => ?_)
  refine wq_aload_n X dX3_isLike_4 rfl (lv_at hl 1 rfl) ?_
  refine wq_gI X S hv ccX3 in_X3 (k := 3) (by decide) q175 dX3_isLike_5 (fun x5 hv => ?_)
  refine lv_icmp_ne (tgt := 15) X.hx X.hb dX3_isLike_8 (by decide) (fun c8 => ?_) (fun c8 => ?_)
  · have hv := hv.1 c8
    refine lv_iconst (v := (0 : Int32)) X.hx X.hb dX3_isLike_15 (by decide) ?_
    exact wk_X3_isLike_16 X  hv H locs cells slots ls S (lv_sub hl [0, 1] rfl)
  · have hv := hv.2 c8
    refine lv_iconst (v := (1 : Int32)) X.hx X.hb dX3_isLike_11 (by decide) ?_
    refine lv_goto (tgt := 16) X.hx X.hb dX3_isLike_12 (by decide) ?_
    exact wk_X3_isLike_16 X  hv H locs cells slots ls S (lv_sub hl [0, 1] rfl)
theorem wk_X3_isLike {G : wv_G} (hG : wv_G0 G) {v0 : Option Nat} {v1 : Option Nat} {h : wv_H} {fr kc ks : Nat} {P : wv_R → wv_H → Prop} (hv : vc_X3_isLike_0 G fr P v0 v1 (h, kc, ks)) : wv_C G yX3_isLike [va_rf v0, va_rf v1] h fr kc ks P := by
  refine wv_enter (lv := [(0, va_rf v0), (1, va_rf v1)]) hG (by decide +kernel) q1211 (by decide) (by simp [lg_sl, wv_rfc, wv_kI, wv_kJ, wv_kF, wv_kD]) (by simp [lv_args, wv_rfc, wv_kI, wv_kJ, wv_kF, wv_kD]) ?_
  intro p e R s m args below meth c X H locs cells slots ls S hl
  exact wk_X3_isLike_0 X hv H locs cells slots ls S (lv_sub hl [0, 1] rfl)

def vc_X3_length_0 (G : wv_G) (fr : Nat) (P : wv_R → wv_H → Prop) (v0 : Option Nat) (w : wv_W) : Prop :=
  wv_gI w v0 ciX3 3 (fun x1 => P (.inl (some (.int x1))) w.1)
set_option maxHeartbeats 4000000 in
theorem wk_X3_length_0 {G : wv_G} {p : Program} {e : Env} {R : Room} {s : State} {m : MethodId} {args : Array Value} {below : List Frame} {meth : Method} {c : Code} {fr : Nat} {P : wv_R → wv_H → Prop} (X : wv_ok G p R s m args meth c fr "Weaversgate$Trace" cX3_length 1 (Option.some Jvm.ClassFile.FieldType.int) "length" []) {v0 : Option Nat} {w : wv_W} (hv : vc_X3_length_0 G fr P v0 w) : wv_J G p e R s m args below meth c 1 P w 0 [(0, va_rf v0)] [] := by
  intro H locs cells slots ls S hl
  unfold vc_X3_length_0 at hv
  refine wq_aload_n X dX3_length_0 rfl (lv_at hl 0 rfl) ?_
  refine wq_gI X S hv ccX3 in_X3 (k := 3) (by decide) q175 dX3_length_1 (fun x1 hv => ?_)
  exact wr_iret X S rfl hv dX3_length_4
theorem wk_X3_length {G : wv_G} (hG : wv_G0 G) {v0 : Option Nat} {h : wv_H} {fr kc ks : Nat} {P : wv_R → wv_H → Prop} (hv : vc_X3_length_0 G fr P v0 (h, kc, ks)) : wv_C G yX3_length [va_rf v0] h fr kc ks P := by
  refine wv_enter (lv := [(0, va_rf v0)]) hG (by decide +kernel) q929 (by decide) (by simp [lg_sl, wv_rfc, wv_kI, wv_kJ, wv_kF, wv_kD]) (by simp [lv_args, wv_rfc, wv_kI, wv_kJ, wv_kF, wv_kD]) ?_
  intro p e R s m args below meth c X H locs cells slots ls S hl
  exact wk_X3_length_0 X hv H locs cells slots ls S (lv_sub hl [0] rfl)

def vc_X6_finder_0 (G : wv_G) (fr : Nat) (P : wv_R → wv_H → Prop) (v0 : Option Nat) (v1 : Int32) (w : wv_W) : Prop :=
  wv_cV G fr yX6_hasBody v0 [.int v1] w (wv_rI (fun x2 w2 => (x2 = 0 → wv_gA w2 v0 ciX6 1 (fun x13 => (¬ x13 = none → wv_gA w2 v0 ciX6 1 (fun x24 => wv_cV G fr yX6_finder x24 [.int v1] w2 (wv_rA (fun x28 w28 => P (.inl (some (va_rf x28))) w28.1) (wv_pr P)))) ∧ (x13 = none → P (.inl (some (va_rf none))) w2.1))) ∧ (¬ x2 = 0 → P (.inl (some (va_rf v0))) w2.1)) (wv_pr P))
set_option maxHeartbeats 4000000 in
theorem wk_X6_finder_0 {G : wv_G} {p : Program} {e : Env} {R : Room} {s : State} {m : MethodId} {args : Array Value} {below : List Frame} {meth : Method} {c : Code} {fr : Nat} {P : wv_R → wv_H → Prop} (X : wv_ok G p R s m args meth c fr "Weaversgate$Type" cX6_finder 2 (Option.some (Jvm.ClassFile.FieldType.object "Weaversgate$Type")) "finder" []) {v0 : Option Nat} {v1 : Int32} {w : wv_W} (hv : vc_X6_finder_0 G fr P v0 v1 w) : wv_J G p e R s m args below meth c 2 P w 0 [(0, va_rf v0), (1, .int v1)] [] := by
  intro H locs cells slots ls S hl
  unfold vc_X6_finder_0 at hv
  refine wq_aload_n X dX6_finder_0 rfl (lv_at hl 0 rfl) ?_
  refine lv_iload_n X.hx X.hb dX6_finder_1 rfl (lv_at hl 1 rfl) ?_
  refine wq_cV_I X S hv q716 q293 q294 q77 ⟨by decide +kernel, by decide +kernel⟩ (nA := 1) (As := [.int v1]) (by decide +kernel) rfl rfl (by simp [wv_rfc, wv_kI, wv_kJ, wv_kF, wv_kD]) hl.1 dX6_finder_2 (fun x2 w2 H locs cells slots S hv => ?_) (wq_kx X rfl)
  refine lv_if_eq (tgt := 12) X.hx X.hb dX6_finder_5 (by decide) (fun c5 => ?_) (fun c5 => ?_)
  · have hv := hv.1 c5
    refine wq_aload_n X dX6_finder_12 rfl (lv_at hl 0 rfl) ?_
    refine wq_gA X S hv ccX6 in_X6 (k := 1) (by decide) q1292 dX6_finder_13 (fun x13 hv => ?_)
    refine wq_ifnonnull (tgt := 23) X dX6_finder_16 (by decide) (fun c16 => ?_) (fun c16 => ?_)
    · have hv := hv.1 c16
      refine wq_aload_n X dX6_finder_23 rfl (lv_at hl 0 rfl) ?_
      refine wq_gA X S hv ccX6 in_X6 (k := 1) (by decide) q1292 dX6_finder_24 (fun x24 hv => ?_)
      refine lv_iload_n X.hx X.hb dX6_finder_27 rfl (lv_at hl 1 rfl) ?_
      refine wq_cV_A X S hv q717 q713 q714 q77 ⟨by decide +kernel, by decide +kernel⟩ (nA := 1) (As := [.int v1]) (by decide +kernel) rfl rfl (by simp [wv_rfc, wv_kI, wv_kJ, wv_kF, wv_kD]) hl.1 dX6_finder_28 (fun x28 w28 H locs cells slots S hv => ?_) (wq_kx X rfl)
      exact wr_aret X S (Or.inl ⟨_, rfl⟩) hv dX6_finder_31
    · have hv := hv.2 c16
      refine wq_null (k := 0) X S dX6_finder_19 ?_
      refine lv_goto (tgt := 31) X.hx X.hb dX6_finder_20 (by decide) ?_
      exact wr_aret X S (Or.inl ⟨_, rfl⟩) hv dX6_finder_31
  · have hv := hv.2 c5
    refine wq_aload_n X dX6_finder_8 rfl (lv_at hl 0 rfl) ?_
    refine lv_goto (tgt := 31) X.hx X.hb dX6_finder_9 (by decide) ?_
    exact wr_aret X S (Or.inl ⟨_, rfl⟩) hv dX6_finder_31
theorem wk_X6_finder {G : wv_G} (hG : wv_G0 G) {v0 : Option Nat} {v1 : Int32} {h : wv_H} {fr kc ks : Nat} {P : wv_R → wv_H → Prop} (hv : vc_X6_finder_0 G fr P v0 v1 (h, kc, ks)) : wv_C G yX6_finder [va_rf v0, .int v1] h fr kc ks P := by
  refine wv_enter (lv := [(0, va_rf v0), (1, .int v1)]) hG (by decide +kernel) q715 (by decide) (by simp [lg_sl, wv_rfc, wv_kI, wv_kJ, wv_kF, wv_kD]) (by simp [lv_args, wv_rfc, wv_kI, wv_kJ, wv_kF, wv_kD]) ?_
  intro p e R s m args below meth c X H locs cells slots ls S hl
  exact wk_X6_finder_0 X hv H locs cells slots ls S (lv_sub hl [0, 1] rfl)

def vc_X6_hasBody_0 (G : wv_G) (fr : Nat) (P : wv_R → wv_H → Prop) (v0 : Option Nat) (v1 : Int32) (w : wv_W) : Prop :=
  wv_gA w v0 ciX6 2 (fun x1 => wv_cV G fr yJ2_get x1 [.int v1] w (wv_rA (fun x5 w5 => wv_cc G w5 x5 "java/util/ArrayList" (wv_cV G fr yJ2_isEmpty x5 [] w5 (wv_rI (fun x11 w11 => (¬ x11 = 0 → narrow .boolean (.int (0 : Int32)) = .int (0 : Int32) ∧ P (.inl (some (.int (0 : Int32)))) w11.1) ∧ (x11 = 0 → narrow .boolean (.int (1 : Int32)) = .int (1 : Int32) ∧ P (.inl (some (.int (1 : Int32)))) w11.1)) (wv_pr P)))) (wv_pr P)))
set_option maxHeartbeats 4000000 in
theorem wk_X6_hasBody_0 {G : wv_G} {p : Program} {e : Env} {R : Room} {s : State} {m : MethodId} {args : Array Value} {below : List Frame} {meth : Method} {c : Code} {fr : Nat} {P : wv_R → wv_H → Prop} (X : wv_ok G p R s m args meth c fr "Weaversgate$Type" cX6_hasBody 2 (Option.some Jvm.ClassFile.FieldType.boolean) "hasBody" []) {v0 : Option Nat} {v1 : Int32} {w : wv_W} (hv : vc_X6_hasBody_0 G fr P v0 v1 w) : wv_J G p e R s m args below meth c 2 P w 0 [(0, va_rf v0), (1, .int v1)] [] := by
  intro H locs cells slots ls S hl
  unfold vc_X6_hasBody_0 at hv
  refine wq_aload_n X dX6_hasBody_0 rfl (lv_at hl 0 rfl) ?_
  refine wq_gA X S hv ccX6 in_X6 (k := 2) (by decide) q1293 dX6_hasBody_1 (fun x1 hv => ?_)
  refine lv_iload_n X.hx X.hb dX6_hasBody_4 rfl (lv_at hl 1 rfl) ?_
  refine wq_cV_A X S hv q296 q274 q275 q63 ⟨by decide +kernel, by decide +kernel⟩ (nA := 1) (As := [.int v1]) (by decide +kernel) rfl rfl (by simp [wv_rfc, wv_kI, wv_kJ, wv_kF, wv_kD]) hl.1 dX6_hasBody_5 (fun x5 w5 H locs cells slots S hv => ?_) (wq_kx X rfl)
  refine wq_cc X S hv q297 dX6_hasBody_8 (fun hv => ?_)
  refine wq_cV_I X S hv q298 q299 q300 q63 ⟨by decide +kernel, by decide +kernel⟩ (nA := 0) (As := []) (by decide +kernel) rfl rfl (by simp [wv_rfc, wv_kI, wv_kJ, wv_kF, wv_kD]) hl.1 dX6_hasBody_11 (fun x11 w11 H locs cells slots S hv => ?_) (wq_kx X rfl)
  refine lv_if_ne (tgt := 21) X.hx X.hb dX6_hasBody_14 (by decide) (fun c14 => ?_) (fun c14 => ?_)
  · have hv := hv.1 c14
    refine lv_iconst (v := (0 : Int32)) X.hx X.hb dX6_hasBody_21 (by decide) ?_
    exact wr_iret X S hv.1 hv.2 dX6_hasBody_22
  · have hv := hv.2 c14
    refine lv_iconst (v := (1 : Int32)) X.hx X.hb dX6_hasBody_17 (by decide) ?_
    refine lv_goto (tgt := 22) X.hx X.hb dX6_hasBody_18 (by decide) ?_
    exact wr_iret X S hv.1 hv.2 dX6_hasBody_22
theorem wk_X6_hasBody {G : wv_G} (hG : wv_G0 G) {v0 : Option Nat} {v1 : Int32} {h : wv_H} {fr kc ks : Nat} {P : wv_R → wv_H → Prop} (hv : vc_X6_hasBody_0 G fr P v0 v1 (h, kc, ks)) : wv_C G yX6_hasBody [va_rf v0, .int v1] h fr kc ks P := by
  refine wv_enter (lv := [(0, va_rf v0), (1, .int v1)]) hG (by decide +kernel) q295 (by decide) (by simp [lg_sl, wv_rfc, wv_kI, wv_kJ, wv_kF, wv_kD]) (by simp [lv_args, wv_rfc, wv_kI, wv_kJ, wv_kF, wv_kD]) ?_
  intro p e R s m args below meth c X H locs cells slots ls S hl
  exact wk_X6_hasBody_0 X hv H locs cells slots ls S (lv_sub hl [0, 1] rfl)

def vc_X6_init_38 (G : wv_G) (fr : Nat) (P : wv_R → wv_H → Prop) (K38 : ((Option Nat) × Int32) → wv_W → Prop) (v0 : Option Nat) (v3 : Int32) (w : wv_W) : Prop :=
  ((6 : Int32) ≤ v3 → P (.inl none) w.1) ∧ (¬ (6 : Int32) ≤ v3 → wv_gA w v0 ciX6 2 (fun x45 => wv_no G w (wo_o ciJ2 [.int 0, va_rf none, .int 0]) 3 (fun a48 w48 => wv_cI G fr yJ2_init (some a48) [] w48 (wv_rV (fun w52 => wv_cV G fr yJ2_add x45 [va_rf (some a48)] w52 (wv_rI (fun x55 w55 => wv_gA w55 v0 ciX6 3 (fun x60 => wv_no G w55 (wo_o ciJ2 [.int 0, va_rf none, .int 0]) 3 (fun a63 w63 => wv_cI G fr yJ2_init (some a63) [] w63 (wv_rV (fun w67 => wv_cV G fr yJ2_add x60 [va_rf (some a63)] w67 (wv_rI (fun x70 w70 => K38 (v0, (v3 + (1 : Int32))) w70) (wv_pr P))) (wv_pr P))))) (wv_pr P))) (wv_pr P)))))
def vc_X6_init_0 (G : wv_G) (fr : Nat) (P : wv_R → wv_H → Prop) (v0 : Option Nat) (v1 : Int32) (v2 : Option Nat) (w : wv_W) : Prop :=
  (∃ a, v0 = some a) ∧ 1 ≤ fr ∧ (wv_no G w (wo_o ciJ2 [.int 0, va_rf none, .int 0]) 3 (fun a5 w5 => wv_cI G fr yJ2_init (some a5) [] w5 (wv_rV (fun w9 => wv_pt w9 v0 ciX6 2 (va_rf (some a5)) (fun w12 => wv_no G w12 (wo_o ciJ2 [.int 0, va_rf none, .int 0]) 3 (fun a16 w16 => wv_cI G fr yJ2_init (some a16) [] w16 (wv_rV (fun w20 => wv_pt w20 v0 ciX6 3 (va_rf (some a16)) (fun w23 => wv_pt w23 v0 ciX6 0 (.int v1) (fun w28 => wv_pt w28 v0 ciX6 1 (va_rf v2) (fun w33 => wv_L (fun K38 a w => vc_X6_init_38 G fr P K38 a.1 a.2 w) (v0, (0 : Int32)) w33)))) (wv_pr P))))) (wv_pr P))))
set_option maxHeartbeats 4000000 in
theorem wk_X6_init_38 {G : wv_G} {p : Program} {e : Env} {R : Room} {s : State} {m : MethodId} {args : Array Value} {below : List Frame} {meth : Method} {c : Code} {fr : Nat} {P : wv_R → wv_H → Prop} (X : wv_ok G p R s m args meth c fr "Weaversgate$Type" cX6_init 4 (Option.none : Option Jvm.ClassFile.FieldType) "<init>" []) {K38 : ((Option Nat) × Int32) → wv_W → Prop} (hK38 : ∀ a w, K38 a w → wv_J G p e R s m args below meth c 4 P w 38 [(0, va_rf a.1), (3, .int a.2)] []) {v0 : Option Nat} {v3 : Int32} {w : wv_W} (hv : vc_X6_init_38 G fr P K38 v0 v3 w) : wv_J G p e R s m args below meth c 4 P w 38 [(0, va_rf v0), (3, .int v3)] [] := by
  intro H locs cells slots ls S hl
  unfold vc_X6_init_38 at hv
  refine lv_iload_n X.hx X.hb dX6_init_38 rfl (lv_at hl 1 rfl) ?_
  refine lv_bipush (v := (6 : Int32)) X.hx X.hb dX6_init_39 (by decide) ?_
  refine lv_icmp_ge (tgt := 80) X.hx X.hb dX6_init_41 (by decide) (fun c41 => ?_) (fun c41 => ?_)
  · have hv := hv.1 c41
    exact wr_vret X S hv dX6_init_80
  · have hv := hv.2 c41
    refine wq_aload_n X dX6_init_44 rfl (lv_at hl 0 rfl) ?_
    refine wq_gA X S hv ccX6 in_X6 (k := 2) (by decide) q1293 dX6_init_45 (fun x45 hv => ?_)
    refine wq_new X S hv tyJ2 tyJ2_ok ccJ2 in_J2 q297 q128 q63 (fun j hj => by have hj : j < 3 := hj; rcases (show j = 0 ∨ j = 1 ∨ j = 2 by omega) with rfl | rfl | rfl <;> rfl) dX6_init_48 (fun a48 w48 H cells slots S hv => ?_)
    refine lv_dup X.hx X.hb dX6_init_51 (wv_rfc _) ?_
    refine wq_cI_V X S hv rfl q1287 q130 q131 q63 ⟨by decide +kernel, by decide +kernel⟩ (nA := 0) (As := []) (by decide +kernel) rfl rfl (by simp [wv_rfc, wv_kI, wv_kJ, wv_kF, wv_kD]) hl.1 dX6_init_52 (fun w52 H locs cells slots S hv => ?_) (wq_kx X rfl)
    refine wq_cV_I X S hv q1288 q752 q753 q63 ⟨by decide +kernel, by decide +kernel⟩ (nA := 1) (As := [va_rf (some a48)]) (by decide +kernel) rfl rfl (by simp [wv_rfc, wv_kI, wv_kJ, wv_kF, wv_kD]) hl.1 dX6_init_55 (fun x55 w55 H locs cells slots S hv => ?_) (wq_kx X rfl)
    refine lv_pop X.hx X.hb dX6_init_58 rfl ?_
    refine wq_aload_n X dX6_init_59 rfl (lv_at hl 0 rfl) ?_
    refine wq_gA X S hv ccX6 in_X6 (k := 3) (by decide) q1296 dX6_init_60 (fun x60 hv => ?_)
    refine wq_new X S hv tyJ2 tyJ2_ok ccJ2 in_J2 q297 q128 q63 (fun j hj => by have hj : j < 3 := hj; rcases (show j = 0 ∨ j = 1 ∨ j = 2 by omega) with rfl | rfl | rfl <;> rfl) dX6_init_63 (fun a63 w63 H cells slots S hv => ?_)
    refine lv_dup X.hx X.hb dX6_init_66 (wv_rfc _) ?_
    refine wq_cI_V X S hv rfl q1287 q130 q131 q63 ⟨by decide +kernel, by decide +kernel⟩ (nA := 0) (As := []) (by decide +kernel) rfl rfl (by simp [wv_rfc, wv_kI, wv_kJ, wv_kF, wv_kD]) hl.1 dX6_init_67 (fun w67 H locs cells slots S hv => ?_) (wq_kx X rfl)
    refine wq_cV_I X S hv q1288 q752 q753 q63 ⟨by decide +kernel, by decide +kernel⟩ (nA := 1) (As := [va_rf (some a63)]) (by decide +kernel) rfl rfl (by simp [wv_rfc, wv_kI, wv_kJ, wv_kF, wv_kD]) hl.1 dX6_init_70 (fun x70 w70 H locs cells slots S hv => ?_) (wq_kx X rfl)
    refine lv_pop X.hx X.hb dX6_init_73 rfl ?_
    refine lv_iinc (v := (v3 + (1 : Int32))) (lv' := [(3, .int (v3 + (1 : Int32))), (0, va_rf v0)]) X.hx X.hb dX6_init_74 hl (k := 1) rfl (by rfl) (by decide) rfl (fun ls hl => ?_)
    refine lv_goto (tgt := 38) X.hx X.hb dX6_init_77 (by decide) ?_
    exact hK38 _ _ hv H locs cells slots ls S (lv_sub hl [1, 0] rfl)
set_option maxHeartbeats 4000000 in
theorem wk_X6_init_0 {G : wv_G} {p : Program} {e : Env} {R : Room} {s : State} {m : MethodId} {args : Array Value} {below : List Frame} {meth : Method} {c : Code} {fr : Nat} {P : wv_R → wv_H → Prop} (X : wv_ok G p R s m args meth c fr "Weaversgate$Type" cX6_init 4 (Option.none : Option Jvm.ClassFile.FieldType) "<init>" []) {v0 : Option Nat} {v1 : Int32} {v2 : Option Nat} {w : wv_W} (hv : vc_X6_init_0 G fr P v0 v1 v2 w) : wv_J G p e R s m args below meth c 4 P w 0 [(0, va_rf v0), (1, .int v1), (2, va_rf v2)] [] := by
  intro H locs cells slots ls S hl
  unfold vc_X6_init_0 at hv
  refine wq_aload_n X dX6_init_0 rfl (lv_at hl 0 rfl) ?_
  obtain ⟨⟨_, hr⟩, h1, hv⟩ := hv
  refine wq_objInit X hr q1286 q125 q126 h1 (by simp [wv_rfc, wv_kI, wv_kJ, wv_kF, wv_kD]) hl.1 dX6_init_1 ?_
  refine wq_aload_n X dX6_init_4 rfl (lv_at hl 0 rfl) ?_
  refine wq_new X S hv tyJ2 tyJ2_ok ccJ2 in_J2 q297 q128 q63 (fun j hj => by have hj : j < 3 := hj; rcases (show j = 0 ∨ j = 1 ∨ j = 2 by omega) with rfl | rfl | rfl <;> rfl) dX6_init_5 (fun a5 w5 H cells slots S hv => ?_)
  refine lv_dup X.hx X.hb dX6_init_8 (wv_rfc _) ?_
  refine wq_cI_V X S hv rfl q1287 q130 q131 q63 ⟨by decide +kernel, by decide +kernel⟩ (nA := 0) (As := []) (by decide +kernel) rfl rfl (by simp [wv_rfc, wv_kI, wv_kJ, wv_kF, wv_kD]) hl.1 dX6_init_9 (fun w9 H locs cells slots S hv => ?_) (wq_kx X rfl)
  refine wq_ptF X S hv tyX6 tyX6_ok nmX6 ccX6 in_X6 (k := 2) (by decide) q1293 rfl rfl rfl (wv_fnA (Or.inl ⟨_, rfl⟩)).1 (wv_fnA (Or.inl ⟨_, rfl⟩)).2 dX6_init_12 (fun w12 H locs S hv => ?_)
  refine wq_aload_n X dX6_init_15 rfl (lv_at hl 0 rfl) ?_
  refine wq_new X S hv tyJ2 tyJ2_ok ccJ2 in_J2 q297 q128 q63 (fun j hj => by have hj : j < 3 := hj; rcases (show j = 0 ∨ j = 1 ∨ j = 2 by omega) with rfl | rfl | rfl <;> rfl) dX6_init_16 (fun a16 w16 H cells slots S hv => ?_)
  refine lv_dup X.hx X.hb dX6_init_19 (wv_rfc _) ?_
  refine wq_cI_V X S hv rfl q1287 q130 q131 q63 ⟨by decide +kernel, by decide +kernel⟩ (nA := 0) (As := []) (by decide +kernel) rfl rfl (by simp [wv_rfc, wv_kI, wv_kJ, wv_kF, wv_kD]) hl.1 dX6_init_20 (fun w20 H locs cells slots S hv => ?_) (wq_kx X rfl)
  refine wq_ptF X S hv tyX6 tyX6_ok nmX6 ccX6 in_X6 (k := 3) (by decide) q1296 rfl rfl rfl (wv_fnA (Or.inl ⟨_, rfl⟩)).1 (wv_fnA (Or.inl ⟨_, rfl⟩)).2 dX6_init_23 (fun w23 H locs S hv => ?_)
  refine wq_aload_n X dX6_init_26 rfl (lv_at hl 0 rfl) ?_
  refine lv_iload_n X.hx X.hb dX6_init_27 rfl (lv_at hl 1 rfl) ?_
  refine wq_ptF X S hv tyX6 tyX6_ok nmX6 ccX6 in_X6 (k := 0) (by decide) q1289 rfl rfl rfl rfl rfl dX6_init_28 (fun w28 H locs S hv => ?_)
  refine wq_aload_n X dX6_init_31 rfl (lv_at hl 0 rfl) ?_
  refine wq_aload_n X dX6_init_32 rfl (lv_at hl 2 rfl) ?_
  refine wq_ptF X S hv tyX6 tyX6_ok nmX6 ccX6 in_X6 (k := 1) (by decide) q1292 rfl rfl rfl (wv_fnA (Or.inl ⟨_, rfl⟩)).1 (wv_fnA (Or.inl ⟨_, rfl⟩)).2 dX6_init_33 (fun w33 H locs S hv => ?_)
  refine lv_iconst (v := (0 : Int32)) X.hx X.hb dX6_init_36 (by decide) ?_
  refine lv_istore_n X.hx X.hb (i := 3) (lv' := [(3, .int (0 : Int32)), (0, va_rf v0), (1, .int v1), (2, va_rf v2)]) dX6_init_37 rfl hl (by decide) (by simp [wv_rfc, wv_kI, wv_kJ, wv_kF, wv_kD]) (fun ls hl => ?_)
  exact wv_loop (A := (Option Nat) × Int32) (fun a w => wv_J G p e R s m args below meth c 4 P w 38 [(0, va_rf a.1), (3, .int a.2)] []) (fun K38 hK38 a w hv => wk_X6_init_38 X hK38 hv) hv H locs cells slots ls S (lv_sub hl [1, 0] rfl)
theorem wk_X6_init {G : wv_G} (hG : wv_G0 G) {v0 : Option Nat} {v1 : Int32} {v2 : Option Nat} {h : wv_H} {fr kc ks : Nat} {P : wv_R → wv_H → Prop} (hv : vc_X6_init_0 G fr P v0 v1 v2 (h, kc, ks)) : wv_C G yX6_init [va_rf v0, .int v1, va_rf v2] h fr kc ks P := by
  refine wv_enter (lv := [(0, va_rf v0), (1, .int v1), (2, va_rf v2)]) hG (by decide +kernel) q1285 (by decide) (by simp [lg_sl, wv_rfc, wv_kI, wv_kJ, wv_kF, wv_kD]) (by simp [lv_args, wv_rfc, wv_kI, wv_kJ, wv_kF, wv_kD]) ?_
  intro p e R s m args below meth c X H locs cells slots ls S hl
  exact wk_X6_init_0 X hv H locs cells slots ls S (lv_sub hl [0, 1, 2] rfl)

def vc_X6_isBelow_0 (G : wv_G) (fr : Nat) (P : wv_R → wv_H → Prop) (v0 : Option Nat) (v1 : Int32) (w : wv_W) : Prop :=
  wv_gI w v0 ciX6 0 (fun x1 => (x1 = v1 → narrow .boolean (.int (1 : Int32)) = .int (1 : Int32) ∧ P (.inl (some (.int (1 : Int32)))) w.1) ∧ (¬ x1 = v1 → wv_gA w v0 ciX6 1 (fun x9 => (x9 = none → narrow .boolean (.int (0 : Int32)) = .int (0 : Int32) ∧ P (.inl (some (.int (0 : Int32)))) w.1) ∧ (¬ x9 = none → wv_gA w v0 ciX6 1 (fun x16 => wv_cV G fr yX6_isBelow x16 [.int v1] w (wv_rI (fun x20 w20 => (x20 = 0 → narrow .boolean (.int (0 : Int32)) = .int (0 : Int32) ∧ P (.inl (some (.int (0 : Int32)))) w20.1) ∧ (¬ x20 = 0 → narrow .boolean (.int (1 : Int32)) = .int (1 : Int32) ∧ P (.inl (some (.int (1 : Int32)))) w20.1)) (wv_pr P)))))))
set_option maxHeartbeats 4000000 in
theorem wk_X6_isBelow_0 {G : wv_G} {p : Program} {e : Env} {R : Room} {s : State} {m : MethodId} {args : Array Value} {below : List Frame} {meth : Method} {c : Code} {fr : Nat} {P : wv_R → wv_H → Prop} (X : wv_ok G p R s m args meth c fr "Weaversgate$Type" cX6_isBelow 2 (Option.some Jvm.ClassFile.FieldType.boolean) "isBelow" []) {v0 : Option Nat} {v1 : Int32} {w : wv_W} (hv : vc_X6_isBelow_0 G fr P v0 v1 w) : wv_J G p e R s m args below meth c 2 P w 0 [(0, va_rf v0), (1, .int v1)] [] := by
  intro H locs cells slots ls S hl
  unfold vc_X6_isBelow_0 at hv
  refine wq_aload_n X dX6_isBelow_0 rfl (lv_at hl 0 rfl) ?_
  refine wq_gI X S hv ccX6 in_X6 (k := 0) (by decide) q1289 dX6_isBelow_1 (fun x1 hv => ?_)
  refine lv_iload_n X.hx X.hb dX6_isBelow_4 rfl (lv_at hl 1 rfl) ?_
  refine lv_icmp_eq (tgt := 26) X.hx X.hb dX6_isBelow_5 (by decide) (fun c5 => ?_) (fun c5 => ?_)
  · have hv := hv.1 c5
    refine lv_iconst (v := (1 : Int32)) X.hx X.hb dX6_isBelow_26 (by decide) ?_
    refine lv_goto (tgt := 31) X.hx X.hb dX6_isBelow_27 (by decide) ?_
    exact wr_iret X S hv.1 hv.2 dX6_isBelow_31
  · have hv := hv.2 c5
    refine wq_aload_n X dX6_isBelow_8 rfl (lv_at hl 0 rfl) ?_
    refine wq_gA X S hv ccX6 in_X6 (k := 1) (by decide) q1292 dX6_isBelow_9 (fun x9 hv => ?_)
    refine wq_ifnull (tgt := 30) X dX6_isBelow_12 (by decide) (fun c12 => ?_) (fun c12 => ?_)
    · have hv := hv.1 c12
      refine lv_iconst (v := (0 : Int32)) X.hx X.hb dX6_isBelow_30 (by decide) ?_
      exact wr_iret X S hv.1 hv.2 dX6_isBelow_31
    · have hv := hv.2 c12
      refine wq_aload_n X dX6_isBelow_15 rfl (lv_at hl 0 rfl) ?_
      refine wq_gA X S hv ccX6 in_X6 (k := 1) (by decide) q1292 dX6_isBelow_16 (fun x16 hv => ?_)
      refine lv_iload_n X.hx X.hb dX6_isBelow_19 rfl (lv_at hl 1 rfl) ?_
      refine wq_cV_I X S hv q895 q892 q893 q77 ⟨by decide +kernel, by decide +kernel⟩ (nA := 1) (As := [.int v1]) (by decide +kernel) rfl rfl (by simp [wv_rfc, wv_kI, wv_kJ, wv_kF, wv_kD]) hl.1 dX6_isBelow_20 (fun x20 w20 H locs cells slots S hv => ?_) (wq_kx X rfl)
      refine lv_if_eq (tgt := 30) X.hx X.hb dX6_isBelow_23 (by decide) (fun c23 => ?_) (fun c23 => ?_)
      · have hv := hv.1 c23
        refine lv_iconst (v := (0 : Int32)) X.hx X.hb dX6_isBelow_30 (by decide) ?_
        exact wr_iret X S hv.1 hv.2 dX6_isBelow_31
      · have hv := hv.2 c23
        refine lv_iconst (v := (1 : Int32)) X.hx X.hb dX6_isBelow_26 (by decide) ?_
        refine lv_goto (tgt := 31) X.hx X.hb dX6_isBelow_27 (by decide) ?_
        exact wr_iret X S hv.1 hv.2 dX6_isBelow_31
theorem wk_X6_isBelow {G : wv_G} (hG : wv_G0 G) {v0 : Option Nat} {v1 : Int32} {h : wv_H} {fr kc ks : Nat} {P : wv_R → wv_H → Prop} (hv : vc_X6_isBelow_0 G fr P v0 v1 (h, kc, ks)) : wv_C G yX6_isBelow [va_rf v0, .int v1] h fr kc ks P := by
  refine wv_enter (lv := [(0, va_rf v0), (1, .int v1)]) hG (by decide +kernel) q894 (by decide) (by simp [lg_sl, wv_rfc, wv_kI, wv_kJ, wv_kF, wv_kD]) (by simp [lv_args, wv_rfc, wv_kI, wv_kJ, wv_kF, wv_kD]) ?_
  intro p e R s m args below meth c X H locs cells slots ls S hl
  exact wk_X6_isBelow_0 X hv H locs cells slots ls S (lv_sub hl [0, 1] rfl)

def vc_X7_init_0 (G : wv_G) (fr : Nat) (P : wv_R → wv_H → Prop) (v0 : Option Nat) (v1 : Int32) (v2 : Int32) (v3 : Int32) (w : wv_W) : Prop :=
  (∃ a, v0 = some a) ∧ 1 ≤ fr ∧ (wv_fit .char v1 ∧ wv_pt w v0 ciX7 0 (.int v1) (fun w6 => wv_pt w6 v0 ciX7 1 (.int v2) (fun w11 => wv_pt w11 v0 ciX7 2 (.int v3) (fun w16 => P (.inl none) w16.1))))
set_option maxHeartbeats 4000000 in
theorem wk_X7_init_0 {G : wv_G} {p : Program} {e : Env} {R : Room} {s : State} {m : MethodId} {args : Array Value} {below : List Frame} {meth : Method} {c : Code} {fr : Nat} {P : wv_R → wv_H → Prop} (X : wv_ok G p R s m args meth c fr "Weaversgate$Step" cX7_init 4 (Option.none : Option Jvm.ClassFile.FieldType) "<init>" []) {v0 : Option Nat} {v1 : Int32} {v2 : Int32} {v3 : Int32} {w : wv_W} (hv : vc_X7_init_0 G fr P v0 v1 v2 v3 w) : wv_J G p e R s m args below meth c 4 P w 0 [(0, va_rf v0), (1, .int v1), (2, .int v2), (3, .int v3)] [] := by
  intro H locs cells slots ls S hl
  unfold vc_X7_init_0 at hv
  refine wq_aload_n X dX7_init_0 rfl (lv_at hl 0 rfl) ?_
  obtain ⟨⟨_, hr⟩, h1, hv⟩ := hv
  refine wq_objInit X hr q1342 q125 q126 h1 (by simp [wv_rfc, wv_kI, wv_kJ, wv_kF, wv_kD]) hl.1 dX7_init_1 ?_
  refine wq_aload_n X dX7_init_4 rfl (lv_at hl 0 rfl) ?_
  refine lv_iload_n X.hx X.hb dX7_init_5 rfl (lv_at hl 1 rfl) ?_
  have hv6 := hv.1
  have hv := hv.2
  refine wq_ptF X S hv tyX7 tyX7_ok nmX7 ccX7 in_X7 (k := 0) (by decide) q1343 rfl rfl rfl hv6.1 hv6.2 dX7_init_6 (fun w6 H locs S hv => ?_)
  refine wq_aload_n X dX7_init_9 rfl (lv_at hl 0 rfl) ?_
  refine lv_iload_n X.hx X.hb dX7_init_10 rfl (lv_at hl 2 rfl) ?_
  refine wq_ptF X S hv tyX7 tyX7_ok nmX7 ccX7 in_X7 (k := 1) (by decide) q1346 rfl rfl rfl rfl rfl dX7_init_11 (fun w11 H locs S hv => ?_)
  refine wq_aload_n X dX7_init_14 rfl (lv_at hl 0 rfl) ?_
  refine lv_iload_n X.hx X.hb dX7_init_15 rfl (lv_at hl 3 rfl) ?_
  refine wq_ptF X S hv tyX7 tyX7_ok nmX7 ccX7 in_X7 (k := 2) (by decide) q1349 rfl rfl rfl rfl rfl dX7_init_16 (fun w16 H locs S hv => ?_)
  exact wr_vret X S hv dX7_init_19
theorem wk_X7_init {G : wv_G} (hG : wv_G0 G) {v0 : Option Nat} {v1 : Int32} {v2 : Int32} {v3 : Int32} {h : wv_H} {fr kc ks : Nat} {P : wv_R → wv_H → Prop} (hv : vc_X7_init_0 G fr P v0 v1 v2 v3 (h, kc, ks)) : wv_C G yX7_init [va_rf v0, .int v1, .int v2, .int v3] h fr kc ks P := by
  refine wv_enter (lv := [(0, va_rf v0), (1, .int v1), (2, .int v2), (3, .int v3)]) hG (by decide +kernel) q1341 (by decide) (by simp [lg_sl, wv_rfc, wv_kI, wv_kJ, wv_kF, wv_kD]) (by simp [lv_args, wv_rfc, wv_kI, wv_kJ, wv_kF, wv_kD]) ?_
  intro p e R s m args below meth c X H locs cells slots ls S hl
  exact wk_X7_init_0 X hv H locs cells slots ls S (lv_sub hl [0, 1, 2, 3] rfl)

def vc_X7_places_127 (G : wv_G) (fr : Nat) (P : wv_R → wv_H → Prop) (v2 : Int32) (w : wv_W) : Prop :=
  (v2 = (0 : Int32) → P (.inl (some (.int (2 : Int32)))) w.1) ∧ (¬ v2 = (0 : Int32) → (v2 = (1 : Int32) → P (.inl (some (.int (1 : Int32)))) w.1) ∧ (¬ v2 = (1 : Int32) → (v2 = (2 : Int32) → P (.inl (some (.int (1 : Int32)))) w.1) ∧ (¬ v2 = (2 : Int32) → (v2 = (3 : Int32) → P (.inl (some (.int (1 : Int32)))) w.1) ∧ (¬ v2 = (3 : Int32) → (v2 = (4 : Int32) → P (.inl (some (.int (1 : Int32)))) w.1) ∧ (¬ v2 = (4 : Int32) → P (.inl (some (.int (0 : Int32)))) w.1)))))
def vc_X7_places_0 (G : wv_G) (fr : Nat) (P : wv_R → wv_H → Prop) (v0 : Option Nat) (w : wv_W) : Prop :=
  wv_cV G fr yX7_word v0 [] w (wv_rA (fun x1 w1 => wv_cV G fr yJ8_hashCode x1 [] w1 (wv_rI (fun x8 w8 => (x8 = (-1224577496 : Int32) → wv_cV G fr yJ8_equals x1 [va_rf (some (G.2.2.2.2 406))] w8 (wv_rI (fun x119 w119 => (x119 = 0 → vc_X7_places_127 G fr P (-1 : Int32) w119) ∧ (¬ x119 = 0 → vc_X7_places_127 G fr P (4 : Int32) w119)) (wv_pr P))) ∧ (¬ x8 = (-1224577496 : Int32) → (x8 = (102230 : Int32) → wv_cV G fr yJ8_equals x1 [va_rf (some (G.2.2.2.2 403))] w8 (wv_rI (fun x91 w91 => (x91 = 0 → vc_X7_places_127 G fr P (-1 : Int32) w91) ∧ (¬ x91 = 0 → vc_X7_places_127 G fr P (2 : Int32) w91)) (wv_pr P))) ∧ (¬ x8 = (102230 : Int32) → (x8 = (113762 : Int32) → wv_cV G fr yJ8_equals x1 [va_rf (some (G.2.2.2.2 404))] w8 (wv_rI (fun x105 w105 => (x105 = 0 → vc_X7_places_127 G fr P (-1 : Int32) w105) ∧ (¬ x105 = 0 → vc_X7_places_127 G fr P (3 : Int32) w105)) (wv_pr P))) ∧ (¬ x8 = (113762 : Int32) → (x8 = (3045982 : Int32) → wv_cV G fr yJ8_equals x1 [va_rf (some (G.2.2.2.2 401))] w8 (wv_rI (fun x77 w77 => (x77 = 0 → vc_X7_places_127 G fr P (-1 : Int32) w77) ∧ (¬ x77 = 0 → vc_X7_places_127 G fr P (1 : Int32) w77)) (wv_pr P))) ∧ (¬ x8 = (3045982 : Int32) → (x8 = (3343854 : Int32) → wv_cV G fr yJ8_equals x1 [va_rf (some (G.2.2.2.2 402))] w8 (wv_rI (fun x63 w63 => (x63 = 0 → vc_X7_places_127 G fr P (-1 : Int32) w63) ∧ (¬ x63 = 0 → vc_X7_places_127 G fr P (0 : Int32) w63)) (wv_pr P))) ∧ (¬ x8 = (3343854 : Int32) → vc_X7_places_127 G fr P (-1 : Int32) w8)))))) (wv_pr P))) (wv_pr P))
set_option maxHeartbeats 4000000 in
theorem wk_X7_places_127 {G : wv_G} {p : Program} {e : Env} {R : Room} {s : State} {m : MethodId} {args : Array Value} {below : List Frame} {meth : Method} {c : Code} {fr : Nat} {P : wv_R → wv_H → Prop} (X : wv_ok G p R s m args meth c fr "Weaversgate$Step" cX7_places 3 (Option.some Jvm.ClassFile.FieldType.int) "places" []) {v2 : Int32} {w : wv_W} (hv : vc_X7_places_127 G fr P v2 w) : wv_J G p e R s m args below meth c 3 P w 127 [(2, .int v2)] [] := by
  intro H locs cells slots ls S hl
  unfold vc_X7_places_127 at hv
  refine lv_iload_n X.hx X.hb dX7_places_127 rfl (lv_at hl 0 rfl) ?_
  by_cases h128_0 : v2 = (0 : Int32)
  · have hv := hv.1 h128_0
    refine lv_tableIn (tgt := 164) (off := 36) X.hx X.hb dX7_places_128 (by rw [h128_0]; decide) (by rw [h128_0]; decide) (by rw [h128_0]; decide) (by decide) ?_
    refine lv_iconst (v := (2 : Int32)) X.hx X.hb dX7_places_164 (by decide) ?_
    refine lv_goto (tgt := 173) X.hx X.hb dX7_places_165 (by decide) ?_
    exact wr_iret X S rfl hv dX7_places_173
  · have hv := hv.2 h128_0
    by_cases h128_1 : v2 = (1 : Int32)
    · have hv := hv.1 h128_1
      refine lv_tableIn (tgt := 168) (off := 40) X.hx X.hb dX7_places_128 (by rw [h128_1]; decide) (by rw [h128_1]; decide) (by rw [h128_1]; decide) (by decide) ?_
      refine lv_iconst (v := (1 : Int32)) X.hx X.hb dX7_places_168 (by decide) ?_
      refine lv_goto (tgt := 173) X.hx X.hb dX7_places_169 (by decide) ?_
      exact wr_iret X S rfl hv dX7_places_173
    · have hv := hv.2 h128_1
      by_cases h128_2 : v2 = (2 : Int32)
      · have hv := hv.1 h128_2
        refine lv_tableIn (tgt := 168) (off := 40) X.hx X.hb dX7_places_128 (by rw [h128_2]; decide) (by rw [h128_2]; decide) (by rw [h128_2]; decide) (by decide) ?_
        refine lv_iconst (v := (1 : Int32)) X.hx X.hb dX7_places_168 (by decide) ?_
        refine lv_goto (tgt := 173) X.hx X.hb dX7_places_169 (by decide) ?_
        exact wr_iret X S rfl hv dX7_places_173
      · have hv := hv.2 h128_2
        by_cases h128_3 : v2 = (3 : Int32)
        · have hv := hv.1 h128_3
          refine lv_tableIn (tgt := 168) (off := 40) X.hx X.hb dX7_places_128 (by rw [h128_3]; decide) (by rw [h128_3]; decide) (by rw [h128_3]; decide) (by decide) ?_
          refine lv_iconst (v := (1 : Int32)) X.hx X.hb dX7_places_168 (by decide) ?_
          refine lv_goto (tgt := 173) X.hx X.hb dX7_places_169 (by decide) ?_
          exact wr_iret X S rfl hv dX7_places_173
        · have hv := hv.2 h128_3
          by_cases h128_4 : v2 = (4 : Int32)
          · have hv := hv.1 h128_4
            refine lv_tableIn (tgt := 168) (off := 40) X.hx X.hb dX7_places_128 (by rw [h128_4]; decide) (by rw [h128_4]; decide) (by rw [h128_4]; decide) (by decide) ?_
            refine lv_iconst (v := (1 : Int32)) X.hx X.hb dX7_places_168 (by decide) ?_
            refine lv_goto (tgt := 173) X.hx X.hb dX7_places_169 (by decide) ?_
            exact wr_iret X S rfl hv dX7_places_173
          · have hv := hv.2 h128_4
            refine lv_tableOut (tgt := 172) X.hx X.hb dX7_places_128 (by have n0 := lv_neT h128_0 (a := 0) (by decide); have n1 := lv_neT h128_1 (a := 1) (by decide); have n2 := lv_neT h128_2 (a := 2) (by decide); have n3 := lv_neT h128_3 (a := 3) (by decide); have n4 := lv_neT h128_4 (a := 4) (by decide); omega) (by decide) ?_
            refine lv_iconst (v := (0 : Int32)) X.hx X.hb dX7_places_172 (by decide) ?_
            exact wr_iret X S rfl hv dX7_places_173
set_option maxHeartbeats 4000000 in
theorem wk_X7_places_0 {G : wv_G} {p : Program} {e : Env} {R : Room} {s : State} {m : MethodId} {args : Array Value} {below : List Frame} {meth : Method} {c : Code} {fr : Nat} {P : wv_R → wv_H → Prop} (X : wv_ok G p R s m args meth c fr "Weaversgate$Step" cX7_places 3 (Option.some Jvm.ClassFile.FieldType.int) "places" []) {v0 : Option Nat} {w : wv_W} (hv : vc_X7_places_0 G fr P v0 w) : wv_J G p e R s m args below meth c 3 P w 0 [(0, va_rf v0)] [] := by
  intro H locs cells slots ls S hl
  unfold vc_X7_places_0 at hv
  refine wq_aload_n X dX7_places_0 rfl (lv_at hl 0 rfl) ?_
  refine wq_cV_A X S hv q307 q308 q309 q83 ⟨by decide +kernel, by decide +kernel⟩ (nA := 0) (As := []) (by decide +kernel) rfl rfl (by simp [wv_rfc, wv_kI, wv_kJ, wv_kF, wv_kD]) hl.1 dX7_places_1 (fun x1 w1 H locs cells slots S hv => ?_) (wq_kx X rfl)
  refine wq_astore_n X (i := 1) (lv' := [(1, va_rf x1), (0, va_rf v0)]) dX7_places_4 rfl hl (by decide) (by simp [wv_rfc, wv_kI, wv_kJ, wv_kF, wv_kD]) (fun ls hl => ?_)
  refine lv_iconst (v := (-1 : Int32)) X.hx X.hb dX7_places_5 (by decide) ?_
  refine lv_istore_n X.hx X.hb (i := 2) (lv' := [(2, .int (-1 : Int32)), (1, va_rf x1), (0, va_rf v0)]) dX7_places_6 rfl hl (by decide) (by simp [wv_rfc, wv_kI, wv_kJ, wv_kF, wv_kD]) (fun ls hl => ?_)
  refine wq_aload_n X dX7_places_7 rfl (lv_at hl 1 rfl) ?_
  refine wq_cV_I X S hv q318 q319 q320 q73 ⟨by decide +kernel, by decide +kernel⟩ (nA := 0) (As := []) (by decide +kernel) rfl rfl (by simp [wv_rfc, wv_kI, wv_kJ, wv_kF, wv_kD]) hl.1 dX7_places_8 (fun x8 w8 H locs cells slots S hv => ?_) (wq_kx X rfl)
  by_cases h11_0 : x8 = (-1224577496 : Int32)
  · have hv := hv.1 h11_0
    refine lv_lookup (tgt := 116) (off := 105) X.hx X.hb dX7_places_11 (by decide) (by rw [h11_0] <;> rfl) (by decide) ?_
    refine wq_aload_n X dX7_places_116 rfl (lv_at hl 1 rfl) ?_
    refine wq_ldcS X S (k := 6) rfl q317 dX7_places_117 ?_
    refine wq_cV_I X S hv q692 q693 q694 q73 ⟨by decide +kernel, by decide +kernel⟩ (nA := 1) (As := [va_rf (some (G.2.2.2.2 406))]) (by decide +kernel) rfl rfl (by simp [wv_rfc, wv_kI, wv_kJ, wv_kF, wv_kD]) hl.1 dX7_places_119 (fun x119 w119 H locs cells slots S hv => ?_) (wq_kx X rfl)
    refine lv_if_eq (tgt := 127) X.hx X.hb dX7_places_122 (by decide) (fun c122 => ?_) (fun c122 => ?_)
    · have hv := hv.1 c122
      exact wk_X7_places_127 X  hv H locs cells slots ls S (lv_sub hl [0] rfl)
    · have hv := hv.2 c122
      refine lv_iconst (v := (4 : Int32)) X.hx X.hb dX7_places_125 (by decide) ?_
      refine lv_istore_n X.hx X.hb (i := 2) (lv' := [(2, .int (4 : Int32)), (1, va_rf x1), (0, va_rf v0)]) dX7_places_126 rfl hl (by decide) (by simp [wv_rfc, wv_kI, wv_kJ, wv_kF, wv_kD]) (fun ls hl => ?_)
      exact wk_X7_places_127 X  hv H locs cells slots ls S (lv_sub hl [0] rfl)
  · have hv := hv.2 h11_0
    by_cases h11_1 : x8 = (102230 : Int32)
    · have hv := hv.1 h11_1
      refine lv_lookup (tgt := 88) (off := 77) X.hx X.hb dX7_places_11 (by decide) (by rw [h11_1] <;> rfl) (by decide) ?_
      refine wq_aload_n X dX7_places_88 rfl (lv_at hl 1 rfl) ?_
      refine wq_ldcS X S (k := 3) rfl q314 dX7_places_89 ?_
      refine wq_cV_I X S hv q692 q693 q694 q73 ⟨by decide +kernel, by decide +kernel⟩ (nA := 1) (As := [va_rf (some (G.2.2.2.2 403))]) (by decide +kernel) rfl rfl (by simp [wv_rfc, wv_kI, wv_kJ, wv_kF, wv_kD]) hl.1 dX7_places_91 (fun x91 w91 H locs cells slots S hv => ?_) (wq_kx X rfl)
      refine lv_if_eq (tgt := 127) X.hx X.hb dX7_places_94 (by decide) (fun c94 => ?_) (fun c94 => ?_)
      · have hv := hv.1 c94
        exact wk_X7_places_127 X  hv H locs cells slots ls S (lv_sub hl [0] rfl)
      · have hv := hv.2 c94
        refine lv_iconst (v := (2 : Int32)) X.hx X.hb dX7_places_97 (by decide) ?_
        refine lv_istore_n X.hx X.hb (i := 2) (lv' := [(2, .int (2 : Int32)), (1, va_rf x1), (0, va_rf v0)]) dX7_places_98 rfl hl (by decide) (by simp [wv_rfc, wv_kI, wv_kJ, wv_kF, wv_kD]) (fun ls hl => ?_)
        refine lv_goto (tgt := 127) X.hx X.hb dX7_places_99 (by decide) ?_
        exact wk_X7_places_127 X  hv H locs cells slots ls S (lv_sub hl [0] rfl)
    · have hv := hv.2 h11_1
      by_cases h11_2 : x8 = (113762 : Int32)
      · have hv := hv.1 h11_2
        refine lv_lookup (tgt := 102) (off := 91) X.hx X.hb dX7_places_11 (by decide) (by rw [h11_2] <;> rfl) (by decide) ?_
        refine wq_aload_n X dX7_places_102 rfl (lv_at hl 1 rfl) ?_
        refine wq_ldcS X S (k := 4) rfl q315 dX7_places_103 ?_
        refine wq_cV_I X S hv q692 q693 q694 q73 ⟨by decide +kernel, by decide +kernel⟩ (nA := 1) (As := [va_rf (some (G.2.2.2.2 404))]) (by decide +kernel) rfl rfl (by simp [wv_rfc, wv_kI, wv_kJ, wv_kF, wv_kD]) hl.1 dX7_places_105 (fun x105 w105 H locs cells slots S hv => ?_) (wq_kx X rfl)
        refine lv_if_eq (tgt := 127) X.hx X.hb dX7_places_108 (by decide) (fun c108 => ?_) (fun c108 => ?_)
        · have hv := hv.1 c108
          exact wk_X7_places_127 X  hv H locs cells slots ls S (lv_sub hl [0] rfl)
        · have hv := hv.2 c108
          refine lv_iconst (v := (3 : Int32)) X.hx X.hb dX7_places_111 (by decide) ?_
          refine lv_istore_n X.hx X.hb (i := 2) (lv' := [(2, .int (3 : Int32)), (1, va_rf x1), (0, va_rf v0)]) dX7_places_112 rfl hl (by decide) (by simp [wv_rfc, wv_kI, wv_kJ, wv_kF, wv_kD]) (fun ls hl => ?_)
          refine lv_goto (tgt := 127) X.hx X.hb dX7_places_113 (by decide) ?_
          exact wk_X7_places_127 X  hv H locs cells slots ls S (lv_sub hl [0] rfl)
      · have hv := hv.2 h11_2
        by_cases h11_3 : x8 = (3045982 : Int32)
        · have hv := hv.1 h11_3
          refine lv_lookup (tgt := 74) (off := 63) X.hx X.hb dX7_places_11 (by decide) (by rw [h11_3] <;> rfl) (by decide) ?_
          refine wq_aload_n X dX7_places_74 rfl (lv_at hl 1 rfl) ?_
          refine wq_ldcS X S (k := 1) rfl q312 dX7_places_75 ?_
          refine wq_cV_I X S hv q692 q693 q694 q73 ⟨by decide +kernel, by decide +kernel⟩ (nA := 1) (As := [va_rf (some (G.2.2.2.2 401))]) (by decide +kernel) rfl rfl (by simp [wv_rfc, wv_kI, wv_kJ, wv_kF, wv_kD]) hl.1 dX7_places_77 (fun x77 w77 H locs cells slots S hv => ?_) (wq_kx X rfl)
          refine lv_if_eq (tgt := 127) X.hx X.hb dX7_places_80 (by decide) (fun c80 => ?_) (fun c80 => ?_)
          · have hv := hv.1 c80
            exact wk_X7_places_127 X  hv H locs cells slots ls S (lv_sub hl [0] rfl)
          · have hv := hv.2 c80
            refine lv_iconst (v := (1 : Int32)) X.hx X.hb dX7_places_83 (by decide) ?_
            refine lv_istore_n X.hx X.hb (i := 2) (lv' := [(2, .int (1 : Int32)), (1, va_rf x1), (0, va_rf v0)]) dX7_places_84 rfl hl (by decide) (by simp [wv_rfc, wv_kI, wv_kJ, wv_kF, wv_kD]) (fun ls hl => ?_)
            refine lv_goto (tgt := 127) X.hx X.hb dX7_places_85 (by decide) ?_
            exact wk_X7_places_127 X  hv H locs cells slots ls S (lv_sub hl [0] rfl)
        · have hv := hv.2 h11_3
          by_cases h11_4 : x8 = (3343854 : Int32)
          · have hv := hv.1 h11_4
            refine lv_lookup (tgt := 60) (off := 49) X.hx X.hb dX7_places_11 (by decide) (by rw [h11_4] <;> rfl) (by decide) ?_
            refine wq_aload_n X dX7_places_60 rfl (lv_at hl 1 rfl) ?_
            refine wq_ldcS X S (k := 2) rfl q313 dX7_places_61 ?_
            refine wq_cV_I X S hv q692 q693 q694 q73 ⟨by decide +kernel, by decide +kernel⟩ (nA := 1) (As := [va_rf (some (G.2.2.2.2 402))]) (by decide +kernel) rfl rfl (by simp [wv_rfc, wv_kI, wv_kJ, wv_kF, wv_kD]) hl.1 dX7_places_63 (fun x63 w63 H locs cells slots S hv => ?_) (wq_kx X rfl)
            refine lv_if_eq (tgt := 127) X.hx X.hb dX7_places_66 (by decide) (fun c66 => ?_) (fun c66 => ?_)
            · have hv := hv.1 c66
              exact wk_X7_places_127 X  hv H locs cells slots ls S (lv_sub hl [0] rfl)
            · have hv := hv.2 c66
              refine lv_iconst (v := (0 : Int32)) X.hx X.hb dX7_places_69 (by decide) ?_
              refine lv_istore_n X.hx X.hb (i := 2) (lv' := [(2, .int (0 : Int32)), (1, va_rf x1), (0, va_rf v0)]) dX7_places_70 rfl hl (by decide) (by simp [wv_rfc, wv_kI, wv_kJ, wv_kF, wv_kD]) (fun ls hl => ?_)
              refine lv_goto (tgt := 127) X.hx X.hb dX7_places_71 (by decide) ?_
              exact wk_X7_places_127 X  hv H locs cells slots ls S (lv_sub hl [0] rfl)
          · have hv := hv.2 h11_4
            refine lv_lookup (tgt := 127) (off := 116) X.hx X.hb dX7_places_11 (by decide) (by rw [lv_osw h11_0 (by decide), lv_osw h11_1 (by decide), lv_osw h11_2 (by decide), lv_osw h11_3 (by decide), lv_osw h11_4 (by decide)] <;> rfl) (by decide) ?_
            exact wk_X7_places_127 X  hv H locs cells slots ls S (lv_sub hl [0] rfl)
theorem wk_X7_places {G : wv_G} (hG : wv_G0 G) {v0 : Option Nat} {h : wv_H} {fr kc ks : Nat} {P : wv_R → wv_H → Prop} (hv : vc_X7_places_0 G fr P v0 (h, kc, ks)) : wv_C G yX7_places [va_rf v0] h fr kc ks P := by
  refine wv_enter (lv := [(0, va_rf v0)]) hG (by decide +kernel) q306 (by decide) (by simp [lg_sl, wv_rfc, wv_kI, wv_kJ, wv_kF, wv_kD]) (by simp [lv_args, wv_rfc, wv_kI, wv_kJ, wv_kF, wv_kD]) ?_
  intro p e R s m args below meth c X H locs cells slots ls S hl
  exact wk_X7_places_0 X hv H locs cells slots ls S (lv_sub hl [0] rfl)

def vc_X7_word_122 (G : wv_G) (fr : Nat) (P : wv_R → wv_H → Prop) (w : wv_W) : Prop :=
  P (.inl (some (va_rf (some (G.2.2.2.2 406))))) w.1
def vc_X7_word_0 (G : wv_G) (fr : Nat) (P : wv_R → wv_H → Prop) (v0 : Option Nat) (w : wv_W) : Prop :=
  wv_gI w v0 ciX7 0 (fun x1 => (x1 = (99 : Int32) → P (.inl (some (va_rf (some (G.2.2.2.2 401))))) w.1) ∧ (¬ x1 = (99 : Int32) → (x1 = (100 : Int32) → vc_X7_word_122 G fr P w) ∧ (¬ x1 = (100 : Int32) → (x1 = (101 : Int32) → vc_X7_word_122 G fr P w) ∧ (¬ x1 = (101 : Int32) → (x1 = (102 : Int32) → vc_X7_word_122 G fr P w) ∧ (¬ x1 = (102 : Int32) → (x1 = (103 : Int32) → P (.inl (some (va_rf (some (G.2.2.2.2 403))))) w.1) ∧ (¬ x1 = (103 : Int32) → (x1 = (104 : Int32) → vc_X7_word_122 G fr P w) ∧ (¬ x1 = (104 : Int32) → (x1 = (105 : Int32) → vc_X7_word_122 G fr P w) ∧ (¬ x1 = (105 : Int32) → (x1 = (106 : Int32) → vc_X7_word_122 G fr P w) ∧ (¬ x1 = (106 : Int32) → (x1 = (107 : Int32) → vc_X7_word_122 G fr P w) ∧ (¬ x1 = (107 : Int32) → (x1 = (108 : Int32) → vc_X7_word_122 G fr P w) ∧ (¬ x1 = (108 : Int32) → (x1 = (109 : Int32) → P (.inl (some (va_rf (some (G.2.2.2.2 402))))) w.1) ∧ (¬ x1 = (109 : Int32) → (x1 = (110 : Int32) → P (.inl (some (va_rf (some (G.2.2.2.2 400))))) w.1) ∧ (¬ x1 = (110 : Int32) → (x1 = (111 : Int32) → vc_X7_word_122 G fr P w) ∧ (¬ x1 = (111 : Int32) → (x1 = (112 : Int32) → vc_X7_word_122 G fr P w) ∧ (¬ x1 = (112 : Int32) → (x1 = (113 : Int32) → vc_X7_word_122 G fr P w) ∧ (¬ x1 = (113 : Int32) → (x1 = (114 : Int32) → vc_X7_word_122 G fr P w) ∧ (¬ x1 = (114 : Int32) → (x1 = (115 : Int32) → P (.inl (some (va_rf (some (G.2.2.2.2 404))))) w.1) ∧ (¬ x1 = (115 : Int32) → (x1 = (116 : Int32) → P (.inl (some (va_rf (some (G.2.2.2.2 405))))) w.1) ∧ (¬ x1 = (116 : Int32) → vc_X7_word_122 G fr P w)))))))))))))))))))
set_option maxHeartbeats 4000000 in
theorem wk_X7_word_122 {G : wv_G} {p : Program} {e : Env} {R : Room} {s : State} {m : MethodId} {args : Array Value} {below : List Frame} {meth : Method} {c : Code} {fr : Nat} {P : wv_R → wv_H → Prop} (X : wv_ok G p R s m args meth c fr "Weaversgate$Step" cX7_word 1 (Option.some (Jvm.ClassFile.FieldType.object "java/lang/String")) "word" []) {w : wv_W} (hv : vc_X7_word_122 G fr P w) : wv_J G p e R s m args below meth c 1 P w 122 [] [] := by
  intro H locs cells slots ls S hl
  unfold vc_X7_word_122 at hv
  refine wq_ldcS X S (k := 6) rfl q317 dX7_word_122 ?_
  exact wr_aret X S (Or.inl ⟨_, rfl⟩) hv dX7_word_124
set_option maxHeartbeats 4000000 in
theorem wk_X7_word_0 {G : wv_G} {p : Program} {e : Env} {R : Room} {s : State} {m : MethodId} {args : Array Value} {below : List Frame} {meth : Method} {c : Code} {fr : Nat} {P : wv_R → wv_H → Prop} (X : wv_ok G p R s m args meth c fr "Weaversgate$Step" cX7_word 1 (Option.some (Jvm.ClassFile.FieldType.object "java/lang/String")) "word" []) {v0 : Option Nat} {w : wv_W} (hv : vc_X7_word_0 G fr P v0 w) : wv_J G p e R s m args below meth c 1 P w 0 [(0, va_rf v0)] [] := by
  intro H locs cells slots ls S hl
  unfold vc_X7_word_0 at hv
  refine wq_aload_n X dX7_word_0 rfl (lv_at hl 0 rfl) ?_
  refine wq_gI X S hv ccX7 in_X7 (k := 0) (by decide) q1343 dX7_word_1 (fun x1 hv => ?_)
  by_cases h4_0 : x1 = (99 : Int32)
  · have hv := hv.1 h4_0
    refine lv_tableIn (tgt := 97) (off := 93) X.hx X.hb dX7_word_4 (by rw [h4_0]; decide) (by rw [h4_0]; decide) (by rw [h4_0]; decide) (by decide) ?_
    refine wq_ldcS X S (k := 1) rfl q312 dX7_word_97 ?_
    refine lv_goto (tgt := 124) X.hx X.hb dX7_word_99 (by decide) ?_
    exact wr_aret X S (Or.inl ⟨_, rfl⟩) hv dX7_word_124
  · have hv := hv.2 h4_0
    by_cases h4_1 : x1 = (100 : Int32)
    · have hv := hv.1 h4_1
      refine lv_tableIn (tgt := 122) (off := 118) X.hx X.hb dX7_word_4 (by rw [h4_1]; decide) (by rw [h4_1]; decide) (by rw [h4_1]; decide) (by decide) ?_
      exact wk_X7_word_122 X  hv H locs cells slots ls S (lv_sub hl [] rfl)
    · have hv := hv.2 h4_1
      by_cases h4_2 : x1 = (101 : Int32)
      · have hv := hv.1 h4_2
        refine lv_tableIn (tgt := 122) (off := 118) X.hx X.hb dX7_word_4 (by rw [h4_2]; decide) (by rw [h4_2]; decide) (by rw [h4_2]; decide) (by decide) ?_
        exact wk_X7_word_122 X  hv H locs cells slots ls S (lv_sub hl [] rfl)
      · have hv := hv.2 h4_2
        by_cases h4_3 : x1 = (102 : Int32)
        · have hv := hv.1 h4_3
          refine lv_tableIn (tgt := 122) (off := 118) X.hx X.hb dX7_word_4 (by rw [h4_3]; decide) (by rw [h4_3]; decide) (by rw [h4_3]; decide) (by decide) ?_
          exact wk_X7_word_122 X  hv H locs cells slots ls S (lv_sub hl [] rfl)
        · have hv := hv.2 h4_3
          by_cases h4_4 : x1 = (103 : Int32)
          · have hv := hv.1 h4_4
            refine lv_tableIn (tgt := 107) (off := 103) X.hx X.hb dX7_word_4 (by rw [h4_4]; decide) (by rw [h4_4]; decide) (by rw [h4_4]; decide) (by decide) ?_
            refine wq_ldcS X S (k := 3) rfl q314 dX7_word_107 ?_
            refine lv_goto (tgt := 124) X.hx X.hb dX7_word_109 (by decide) ?_
            exact wr_aret X S (Or.inl ⟨_, rfl⟩) hv dX7_word_124
          · have hv := hv.2 h4_4
            by_cases h4_5 : x1 = (104 : Int32)
            · have hv := hv.1 h4_5
              refine lv_tableIn (tgt := 122) (off := 118) X.hx X.hb dX7_word_4 (by rw [h4_5]; decide) (by rw [h4_5]; decide) (by rw [h4_5]; decide) (by decide) ?_
              exact wk_X7_word_122 X  hv H locs cells slots ls S (lv_sub hl [] rfl)
            · have hv := hv.2 h4_5
              by_cases h4_6 : x1 = (105 : Int32)
              · have hv := hv.1 h4_6
                refine lv_tableIn (tgt := 122) (off := 118) X.hx X.hb dX7_word_4 (by rw [h4_6]; decide) (by rw [h4_6]; decide) (by rw [h4_6]; decide) (by decide) ?_
                exact wk_X7_word_122 X  hv H locs cells slots ls S (lv_sub hl [] rfl)
              · have hv := hv.2 h4_6
                by_cases h4_7 : x1 = (106 : Int32)
                · have hv := hv.1 h4_7
                  refine lv_tableIn (tgt := 122) (off := 118) X.hx X.hb dX7_word_4 (by rw [h4_7]; decide) (by rw [h4_7]; decide) (by rw [h4_7]; decide) (by decide) ?_
                  exact wk_X7_word_122 X  hv H locs cells slots ls S (lv_sub hl [] rfl)
                · have hv := hv.2 h4_7
                  by_cases h4_8 : x1 = (107 : Int32)
                  · have hv := hv.1 h4_8
                    refine lv_tableIn (tgt := 122) (off := 118) X.hx X.hb dX7_word_4 (by rw [h4_8]; decide) (by rw [h4_8]; decide) (by rw [h4_8]; decide) (by decide) ?_
                    exact wk_X7_word_122 X  hv H locs cells slots ls S (lv_sub hl [] rfl)
                  · have hv := hv.2 h4_8
                    by_cases h4_9 : x1 = (108 : Int32)
                    · have hv := hv.1 h4_9
                      refine lv_tableIn (tgt := 122) (off := 118) X.hx X.hb dX7_word_4 (by rw [h4_9]; decide) (by rw [h4_9]; decide) (by rw [h4_9]; decide) (by decide) ?_
                      exact wk_X7_word_122 X  hv H locs cells slots ls S (lv_sub hl [] rfl)
                    · have hv := hv.2 h4_9
                      by_cases h4_10 : x1 = (109 : Int32)
                      · have hv := hv.1 h4_10
                        refine lv_tableIn (tgt := 102) (off := 98) X.hx X.hb dX7_word_4 (by rw [h4_10]; decide) (by rw [h4_10]; decide) (by rw [h4_10]; decide) (by decide) ?_
                        refine wq_ldcS X S (k := 2) rfl q313 dX7_word_102 ?_
                        refine lv_goto (tgt := 124) X.hx X.hb dX7_word_104 (by decide) ?_
                        exact wr_aret X S (Or.inl ⟨_, rfl⟩) hv dX7_word_124
                      · have hv := hv.2 h4_10
                        by_cases h4_11 : x1 = (110 : Int32)
                        · have hv := hv.1 h4_11
                          refine lv_tableIn (tgt := 92) (off := 88) X.hx X.hb dX7_word_4 (by rw [h4_11]; decide) (by rw [h4_11]; decide) (by rw [h4_11]; decide) (by decide) ?_
                          refine wq_ldcS X S (k := 0) rfl q311 dX7_word_92 ?_
                          refine lv_goto (tgt := 124) X.hx X.hb dX7_word_94 (by decide) ?_
                          exact wr_aret X S (Or.inl ⟨_, rfl⟩) hv dX7_word_124
                        · have hv := hv.2 h4_11
                          by_cases h4_12 : x1 = (111 : Int32)
                          · have hv := hv.1 h4_12
                            refine lv_tableIn (tgt := 122) (off := 118) X.hx X.hb dX7_word_4 (by rw [h4_12]; decide) (by rw [h4_12]; decide) (by rw [h4_12]; decide) (by decide) ?_
                            exact wk_X7_word_122 X  hv H locs cells slots ls S (lv_sub hl [] rfl)
                          · have hv := hv.2 h4_12
                            by_cases h4_13 : x1 = (112 : Int32)
                            · have hv := hv.1 h4_13
                              refine lv_tableIn (tgt := 122) (off := 118) X.hx X.hb dX7_word_4 (by rw [h4_13]; decide) (by rw [h4_13]; decide) (by rw [h4_13]; decide) (by decide) ?_
                              exact wk_X7_word_122 X  hv H locs cells slots ls S (lv_sub hl [] rfl)
                            · have hv := hv.2 h4_13
                              by_cases h4_14 : x1 = (113 : Int32)
                              · have hv := hv.1 h4_14
                                refine lv_tableIn (tgt := 122) (off := 118) X.hx X.hb dX7_word_4 (by rw [h4_14]; decide) (by rw [h4_14]; decide) (by rw [h4_14]; decide) (by decide) ?_
                                exact wk_X7_word_122 X  hv H locs cells slots ls S (lv_sub hl [] rfl)
                              · have hv := hv.2 h4_14
                                by_cases h4_15 : x1 = (114 : Int32)
                                · have hv := hv.1 h4_15
                                  refine lv_tableIn (tgt := 122) (off := 118) X.hx X.hb dX7_word_4 (by rw [h4_15]; decide) (by rw [h4_15]; decide) (by rw [h4_15]; decide) (by decide) ?_
                                  exact wk_X7_word_122 X  hv H locs cells slots ls S (lv_sub hl [] rfl)
                                · have hv := hv.2 h4_15
                                  by_cases h4_16 : x1 = (115 : Int32)
                                  · have hv := hv.1 h4_16
                                    refine lv_tableIn (tgt := 112) (off := 108) X.hx X.hb dX7_word_4 (by rw [h4_16]; decide) (by rw [h4_16]; decide) (by rw [h4_16]; decide) (by decide) ?_
                                    refine wq_ldcS X S (k := 4) rfl q315 dX7_word_112 ?_
                                    refine lv_goto (tgt := 124) X.hx X.hb dX7_word_114 (by decide) ?_
                                    exact wr_aret X S (Or.inl ⟨_, rfl⟩) hv dX7_word_124
                                  · have hv := hv.2 h4_16
                                    by_cases h4_17 : x1 = (116 : Int32)
                                    · have hv := hv.1 h4_17
                                      refine lv_tableIn (tgt := 117) (off := 113) X.hx X.hb dX7_word_4 (by rw [h4_17]; decide) (by rw [h4_17]; decide) (by rw [h4_17]; decide) (by decide) ?_
                                      refine wq_ldcS X S (k := 5) rfl q316 dX7_word_117 ?_
                                      refine lv_goto (tgt := 124) X.hx X.hb dX7_word_119 (by decide) ?_
                                      exact wr_aret X S (Or.inl ⟨_, rfl⟩) hv dX7_word_124
                                    · have hv := hv.2 h4_17
                                      refine lv_tableOut (tgt := 122) X.hx X.hb dX7_word_4 (by have n0 := lv_neT h4_0 (a := 99) (by decide); have n1 := lv_neT h4_1 (a := 100) (by decide); have n2 := lv_neT h4_2 (a := 101) (by decide); have n3 := lv_neT h4_3 (a := 102) (by decide); have n4 := lv_neT h4_4 (a := 103) (by decide); have n5 := lv_neT h4_5 (a := 104) (by decide); have n6 := lv_neT h4_6 (a := 105) (by decide); have n7 := lv_neT h4_7 (a := 106) (by decide); have n8 := lv_neT h4_8 (a := 107) (by decide); have n9 := lv_neT h4_9 (a := 108) (by decide); have n10 := lv_neT h4_10 (a := 109) (by decide); have n11 := lv_neT h4_11 (a := 110) (by decide); have n12 := lv_neT h4_12 (a := 111) (by decide); have n13 := lv_neT h4_13 (a := 112) (by decide); have n14 := lv_neT h4_14 (a := 113) (by decide); have n15 := lv_neT h4_15 (a := 114) (by decide); have n16 := lv_neT h4_16 (a := 115) (by decide); have n17 := lv_neT h4_17 (a := 116) (by decide); omega) (by decide) ?_
                                      exact wk_X7_word_122 X  hv H locs cells slots ls S (lv_sub hl [] rfl)
theorem wk_X7_word {G : wv_G} (hG : wv_G0 G) {v0 : Option Nat} {h : wv_H} {fr kc ks : Nat} {P : wv_R → wv_H → Prop} (hv : vc_X7_word_0 G fr P v0 (h, kc, ks)) : wv_C G yX7_word [va_rf v0] h fr kc ks P := by
  refine wv_enter (lv := [(0, va_rf v0)]) hG (by decide +kernel) q310 (by decide) (by simp [lg_sl, wv_rfc, wv_kI, wv_kJ, wv_kF, wv_kD]) (by simp [lv_args, wv_rfc, wv_kI, wv_kJ, wv_kF, wv_kD]) ?_
  intro p e R s m args below meth c X H locs cells slots ls S hl
  exact wk_X7_word_0 X hv H locs cells slots ls S (lv_sub hl [0] rfl)

def vc_X9_at_44 (G : wv_G) (fr : Nat) (P : wv_R → wv_H → Prop) (s0 : Int32) (w : wv_W) : Prop :=
  wv_c0 G fr yX14_sure [.int s0] w (wv_rI (fun x44 w44 => narrow .char (.int x44) = .int x44 ∧ P (.inl (some (.int x44))) w44.1) (wv_pr P))
def vc_X9_at_0 (G : wv_G) (fr : Nat) (P : wv_R → wv_H → Prop) (v0 : Option Nat) (v1 : Option Nat) (w : wv_W) : Prop :=
  wv_gI w v1 ciX21 0 (fun x1 => (¬ x1 = (104 : Int32) → wv_gI w v1 ciX21 1 (fun x29 => wv_gI w v0 ciX9 0 (fun x33 => (¬ x29 = x33 → vc_X9_at_44 G fr P (0 : Int32) w) ∧ (x29 = x33 → vc_X9_at_44 G fr P (1 : Int32) w)))) ∧ (x1 = (104 : Int32) → wv_gI w v0 ciX9 0 (fun x10 => wv_gI w v1 ciX21 1 (fun x14 => (x14 < x10 → narrow .char (.int (110 : Int32)) = .int (110 : Int32) ∧ P (.inl (some (.int (110 : Int32)))) w.1) ∧ (¬ x14 < x10 → narrow .char (.int (109 : Int32)) = .int (109 : Int32) ∧ P (.inl (some (.int (109 : Int32)))) w.1)))))
set_option maxHeartbeats 4000000 in
theorem wk_X9_at_44 {G : wv_G} {p : Program} {e : Env} {R : Room} {s : State} {m : MethodId} {args : Array Value} {below : List Frame} {meth : Method} {c : Code} {fr : Nat} {P : wv_R → wv_H → Prop} (X : wv_ok G p R s m args meth c fr "Weaversgate$NamePattern" cX9_at 2 (Option.some Jvm.ClassFile.FieldType.char) "at" []) {s0 : Int32} {w : wv_W} (hv : vc_X9_at_44 G fr P s0 w) : wv_J G p e R s m args below meth c 2 P w 44 [] [.int s0] := by
  intro H locs cells slots ls S hl
  unfold vc_X9_at_44 at hv
  refine wq_cS_I X S hv q857 q849 q91 ⟨by decide +kernel, by decide +kernel⟩ (nA := 1) (As := [.int s0]) (by decide +kernel) rfl rfl (by simp [wv_rfc, wv_kI, wv_kJ, wv_kF, wv_kD]) hl.1 dX9_at_44 (fun x44 w44 H locs cells slots S hv => ?_) (wq_kx X rfl)
  exact wr_iret X S hv.1 hv.2 dX9_at_47
set_option maxHeartbeats 4000000 in
theorem wk_X9_at_0 {G : wv_G} {p : Program} {e : Env} {R : Room} {s : State} {m : MethodId} {args : Array Value} {below : List Frame} {meth : Method} {c : Code} {fr : Nat} {P : wv_R → wv_H → Prop} (X : wv_ok G p R s m args meth c fr "Weaversgate$NamePattern" cX9_at 2 (Option.some Jvm.ClassFile.FieldType.char) "at" []) {v0 : Option Nat} {v1 : Option Nat} {w : wv_W} (hv : vc_X9_at_0 G fr P v0 v1 w) : wv_J G p e R s m args below meth c 2 P w 0 [(0, va_rf v0), (1, va_rf v1)] [] := by
  intro H locs cells slots ls S hl
  unfold vc_X9_at_0 at hv
  refine wq_aload_n X dX9_at_0 rfl (lv_at hl 1 rfl) ?_
  refine wq_gIN X S hv ccX21 in_X21 (k := 0) (by decide) q726 dX9_at_1 (fun x1 hv => ?_)
  refine lv_bipush (v := (104 : Int32)) X.hx X.hb dX9_at_4 (by decide) ?_
  refine lv_icmp_ne (tgt := 28) X.hx X.hb dX9_at_6 (by decide) (fun c6 => ?_) (fun c6 => ?_)
  · have hv := hv.1 c6
    refine wq_aload_n X dX9_at_28 rfl (lv_at hl 1 rfl) ?_
    refine wq_gIN X S hv ccX21 in_X21 (k := 1) (by decide) q728 dX9_at_29 (fun x29 hv => ?_)
    refine wq_aload_n X dX9_at_32 rfl (lv_at hl 0 rfl) ?_
    refine wq_gI X S hv ccX9 in_X9 (k := 0) (by decide) q1394 dX9_at_33 (fun x33 hv => ?_)
    refine lv_icmp_ne (tgt := 43) X.hx X.hb dX9_at_36 (by decide) (fun c36 => ?_) (fun c36 => ?_)
    · have hv := hv.1 c36
      refine lv_iconst (v := (0 : Int32)) X.hx X.hb dX9_at_43 (by decide) ?_
      exact wk_X9_at_44 X  hv H locs cells slots ls S (lv_sub hl [] rfl)
    · have hv := hv.2 c36
      refine lv_iconst (v := (1 : Int32)) X.hx X.hb dX9_at_39 (by decide) ?_
      refine lv_goto (tgt := 44) X.hx X.hb dX9_at_40 (by decide) ?_
      exact wk_X9_at_44 X  hv H locs cells slots ls S (lv_sub hl [] rfl)
  · have hv := hv.2 c6
    refine wq_aload_n X dX9_at_9 rfl (lv_at hl 0 rfl) ?_
    refine wq_gI X S hv ccX9 in_X9 (k := 0) (by decide) q1394 dX9_at_10 (fun x10 hv => ?_)
    refine wq_aload_n X dX9_at_13 rfl (lv_at hl 1 rfl) ?_
    refine wq_gIN X S hv ccX21 in_X21 (k := 1) (by decide) q728 dX9_at_14 (fun x14 hv => ?_)
    refine lv_icmp_gt (tgt := 25) X.hx X.hb dX9_at_17 (by decide) (fun c17 => ?_) (fun c17 => ?_)
    · have hv := hv.1 c17
      refine lv_bipush (v := (110 : Int32)) X.hx X.hb dX9_at_25 (by decide) ?_
      exact wr_iret X S hv.1 hv.2 dX9_at_27
    · have hv := hv.2 c17
      refine lv_bipush (v := (109 : Int32)) X.hx X.hb dX9_at_20 (by decide) ?_
      refine lv_goto (tgt := 27) X.hx X.hb dX9_at_22 (by decide) ?_
      exact wr_iret X S hv.1 hv.2 dX9_at_27
theorem wk_X9_at {G : wv_G} (hG : wv_G0 G) {v0 : Option Nat} {v1 : Option Nat} {h : wv_H} {fr kc ks : Nat} {P : wv_R → wv_H → Prop} (hv : vc_X9_at_0 G fr P v0 v1 (h, kc, ks)) : wv_C G yX9_at [va_rf v0, va_rf v1] h fr kc ks P := by
  refine wv_enter (lv := [(0, va_rf v0), (1, va_rf v1)]) hG (by decide +kernel) q856 (by decide) (by simp [lg_sl, wv_rfc, wv_kI, wv_kJ, wv_kF, wv_kD]) (by simp [lv_args, wv_rfc, wv_kI, wv_kJ, wv_kF, wv_kD]) ?_
  intro p e R s m args below meth c X H locs cells slots ls S hl
  exact wk_X9_at_0 X hv H locs cells slots ls S (lv_sub hl [0, 1] rfl)

def vc_X9_holds_0 (G : wv_G) (fr : Nat) (P : wv_R → wv_H → Prop) (v0 : Option Nat) (v1 : Option Nat) (w : wv_W) : Prop :=
  wv_gI w v1 ciX25 1 (fun x1 => wv_gI w v0 ciX9 0 (fun x5 => (¬ x1 = x5 → narrow .boolean (.int (0 : Int32)) = .int (0 : Int32) ∧ P (.inl (some (.int (0 : Int32)))) w.1) ∧ (x1 = x5 → narrow .boolean (.int (1 : Int32)) = .int (1 : Int32) ∧ P (.inl (some (.int (1 : Int32)))) w.1)))
set_option maxHeartbeats 4000000 in
theorem wk_X9_holds_0 {G : wv_G} {p : Program} {e : Env} {R : Room} {s : State} {m : MethodId} {args : Array Value} {below : List Frame} {meth : Method} {c : Code} {fr : Nat} {P : wv_R → wv_H → Prop} (X : wv_ok G p R s m args meth c fr "Weaversgate$NamePattern" cX9_holds 2 (Option.some Jvm.ClassFile.FieldType.boolean) "holds" []) {v0 : Option Nat} {v1 : Option Nat} {w : wv_W} (hv : vc_X9_holds_0 G fr P v0 v1 w) : wv_J G p e R s m args below meth c 2 P w 0 [(0, va_rf v0), (1, va_rf v1)] [] := by
  intro H locs cells slots ls S hl
  unfold vc_X9_holds_0 at hv
  refine wq_aload_n X dX9_holds_0 rfl (lv_at hl 1 rfl) ?_
  refine wq_gIN X S hv ccX25 in_X25 (k := 1) (by decide) q1062 dX9_holds_1 (fun x1 hv => ?_)
  refine wq_aload_n X dX9_holds_4 rfl (lv_at hl 0 rfl) ?_
  refine wq_gI X S hv ccX9 in_X9 (k := 0) (by decide) q1394 dX9_holds_5 (fun x5 hv => ?_)
  refine lv_icmp_ne (tgt := 15) X.hx X.hb dX9_holds_8 (by decide) (fun c8 => ?_) (fun c8 => ?_)
  · have hv := hv.1 c8
    refine lv_iconst (v := (0 : Int32)) X.hx X.hb dX9_holds_15 (by decide) ?_
    exact wr_iret X S hv.1 hv.2 dX9_holds_16
  · have hv := hv.2 c8
    refine lv_iconst (v := (1 : Int32)) X.hx X.hb dX9_holds_11 (by decide) ?_
    refine lv_goto (tgt := 16) X.hx X.hb dX9_holds_12 (by decide) ?_
    exact wr_iret X S hv.1 hv.2 dX9_holds_16
theorem wk_X9_holds {G : wv_G} (hG : wv_G0 G) {v0 : Option Nat} {v1 : Option Nat} {h : wv_H} {fr kc ks : Nat} {P : wv_R → wv_H → Prop} (hv : vc_X9_holds_0 G fr P v0 v1 (h, kc, ks)) : wv_C G yX9_holds [va_rf v0, va_rf v1] h fr kc ks P := by
  refine wv_enter (lv := [(0, va_rf v0), (1, va_rf v1)]) hG (by decide +kernel) q1134 (by decide) (by simp [lg_sl, wv_rfc, wv_kI, wv_kJ, wv_kF, wv_kD]) (by simp [lv_args, wv_rfc, wv_kI, wv_kJ, wv_kF, wv_kD]) ?_
  intro p e R s m args below meth c X H locs cells slots ls S hl
  exact wk_X9_holds_0 X hv H locs cells slots ls S (lv_sub hl [0, 1] rfl)

def vc_X9_init_0 (G : wv_G) (fr : Nat) (P : wv_R → wv_H → Prop) (v0 : Option Nat) (v1 : Int32) (w : wv_W) : Prop :=
  (∃ a, v0 = some a) ∧ 1 ≤ fr ∧ (wv_pt w v0 ciX9 0 (.int v1) (fun w6 => P (.inl none) w6.1))
set_option maxHeartbeats 4000000 in
theorem wk_X9_init_0 {G : wv_G} {p : Program} {e : Env} {R : Room} {s : State} {m : MethodId} {args : Array Value} {below : List Frame} {meth : Method} {c : Code} {fr : Nat} {P : wv_R → wv_H → Prop} (X : wv_ok G p R s m args meth c fr "Weaversgate$NamePattern" cX9_init 2 (Option.none : Option Jvm.ClassFile.FieldType) "<init>" []) {v0 : Option Nat} {v1 : Int32} {w : wv_W} (hv : vc_X9_init_0 G fr P v0 v1 w) : wv_J G p e R s m args below meth c 2 P w 0 [(0, va_rf v0), (1, .int v1)] [] := by
  intro H locs cells slots ls S hl
  unfold vc_X9_init_0 at hv
  refine wq_aload_n X dX9_init_0 rfl (lv_at hl 0 rfl) ?_
  obtain ⟨⟨_, hr⟩, h1, hv⟩ := hv
  refine wq_objInit X hr q1393 q125 q126 h1 (by simp [wv_rfc, wv_kI, wv_kJ, wv_kF, wv_kD]) hl.1 dX9_init_1 ?_
  refine wq_aload_n X dX9_init_4 rfl (lv_at hl 0 rfl) ?_
  refine lv_iload_n X.hx X.hb dX9_init_5 rfl (lv_at hl 1 rfl) ?_
  refine wq_ptF X S hv tyX9 tyX9_ok nmX9 ccX9 in_X9 (k := 0) (by decide) q1394 rfl rfl rfl rfl rfl dX9_init_6 (fun w6 H locs S hv => ?_)
  exact wr_vret X S hv dX9_init_9
theorem wk_X9_init {G : wv_G} (hG : wv_G0 G) {v0 : Option Nat} {v1 : Int32} {h : wv_H} {fr kc ks : Nat} {P : wv_R → wv_H → Prop} (hv : vc_X9_init_0 G fr P v0 v1 (h, kc, ks)) : wv_C G yX9_init [va_rf v0, .int v1] h fr kc ks P := by
  refine wv_enter (lv := [(0, va_rf v0), (1, .int v1)]) hG (by decide +kernel) q1392 (by decide) (by simp [lg_sl, wv_rfc, wv_kI, wv_kJ, wv_kF, wv_kD]) (by simp [lv_args, wv_rfc, wv_kI, wv_kJ, wv_kF, wv_kD]) ?_
  intro p e R s m args below meth c X H locs cells slots ls S hl
  exact wk_X9_init_0 X hv H locs cells slots ls S (lv_sub hl [0, 1] rfl)

def vc_X10_at_72 (G : wv_G) (fr : Nat) (P : wv_R → wv_H → Prop) (v1 : Option Nat) (v2 : Int32) (s0 : Int32) (w : wv_W) : Prop :=
  (s0 = 0 → wv_gI w v1 ciX21 3 (fun x83 => (¬ (x83 &&& (v2 ^^^ (-1 : Int32))) = 0 → narrow .char (.int (109 : Int32)) = .int (109 : Int32) ∧ P (.inl (some (.int (109 : Int32)))) w.1) ∧ ((x83 &&& (v2 ^^^ (-1 : Int32))) = 0 → narrow .char (.int (121 : Int32)) = .int (121 : Int32) ∧ P (.inl (some (.int (121 : Int32)))) w.1))) ∧ (¬ s0 = 0 → narrow .char (.int (110 : Int32)) = .int (110 : Int32) ∧ P (.inl (some (.int (110 : Int32)))) w.1)
def vc_X10_at_50 (G : wv_G) (fr : Nat) (P : wv_R → wv_H → Prop) (K4 : ((Option Nat) × (Option Nat) × Int32 × Int32) → wv_W → Prop) (v0 : Option Nat) (v1 : Option Nat) (v3 : Int32) (s0 : Int32) (s1 : Int32) (w : wv_W) : Prop :=
  K4 (v0, v1, (s1 ||| s0), (v3 + (1 : Int32))) w
def vc_X10_at_4 (G : wv_G) (fr : Nat) (P : wv_R → wv_H → Prop) (K4 : ((Option Nat) × (Option Nat) × Int32 × Int32) → wv_W → Prop) (v0 : Option Nat) (v1 : Option Nat) (v2 : Int32) (v3 : Int32) (w : wv_W) : Prop :=
  wv_gA w v0 ciX10 1 (fun x6 => wv_gA w x6 ciX1 0 (fun x9 => wv_cV G fr yJ2_size x9 [] w (wv_rI (fun x12 w12 => (x12 ≤ v3 → wv_gI w12 v1 ciX21 3 (fun x59 => (¬ (x59 &&& v2) = 0 → vc_X10_at_72 G fr P v1 v2 (0 : Int32) w12) ∧ ((x59 &&& v2) = 0 → vc_X10_at_72 G fr P v1 v2 (1 : Int32) w12))) ∧ (¬ x12 ≤ v3 → wv_gA w12 v0 ciX10 1 (fun x20 => wv_gA w12 x20 ciX1 0 (fun x23 => wv_cV G fr yJ2_get x23 [.int v3] w12 (wv_rA (fun x27 w27 => wv_cc G w27 x27 "Weaversgate$Type" (wv_gI w27 v0 ciX10 0 (fun x34 => wv_cV G fr yX6_isBelow x27 [.int x34] w27 (wv_rI (fun x37 w37 => (x37 = 0 → vc_X10_at_50 G fr P K4 v0 v1 v3 (0 : Int32) v2 w37) ∧ (¬ x37 = 0 → vc_X10_at_50 G fr P K4 v0 v1 v3 ((1 : Int32) <<< (v3 &&& 31)) v2 w37)) (wv_pr P))))) (wv_pr P)))))) (wv_pr P))))
def vc_X10_at_0 (G : wv_G) (fr : Nat) (P : wv_R → wv_H → Prop) (v0 : Option Nat) (v1 : Option Nat) (w : wv_W) : Prop :=
  wv_L (fun K4 a w => vc_X10_at_4 G fr P K4 a.1 a.2.1 a.2.2.1 a.2.2.2 w) (v0, v1, (0 : Int32), (0 : Int32)) w
set_option maxHeartbeats 4000000 in
theorem wk_X10_at_72 {G : wv_G} {p : Program} {e : Env} {R : Room} {s : State} {m : MethodId} {args : Array Value} {below : List Frame} {meth : Method} {c : Code} {fr : Nat} {P : wv_R → wv_H → Prop} (X : wv_ok G p R s m args meth c fr "Weaversgate$TypePattern" cX10_at 4 (Option.some Jvm.ClassFile.FieldType.char) "at" []) {v1 : Option Nat} {v2 : Int32} {s0 : Int32} {w : wv_W} (hv : vc_X10_at_72 G fr P v1 v2 s0 w) : wv_J G p e R s m args below meth c 4 P w 72 [(1, va_rf v1), (2, .int v2)] [.int s0] := by
  intro H locs cells slots ls S hl
  unfold vc_X10_at_72 at hv
  refine lv_istore_n X.hx X.hb (i := 3) (lv' := [(3, .int s0), (1, va_rf v1), (2, .int v2)]) dX10_at_72 rfl hl (by decide) (by simp [wv_rfc, wv_kI, wv_kJ, wv_kF, wv_kD]) (fun ls hl => ?_)
  refine lv_iload_n X.hx X.hb dX10_at_73 rfl (lv_at hl 0 rfl) ?_
  refine lv_if_eq (tgt := 82) X.hx X.hb dX10_at_74 (by decide) (fun c74 => ?_) (fun c74 => ?_)
  · have hv := hv.1 c74
    refine wq_aload_n X dX10_at_82 rfl (lv_at hl 1 rfl) ?_
    refine wq_gIN X S hv ccX21 in_X21 (k := 3) (by decide) q732 dX10_at_83 (fun x83 hv => ?_)
    refine lv_iload_n X.hx X.hb dX10_at_86 rfl (lv_at hl 2 rfl) ?_
    refine lv_iconst (v := (-1 : Int32)) X.hx X.hb dX10_at_87 (by decide) ?_
    refine lv_ixor X.hx X.hb dX10_at_88 ?_
    refine lv_iand X.hx X.hb dX10_at_89 ?_
    refine lv_if_ne (tgt := 98) X.hx X.hb dX10_at_90 (by decide) (fun c90 => ?_) (fun c90 => ?_)
    · have hv := hv.1 c90
      refine lv_bipush (v := (109 : Int32)) X.hx X.hb dX10_at_98 (by decide) ?_
      exact wr_iret X S hv.1 hv.2 dX10_at_100
    · have hv := hv.2 c90
      refine lv_bipush (v := (121 : Int32)) X.hx X.hb dX10_at_93 (by decide) ?_
      refine lv_goto (tgt := 100) X.hx X.hb dX10_at_95 (by decide) ?_
      exact wr_iret X S hv.1 hv.2 dX10_at_100
  · have hv := hv.2 c74
    refine lv_bipush (v := (110 : Int32)) X.hx X.hb dX10_at_77 (by decide) ?_
    refine lv_goto (tgt := 100) X.hx X.hb dX10_at_79 (by decide) ?_
    exact wr_iret X S hv.1 hv.2 dX10_at_100
set_option maxHeartbeats 4000000 in
theorem wk_X10_at_50 {G : wv_G} {p : Program} {e : Env} {R : Room} {s : State} {m : MethodId} {args : Array Value} {below : List Frame} {meth : Method} {c : Code} {fr : Nat} {P : wv_R → wv_H → Prop} (X : wv_ok G p R s m args meth c fr "Weaversgate$TypePattern" cX10_at 4 (Option.some Jvm.ClassFile.FieldType.char) "at" []) {K4 : ((Option Nat) × (Option Nat) × Int32 × Int32) → wv_W → Prop} (hK4 : ∀ a w, K4 a w → wv_J G p e R s m args below meth c 4 P w 4 [(0, va_rf a.1), (1, va_rf a.2.1), (2, .int a.2.2.1), (3, .int a.2.2.2)] []) {v0 : Option Nat} {v1 : Option Nat} {v3 : Int32} {s0 : Int32} {s1 : Int32} {w : wv_W} (hv : vc_X10_at_50 G fr P K4 v0 v1 v3 s0 s1 w) : wv_J G p e R s m args below meth c 4 P w 50 [(0, va_rf v0), (1, va_rf v1), (3, .int v3)] [.int s0, .int s1] := by
  intro H locs cells slots ls S hl
  unfold vc_X10_at_50 at hv
  refine lv_ior X.hx X.hb dX10_at_50 ?_
  refine lv_istore_n X.hx X.hb (i := 2) (lv' := [(2, .int (s1 ||| s0)), (0, va_rf v0), (1, va_rf v1), (3, .int v3)]) dX10_at_51 rfl hl (by decide) (by simp [wv_rfc, wv_kI, wv_kJ, wv_kF, wv_kD]) (fun ls hl => ?_)
  refine lv_iinc (v := (v3 + (1 : Int32))) (lv' := [(3, .int (v3 + (1 : Int32))), (2, .int (s1 ||| s0)), (0, va_rf v0), (1, va_rf v1)]) X.hx X.hb dX10_at_52 hl (k := 3) rfl (by rfl) (by decide) (by simp [wv_rfc, wv_kI, wv_kJ, wv_kF, wv_kD]) (fun ls hl => ?_)
  refine lv_goto (tgt := 4) X.hx X.hb dX10_at_55 (by decide) ?_
  exact hK4 _ _ hv H locs cells slots ls S (lv_sub hl [2, 3, 1, 0] rfl)
set_option maxHeartbeats 4000000 in
theorem wk_X10_at_4 {G : wv_G} {p : Program} {e : Env} {R : Room} {s : State} {m : MethodId} {args : Array Value} {below : List Frame} {meth : Method} {c : Code} {fr : Nat} {P : wv_R → wv_H → Prop} (X : wv_ok G p R s m args meth c fr "Weaversgate$TypePattern" cX10_at 4 (Option.some Jvm.ClassFile.FieldType.char) "at" []) {K4 : ((Option Nat) × (Option Nat) × Int32 × Int32) → wv_W → Prop} (hK4 : ∀ a w, K4 a w → wv_J G p e R s m args below meth c 4 P w 4 [(0, va_rf a.1), (1, va_rf a.2.1), (2, .int a.2.2.1), (3, .int a.2.2.2)] []) {v0 : Option Nat} {v1 : Option Nat} {v2 : Int32} {v3 : Int32} {w : wv_W} (hv : vc_X10_at_4 G fr P K4 v0 v1 v2 v3 w) : wv_J G p e R s m args below meth c 4 P w 4 [(0, va_rf v0), (1, va_rf v1), (2, .int v2), (3, .int v3)] [] := by
  intro H locs cells slots ls S hl
  unfold vc_X10_at_4 at hv
  refine lv_iload_n X.hx X.hb dX10_at_4 rfl (lv_at hl 3 rfl) ?_
  refine wq_aload_n X dX10_at_5 rfl (lv_at hl 0 rfl) ?_
  refine wq_gA X S hv ccX10 in_X10 (k := 1) (by decide) q1405 dX10_at_6 (fun x6 hv => ?_)
  refine wq_gAN X S hv ccX1 in_X1 (k := 0) (by decide) q224 dX10_at_9 (fun x9 hv => ?_)
  refine wq_cV_I X S hv q888 q270 q271 q63 ⟨by decide +kernel, by decide +kernel⟩ (nA := 0) (As := []) (by decide +kernel) rfl rfl (by simp [wv_rfc, wv_kI, wv_kJ, wv_kF, wv_kD]) hl.1 dX10_at_12 (fun x12 w12 H locs cells slots S hv => ?_) (wq_kx X rfl)
  refine lv_icmp_ge (tgt := 58) X.hx X.hb dX10_at_15 (by decide) (fun c15 => ?_) (fun c15 => ?_)
  · have hv := hv.1 c15
    refine wq_aload_n X dX10_at_58 rfl (lv_at hl 1 rfl) ?_
    refine wq_gIN X S hv ccX21 in_X21 (k := 3) (by decide) q732 dX10_at_59 (fun x59 hv => ?_)
    refine lv_iload_n X.hx X.hb dX10_at_62 rfl (lv_at hl 2 rfl) ?_
    refine lv_iand X.hx X.hb dX10_at_63 ?_
    refine lv_if_ne (tgt := 71) X.hx X.hb dX10_at_64 (by decide) (fun c64 => ?_) (fun c64 => ?_)
    · have hv := hv.1 c64
      refine lv_iconst (v := (0 : Int32)) X.hx X.hb dX10_at_71 (by decide) ?_
      exact wk_X10_at_72 X  hv H locs cells slots ls S (lv_sub hl [1, 2] rfl)
    · have hv := hv.2 c64
      refine lv_iconst (v := (1 : Int32)) X.hx X.hb dX10_at_67 (by decide) ?_
      refine lv_goto (tgt := 72) X.hx X.hb dX10_at_68 (by decide) ?_
      exact wk_X10_at_72 X  hv H locs cells slots ls S (lv_sub hl [1, 2] rfl)
  · have hv := hv.2 c15
    refine lv_iload_n X.hx X.hb dX10_at_18 rfl (lv_at hl 2 rfl) ?_
    refine wq_aload_n X dX10_at_19 rfl (lv_at hl 0 rfl) ?_
    refine wq_gA X S hv ccX10 in_X10 (k := 1) (by decide) q1405 dX10_at_20 (fun x20 hv => ?_)
    refine wq_gAN X S hv ccX1 in_X1 (k := 0) (by decide) q224 dX10_at_23 (fun x23 hv => ?_)
    refine lv_iload_n X.hx X.hb dX10_at_26 rfl (lv_at hl 3 rfl) ?_
    refine wq_cV_A X S hv q889 q274 q275 q63 ⟨by decide +kernel, by decide +kernel⟩ (nA := 1) (As := [.int v3]) (by decide +kernel) rfl rfl (by simp [wv_rfc, wv_kI, wv_kJ, wv_kF, wv_kD]) hl.1 dX10_at_27 (fun x27 w27 H locs cells slots S hv => ?_) (wq_kx X rfl)
    refine wq_cc X S hv q890 dX10_at_30 (fun hv => ?_)
    refine wq_aload_n X dX10_at_33 rfl (lv_at hl 0 rfl) ?_
    refine wq_gI X S hv ccX10 in_X10 (k := 0) (by decide) q1404 dX10_at_34 (fun x34 hv => ?_)
    refine wq_cV_I X S hv q891 q892 q893 q77 ⟨by decide +kernel, by decide +kernel⟩ (nA := 1) (As := [.int x34]) (by decide +kernel) rfl rfl (by simp [wv_rfc, wv_kI, wv_kJ, wv_kF, wv_kD]) hl.1 dX10_at_37 (fun x37 w37 H locs cells slots S hv => ?_) (wq_kx X rfl)
    refine lv_if_eq (tgt := 49) X.hx X.hb dX10_at_40 (by decide) (fun c40 => ?_) (fun c40 => ?_)
    · have hv := hv.1 c40
      refine lv_iconst (v := (0 : Int32)) X.hx X.hb dX10_at_49 (by decide) ?_
      exact wk_X10_at_50 X hK4 hv H locs cells slots ls S (lv_sub hl [0, 1, 3] rfl)
    · have hv := hv.2 c40
      refine lv_iconst (v := (1 : Int32)) X.hx X.hb dX10_at_43 (by decide) ?_
      refine lv_iload_n X.hx X.hb dX10_at_44 rfl (lv_at hl 3 rfl) ?_
      refine lv_ishl X.hx X.hb dX10_at_45 ?_
      refine lv_goto (tgt := 50) X.hx X.hb dX10_at_46 (by decide) ?_
      exact wk_X10_at_50 X hK4 hv H locs cells slots ls S (lv_sub hl [0, 1, 3] rfl)
set_option maxHeartbeats 4000000 in
theorem wk_X10_at_0 {G : wv_G} {p : Program} {e : Env} {R : Room} {s : State} {m : MethodId} {args : Array Value} {below : List Frame} {meth : Method} {c : Code} {fr : Nat} {P : wv_R → wv_H → Prop} (X : wv_ok G p R s m args meth c fr "Weaversgate$TypePattern" cX10_at 4 (Option.some Jvm.ClassFile.FieldType.char) "at" []) {v0 : Option Nat} {v1 : Option Nat} {w : wv_W} (hv : vc_X10_at_0 G fr P v0 v1 w) : wv_J G p e R s m args below meth c 4 P w 0 [(0, va_rf v0), (1, va_rf v1)] [] := by
  intro H locs cells slots ls S hl
  unfold vc_X10_at_0 at hv
  refine lv_iconst (v := (0 : Int32)) X.hx X.hb dX10_at_0 (by decide) ?_
  refine lv_istore_n X.hx X.hb (i := 2) (lv' := [(2, .int (0 : Int32)), (0, va_rf v0), (1, va_rf v1)]) dX10_at_1 rfl hl (by decide) (by simp [wv_rfc, wv_kI, wv_kJ, wv_kF, wv_kD]) (fun ls hl => ?_)
  refine lv_iconst (v := (0 : Int32)) X.hx X.hb dX10_at_2 (by decide) ?_
  refine lv_istore_n X.hx X.hb (i := 3) (lv' := [(3, .int (0 : Int32)), (2, .int (0 : Int32)), (0, va_rf v0), (1, va_rf v1)]) dX10_at_3 rfl hl (by decide) (by simp [wv_rfc, wv_kI, wv_kJ, wv_kF, wv_kD]) (fun ls hl => ?_)
  exact wv_loop (A := (Option Nat) × (Option Nat) × Int32 × Int32) (fun a w => wv_J G p e R s m args below meth c 4 P w 4 [(0, va_rf a.1), (1, va_rf a.2.1), (2, .int a.2.2.1), (3, .int a.2.2.2)] []) (fun K4 hK4 a w hv => wk_X10_at_4 X hK4 hv) hv H locs cells slots ls S (lv_sub hl [2, 3, 1, 0] rfl)
theorem wk_X10_at {G : wv_G} (hG : wv_G0 G) {v0 : Option Nat} {v1 : Option Nat} {h : wv_H} {fr kc ks : Nat} {P : wv_R → wv_H → Prop} (hv : vc_X10_at_0 G fr P v0 v1 (h, kc, ks)) : wv_C G yX10_at [va_rf v0, va_rf v1] h fr kc ks P := by
  refine wv_enter (lv := [(0, va_rf v0), (1, va_rf v1)]) hG (by decide +kernel) q887 (by decide) (by simp [lg_sl, wv_rfc, wv_kI, wv_kJ, wv_kF, wv_kD]) (by simp [lv_args, wv_rfc, wv_kI, wv_kJ, wv_kF, wv_kD]) ?_
  intro p e R s m args below meth c X H locs cells slots ls S hl
  exact wk_X10_at_0 X hv H locs cells slots ls S (lv_sub hl [0, 1] rfl)

def vc_X10_holds_0 (G : wv_G) (fr : Nat) (P : wv_R → wv_H → Prop) (v0 : Option Nat) (v1 : Option Nat) (w : wv_W) : Prop :=
  wv_gA w v1 ciX25 2 (fun x1 => wv_gI w v0 ciX10 0 (fun x5 => wv_cV G fr yX6_isBelow x1 [.int x5] w (wv_rI (fun x8 w8 => narrow .boolean (.int x8) = .int x8 ∧ P (.inl (some (.int x8))) w8.1) (wv_pr P))))
set_option maxHeartbeats 4000000 in
theorem wk_X10_holds_0 {G : wv_G} {p : Program} {e : Env} {R : Room} {s : State} {m : MethodId} {args : Array Value} {below : List Frame} {meth : Method} {c : Code} {fr : Nat} {P : wv_R → wv_H → Prop} (X : wv_ok G p R s m args meth c fr "Weaversgate$TypePattern" cX10_holds 2 (Option.some Jvm.ClassFile.FieldType.boolean) "holds" []) {v0 : Option Nat} {v1 : Option Nat} {w : wv_W} (hv : vc_X10_holds_0 G fr P v0 v1 w) : wv_J G p e R s m args below meth c 2 P w 0 [(0, va_rf v0), (1, va_rf v1)] [] := by
  intro H locs cells slots ls S hl
  unfold vc_X10_holds_0 at hv
  refine wq_aload_n X dX10_holds_0 rfl (lv_at hl 1 rfl) ?_
  refine wq_gAN X S hv ccX25 in_X25 (k := 2) (by decide) q1064 dX10_holds_1 (fun x1 hv => ?_)
  refine wq_aload_n X dX10_holds_4 rfl (lv_at hl 0 rfl) ?_
  refine wq_gI X S hv ccX10 in_X10 (k := 0) (by decide) q1404 dX10_holds_5 (fun x5 hv => ?_)
  refine wq_cV_I X S hv q891 q892 q893 q77 ⟨by decide +kernel, by decide +kernel⟩ (nA := 1) (As := [.int x5]) (by decide +kernel) rfl rfl (by simp [wv_rfc, wv_kI, wv_kJ, wv_kF, wv_kD]) hl.1 dX10_holds_8 (fun x8 w8 H locs cells slots S hv => ?_) (wq_kx X rfl)
  exact wr_iret X S hv.1 hv.2 dX10_holds_11
theorem wk_X10_holds {G : wv_G} (hG : wv_G0 G) {v0 : Option Nat} {v1 : Option Nat} {h : wv_H} {fr kc ks : Nat} {P : wv_R → wv_H → Prop} (hv : vc_X10_holds_0 G fr P v0 v1 (h, kc, ks)) : wv_C G yX10_holds [va_rf v0, va_rf v1] h fr kc ks P := by
  refine wv_enter (lv := [(0, va_rf v0), (1, va_rf v1)]) hG (by decide +kernel) q1160 (by decide) (by simp [lg_sl, wv_rfc, wv_kI, wv_kJ, wv_kF, wv_kD]) (by simp [lv_args, wv_rfc, wv_kI, wv_kJ, wv_kF, wv_kD]) ?_
  intro p e R s m args below meth c X H locs cells slots ls S hl
  exact wk_X10_holds_0 X hv H locs cells slots ls S (lv_sub hl [0, 1] rfl)

def vc_X10_init_0 (G : wv_G) (fr : Nat) (P : wv_R → wv_H → Prop) (v0 : Option Nat) (v1 : Option Nat) (v2 : Int32) (w : wv_W) : Prop :=
  wv_pt w v0 ciX10 1 (va_rf v1) (fun w2 => (∃ a, v0 = some a) ∧ 1 ≤ fr ∧ (wv_pt w2 v0 ciX10 0 (.int v2) (fun w11 => P (.inl none) w11.1)))
set_option maxHeartbeats 4000000 in
theorem wk_X10_init_0 {G : wv_G} {p : Program} {e : Env} {R : Room} {s : State} {m : MethodId} {args : Array Value} {below : List Frame} {meth : Method} {c : Code} {fr : Nat} {P : wv_R → wv_H → Prop} (X : wv_ok G p R s m args meth c fr "Weaversgate$TypePattern" cX10_init 3 (Option.none : Option Jvm.ClassFile.FieldType) "<init>" []) {v0 : Option Nat} {v1 : Option Nat} {v2 : Int32} {w : wv_W} (hv : vc_X10_init_0 G fr P v0 v1 v2 w) : wv_J G p e R s m args below meth c 3 P w 0 [(0, va_rf v0), (1, va_rf v1), (2, .int v2)] [] := by
  intro H locs cells slots ls S hl
  unfold vc_X10_init_0 at hv
  refine wq_aload_n X dX10_init_0 rfl (lv_at hl 0 rfl) ?_
  refine wq_aload_n X dX10_init_1 rfl (lv_at hl 1 rfl) ?_
  refine wq_ptF X S hv tyX10 tyX10_ok nmX10 ccX10 in_X10 (k := 1) (by decide) q1405 rfl rfl rfl (wv_fnA (Or.inl ⟨_, rfl⟩)).1 (wv_fnA (Or.inl ⟨_, rfl⟩)).2 dX10_init_2 (fun w2 H locs S hv => ?_)
  refine wq_aload_n X dX10_init_5 rfl (lv_at hl 0 rfl) ?_
  obtain ⟨⟨_, hr⟩, h1, hv⟩ := hv
  refine wq_objInit X hr q1403 q125 q126 h1 (by simp [wv_rfc, wv_kI, wv_kJ, wv_kF, wv_kD]) hl.1 dX10_init_6 ?_
  refine wq_aload_n X dX10_init_9 rfl (lv_at hl 0 rfl) ?_
  refine lv_iload_n X.hx X.hb dX10_init_10 rfl (lv_at hl 2 rfl) ?_
  refine wq_ptF X S hv tyX10 tyX10_ok nmX10 ccX10 in_X10 (k := 0) (by decide) q1404 rfl rfl rfl rfl rfl dX10_init_11 (fun w11 H locs S hv => ?_)
  exact wr_vret X S hv dX10_init_14
theorem wk_X10_init {G : wv_G} (hG : wv_G0 G) {v0 : Option Nat} {v1 : Option Nat} {v2 : Int32} {h : wv_H} {fr kc ks : Nat} {P : wv_R → wv_H → Prop} (hv : vc_X10_init_0 G fr P v0 v1 v2 (h, kc, ks)) : wv_C G yX10_init [va_rf v0, va_rf v1, .int v2] h fr kc ks P := by
  refine wv_enter (lv := [(0, va_rf v0), (1, va_rf v1), (2, .int v2)]) hG (by decide +kernel) q1402 (by decide) (by simp [lg_sl, wv_rfc, wv_kI, wv_kJ, wv_kF, wv_kD]) (by simp [lv_args, wv_rfc, wv_kI, wv_kJ, wv_kF, wv_kD]) ?_
  intro p e R s m args below meth c X H locs cells slots ls S hl
  exact wk_X10_init_0 X hv H locs cells slots ls S (lv_sub hl [0, 1, 2] rfl)

def vc_X11_at_16 (G : wv_G) (fr : Nat) (P : wv_R → wv_H → Prop) (s0 : Int32) (w : wv_W) : Prop :=
  wv_c0 G fr yX14_sure [.int s0] w (wv_rI (fun x16 w16 => narrow .char (.int x16) = .int x16 ∧ P (.inl (some (.int x16))) w16.1) (wv_pr P))
def vc_X11_at_0 (G : wv_G) (fr : Nat) (P : wv_R → wv_H → Prop) (v0 : Option Nat) (v1 : Option Nat) (w : wv_W) : Prop :=
  wv_gI w v1 ciX21 2 (fun x1 => wv_gI w v0 ciX11 0 (fun x5 => (¬ x1 = x5 → vc_X11_at_16 G fr P (0 : Int32) w) ∧ (x1 = x5 → vc_X11_at_16 G fr P (1 : Int32) w)))
set_option maxHeartbeats 4000000 in
theorem wk_X11_at_16 {G : wv_G} {p : Program} {e : Env} {R : Room} {s : State} {m : MethodId} {args : Array Value} {below : List Frame} {meth : Method} {c : Code} {fr : Nat} {P : wv_R → wv_H → Prop} (X : wv_ok G p R s m args meth c fr "Weaversgate$WithinPattern" cX11_at 2 (Option.some Jvm.ClassFile.FieldType.char) "at" []) {s0 : Int32} {w : wv_W} (hv : vc_X11_at_16 G fr P s0 w) : wv_J G p e R s m args below meth c 2 P w 16 [] [.int s0] := by
  intro H locs cells slots ls S hl
  unfold vc_X11_at_16 at hv
  refine wq_cS_I X S hv q908 q849 q91 ⟨by decide +kernel, by decide +kernel⟩ (nA := 1) (As := [.int s0]) (by decide +kernel) rfl rfl (by simp [wv_rfc, wv_kI, wv_kJ, wv_kF, wv_kD]) hl.1 dX11_at_16 (fun x16 w16 H locs cells slots S hv => ?_) (wq_kx X rfl)
  exact wr_iret X S hv.1 hv.2 dX11_at_19
set_option maxHeartbeats 4000000 in
theorem wk_X11_at_0 {G : wv_G} {p : Program} {e : Env} {R : Room} {s : State} {m : MethodId} {args : Array Value} {below : List Frame} {meth : Method} {c : Code} {fr : Nat} {P : wv_R → wv_H → Prop} (X : wv_ok G p R s m args meth c fr "Weaversgate$WithinPattern" cX11_at 2 (Option.some Jvm.ClassFile.FieldType.char) "at" []) {v0 : Option Nat} {v1 : Option Nat} {w : wv_W} (hv : vc_X11_at_0 G fr P v0 v1 w) : wv_J G p e R s m args below meth c 2 P w 0 [(0, va_rf v0), (1, va_rf v1)] [] := by
  intro H locs cells slots ls S hl
  unfold vc_X11_at_0 at hv
  refine wq_aload_n X dX11_at_0 rfl (lv_at hl 1 rfl) ?_
  refine wq_gIN X S hv ccX21 in_X21 (k := 2) (by decide) q730 dX11_at_1 (fun x1 hv => ?_)
  refine wq_aload_n X dX11_at_4 rfl (lv_at hl 0 rfl) ?_
  refine wq_gI X S hv ccX11 in_X11 (k := 0) (by decide) q1417 dX11_at_5 (fun x5 hv => ?_)
  refine lv_icmp_ne (tgt := 15) X.hx X.hb dX11_at_8 (by decide) (fun c8 => ?_) (fun c8 => ?_)
  · have hv := hv.1 c8
    refine lv_iconst (v := (0 : Int32)) X.hx X.hb dX11_at_15 (by decide) ?_
    exact wk_X11_at_16 X  hv H locs cells slots ls S (lv_sub hl [] rfl)
  · have hv := hv.2 c8
    refine lv_iconst (v := (1 : Int32)) X.hx X.hb dX11_at_11 (by decide) ?_
    refine lv_goto (tgt := 16) X.hx X.hb dX11_at_12 (by decide) ?_
    exact wk_X11_at_16 X  hv H locs cells slots ls S (lv_sub hl [] rfl)
theorem wk_X11_at {G : wv_G} (hG : wv_G0 G) {v0 : Option Nat} {v1 : Option Nat} {h : wv_H} {fr kc ks : Nat} {P : wv_R → wv_H → Prop} (hv : vc_X11_at_0 G fr P v0 v1 (h, kc, ks)) : wv_C G yX11_at [va_rf v0, va_rf v1] h fr kc ks P := by
  refine wv_enter (lv := [(0, va_rf v0), (1, va_rf v1)]) hG (by decide +kernel) q907 (by decide) (by simp [lg_sl, wv_rfc, wv_kI, wv_kJ, wv_kF, wv_kD]) (by simp [lv_args, wv_rfc, wv_kI, wv_kJ, wv_kF, wv_kD]) ?_
  intro p e R s m args below meth c X H locs cells slots ls S hl
  exact wk_X11_at_0 X hv H locs cells slots ls S (lv_sub hl [0, 1] rfl)

def vc_X11_holds_0 (G : wv_G) (fr : Nat) (P : wv_R → wv_H → Prop) (v0 : Option Nat) (v1 : Option Nat) (w : wv_W) : Prop :=
  wv_gI w v1 ciX25 3 (fun x1 => wv_gI w v0 ciX11 0 (fun x5 => (¬ x1 = x5 → narrow .boolean (.int (0 : Int32)) = .int (0 : Int32) ∧ P (.inl (some (.int (0 : Int32)))) w.1) ∧ (x1 = x5 → narrow .boolean (.int (1 : Int32)) = .int (1 : Int32) ∧ P (.inl (some (.int (1 : Int32)))) w.1)))
set_option maxHeartbeats 4000000 in
theorem wk_X11_holds_0 {G : wv_G} {p : Program} {e : Env} {R : Room} {s : State} {m : MethodId} {args : Array Value} {below : List Frame} {meth : Method} {c : Code} {fr : Nat} {P : wv_R → wv_H → Prop} (X : wv_ok G p R s m args meth c fr "Weaversgate$WithinPattern" cX11_holds 2 (Option.some Jvm.ClassFile.FieldType.boolean) "holds" []) {v0 : Option Nat} {v1 : Option Nat} {w : wv_W} (hv : vc_X11_holds_0 G fr P v0 v1 w) : wv_J G p e R s m args below meth c 2 P w 0 [(0, va_rf v0), (1, va_rf v1)] [] := by
  intro H locs cells slots ls S hl
  unfold vc_X11_holds_0 at hv
  refine wq_aload_n X dX11_holds_0 rfl (lv_at hl 1 rfl) ?_
  refine wq_gIN X S hv ccX25 in_X25 (k := 3) (by decide) q1066 dX11_holds_1 (fun x1 hv => ?_)
  refine wq_aload_n X dX11_holds_4 rfl (lv_at hl 0 rfl) ?_
  refine wq_gI X S hv ccX11 in_X11 (k := 0) (by decide) q1417 dX11_holds_5 (fun x5 hv => ?_)
  refine lv_icmp_ne (tgt := 15) X.hx X.hb dX11_holds_8 (by decide) (fun c8 => ?_) (fun c8 => ?_)
  · have hv := hv.1 c8
    refine lv_iconst (v := (0 : Int32)) X.hx X.hb dX11_holds_15 (by decide) ?_
    exact wr_iret X S hv.1 hv.2 dX11_holds_16
  · have hv := hv.2 c8
    refine lv_iconst (v := (1 : Int32)) X.hx X.hb dX11_holds_11 (by decide) ?_
    refine lv_goto (tgt := 16) X.hx X.hb dX11_holds_12 (by decide) ?_
    exact wr_iret X S hv.1 hv.2 dX11_holds_16
theorem wk_X11_holds {G : wv_G} (hG : wv_G0 G) {v0 : Option Nat} {v1 : Option Nat} {h : wv_H} {fr kc ks : Nat} {P : wv_R → wv_H → Prop} (hv : vc_X11_holds_0 G fr P v0 v1 (h, kc, ks)) : wv_C G yX11_holds [va_rf v0, va_rf v1] h fr kc ks P := by
  refine wv_enter (lv := [(0, va_rf v0), (1, va_rf v1)]) hG (by decide +kernel) q1170 (by decide) (by simp [lg_sl, wv_rfc, wv_kI, wv_kJ, wv_kF, wv_kD]) (by simp [lv_args, wv_rfc, wv_kI, wv_kJ, wv_kF, wv_kD]) ?_
  intro p e R s m args below meth c X H locs cells slots ls S hl
  exact wk_X11_holds_0 X hv H locs cells slots ls S (lv_sub hl [0, 1] rfl)

def vc_X11_init_0 (G : wv_G) (fr : Nat) (P : wv_R → wv_H → Prop) (v0 : Option Nat) (v1 : Int32) (w : wv_W) : Prop :=
  (∃ a, v0 = some a) ∧ 1 ≤ fr ∧ (wv_pt w v0 ciX11 0 (.int v1) (fun w6 => P (.inl none) w6.1))
set_option maxHeartbeats 4000000 in
theorem wk_X11_init_0 {G : wv_G} {p : Program} {e : Env} {R : Room} {s : State} {m : MethodId} {args : Array Value} {below : List Frame} {meth : Method} {c : Code} {fr : Nat} {P : wv_R → wv_H → Prop} (X : wv_ok G p R s m args meth c fr "Weaversgate$WithinPattern" cX11_init 2 (Option.none : Option Jvm.ClassFile.FieldType) "<init>" []) {v0 : Option Nat} {v1 : Int32} {w : wv_W} (hv : vc_X11_init_0 G fr P v0 v1 w) : wv_J G p e R s m args below meth c 2 P w 0 [(0, va_rf v0), (1, .int v1)] [] := by
  intro H locs cells slots ls S hl
  unfold vc_X11_init_0 at hv
  refine wq_aload_n X dX11_init_0 rfl (lv_at hl 0 rfl) ?_
  obtain ⟨⟨_, hr⟩, h1, hv⟩ := hv
  refine wq_objInit X hr q1416 q125 q126 h1 (by simp [wv_rfc, wv_kI, wv_kJ, wv_kF, wv_kD]) hl.1 dX11_init_1 ?_
  refine wq_aload_n X dX11_init_4 rfl (lv_at hl 0 rfl) ?_
  refine lv_iload_n X.hx X.hb dX11_init_5 rfl (lv_at hl 1 rfl) ?_
  refine wq_ptF X S hv tyX11 tyX11_ok nmX11 ccX11 in_X11 (k := 0) (by decide) q1417 rfl rfl rfl rfl rfl dX11_init_6 (fun w6 H locs S hv => ?_)
  exact wr_vret X S hv dX11_init_9
theorem wk_X11_init {G : wv_G} (hG : wv_G0 G) {v0 : Option Nat} {v1 : Int32} {h : wv_H} {fr kc ks : Nat} {P : wv_R → wv_H → Prop} (hv : vc_X11_init_0 G fr P v0 v1 (h, kc, ks)) : wv_C G yX11_init [va_rf v0, .int v1] h fr kc ks P := by
  refine wv_enter (lv := [(0, va_rf v0), (1, .int v1)]) hG (by decide +kernel) q1415 (by decide) (by simp [lg_sl, wv_rfc, wv_kI, wv_kJ, wv_kF, wv_kD]) (by simp [lv_args, wv_rfc, wv_kI, wv_kJ, wv_kF, wv_kD]) ?_
  intro p e R s m args below meth c X H locs cells slots ls S hl
  exact wk_X11_init_0 X hv H locs cells slots ls S (lv_sub hl [0, 1] rfl)

def vc_X12_at_0 (G : wv_G) (fr : Nat) (P : wv_R → wv_H → Prop) (w : wv_W) : Prop :=
  narrow .char (.int (109 : Int32)) = .int (109 : Int32) ∧ P (.inl (some (.int (109 : Int32)))) w.1
set_option maxHeartbeats 4000000 in
theorem wk_X12_at_0 {G : wv_G} {p : Program} {e : Env} {R : Room} {s : State} {m : MethodId} {args : Array Value} {below : List Frame} {meth : Method} {c : Code} {fr : Nat} {P : wv_R → wv_H → Prop} (X : wv_ok G p R s m args meth c fr "Weaversgate$ValuePattern" cX12_at 2 (Option.some Jvm.ClassFile.FieldType.char) "at" []) {w : wv_W} (hv : vc_X12_at_0 G fr P w) : wv_J G p e R s m args below meth c 2 P w 0 [] [] := by
  intro H locs cells slots ls S hl
  unfold vc_X12_at_0 at hv
  refine lv_bipush (v := (109 : Int32)) X.hx X.hb dX12_at_0 (by decide) ?_
  exact wr_iret X S hv.1 hv.2 dX12_at_2
theorem wk_X12_at {G : wv_G} (hG : wv_G0 G) {v0 : Option Nat} {v1 : Option Nat} {h : wv_H} {fr kc ks : Nat} {P : wv_R → wv_H → Prop} (hv : vc_X12_at_0 G fr P (h, kc, ks)) : wv_C G yX12_at [va_rf v0, va_rf v1] h fr kc ks P := by
  refine wv_enter (lv := [(0, va_rf v0), (1, va_rf v1)]) hG (by decide +kernel) q901 (by decide) (by simp [lg_sl, wv_rfc, wv_kI, wv_kJ, wv_kF, wv_kD]) (by simp [lv_args, wv_rfc, wv_kI, wv_kJ, wv_kF, wv_kD]) ?_
  intro p e R s m args below meth c X H locs cells slots ls S hl
  exact wk_X12_at_0 X hv H locs cells slots ls S (lv_sub hl [] rfl)

def vc_X12_holds_0 (G : wv_G) (fr : Nat) (P : wv_R → wv_H → Prop) (v0 : Option Nat) (v1 : Option Nat) (w : wv_W) : Prop :=
  wv_gI w v1 ciX25 4 (fun x1 => wv_gI w v0 ciX12 0 (fun x5 => (x1 ≤ x5 → narrow .boolean (.int (0 : Int32)) = .int (0 : Int32) ∧ P (.inl (some (.int (0 : Int32)))) w.1) ∧ (¬ x1 ≤ x5 → narrow .boolean (.int (1 : Int32)) = .int (1 : Int32) ∧ P (.inl (some (.int (1 : Int32)))) w.1)))
set_option maxHeartbeats 4000000 in
theorem wk_X12_holds_0 {G : wv_G} {p : Program} {e : Env} {R : Room} {s : State} {m : MethodId} {args : Array Value} {below : List Frame} {meth : Method} {c : Code} {fr : Nat} {P : wv_R → wv_H → Prop} (X : wv_ok G p R s m args meth c fr "Weaversgate$ValuePattern" cX12_holds 2 (Option.some Jvm.ClassFile.FieldType.boolean) "holds" []) {v0 : Option Nat} {v1 : Option Nat} {w : wv_W} (hv : vc_X12_holds_0 G fr P v0 v1 w) : wv_J G p e R s m args below meth c 2 P w 0 [(0, va_rf v0), (1, va_rf v1)] [] := by
  intro H locs cells slots ls S hl
  unfold vc_X12_holds_0 at hv
  refine wq_aload_n X dX12_holds_0 rfl (lv_at hl 1 rfl) ?_
  refine wq_gIN X S hv ccX25 in_X25 (k := 4) (by decide) q1068 dX12_holds_1 (fun x1 hv => ?_)
  refine wq_aload_n X dX12_holds_4 rfl (lv_at hl 0 rfl) ?_
  refine wq_gI X S hv ccX12 in_X12 (k := 0) (by decide) q1427 dX12_holds_5 (fun x5 hv => ?_)
  refine lv_icmp_le (tgt := 15) X.hx X.hb dX12_holds_8 (by decide) (fun c8 => ?_) (fun c8 => ?_)
  · have hv := hv.1 c8
    refine lv_iconst (v := (0 : Int32)) X.hx X.hb dX12_holds_15 (by decide) ?_
    exact wr_iret X S hv.1 hv.2 dX12_holds_16
  · have hv := hv.2 c8
    refine lv_iconst (v := (1 : Int32)) X.hx X.hb dX12_holds_11 (by decide) ?_
    refine lv_goto (tgt := 16) X.hx X.hb dX12_holds_12 (by decide) ?_
    exact wr_iret X S hv.1 hv.2 dX12_holds_16
theorem wk_X12_holds {G : wv_G} (hG : wv_G0 G) {v0 : Option Nat} {v1 : Option Nat} {h : wv_H} {fr kc ks : Nat} {P : wv_R → wv_H → Prop} (hv : vc_X12_holds_0 G fr P v0 v1 (h, kc, ks)) : wv_C G yX12_holds [va_rf v0, va_rf v1] h fr kc ks P := by
  refine wv_enter (lv := [(0, va_rf v0), (1, va_rf v1)]) hG (by decide +kernel) q1165 (by decide) (by simp [lg_sl, wv_rfc, wv_kI, wv_kJ, wv_kF, wv_kD]) (by simp [lv_args, wv_rfc, wv_kI, wv_kJ, wv_kF, wv_kD]) ?_
  intro p e R s m args below meth c X H locs cells slots ls S hl
  exact wk_X12_holds_0 X hv H locs cells slots ls S (lv_sub hl [0, 1] rfl)

def vc_X12_init_0 (G : wv_G) (fr : Nat) (P : wv_R → wv_H → Prop) (v0 : Option Nat) (v1 : Int32) (w : wv_W) : Prop :=
  (∃ a, v0 = some a) ∧ 1 ≤ fr ∧ (wv_pt w v0 ciX12 0 (.int v1) (fun w6 => P (.inl none) w6.1))
set_option maxHeartbeats 4000000 in
theorem wk_X12_init_0 {G : wv_G} {p : Program} {e : Env} {R : Room} {s : State} {m : MethodId} {args : Array Value} {below : List Frame} {meth : Method} {c : Code} {fr : Nat} {P : wv_R → wv_H → Prop} (X : wv_ok G p R s m args meth c fr "Weaversgate$ValuePattern" cX12_init 2 (Option.none : Option Jvm.ClassFile.FieldType) "<init>" []) {v0 : Option Nat} {v1 : Int32} {w : wv_W} (hv : vc_X12_init_0 G fr P v0 v1 w) : wv_J G p e R s m args below meth c 2 P w 0 [(0, va_rf v0), (1, .int v1)] [] := by
  intro H locs cells slots ls S hl
  unfold vc_X12_init_0 at hv
  refine wq_aload_n X dX12_init_0 rfl (lv_at hl 0 rfl) ?_
  obtain ⟨⟨_, hr⟩, h1, hv⟩ := hv
  refine wq_objInit X hr q1426 q125 q126 h1 (by simp [wv_rfc, wv_kI, wv_kJ, wv_kF, wv_kD]) hl.1 dX12_init_1 ?_
  refine wq_aload_n X dX12_init_4 rfl (lv_at hl 0 rfl) ?_
  refine lv_iload_n X.hx X.hb dX12_init_5 rfl (lv_at hl 1 rfl) ?_
  refine wq_ptF X S hv tyX12 tyX12_ok nmX12 ccX12 in_X12 (k := 0) (by decide) q1427 rfl rfl rfl rfl rfl dX12_init_6 (fun w6 H locs S hv => ?_)
  exact wr_vret X S hv dX12_init_9
theorem wk_X12_init {G : wv_G} (hG : wv_G0 G) {v0 : Option Nat} {v1 : Int32} {h : wv_H} {fr kc ks : Nat} {P : wv_R → wv_H → Prop} (hv : vc_X12_init_0 G fr P v0 v1 (h, kc, ks)) : wv_C G yX12_init [va_rf v0, .int v1] h fr kc ks P := by
  refine wv_enter (lv := [(0, va_rf v0), (1, .int v1)]) hG (by decide +kernel) q1425 (by decide) (by simp [lg_sl, wv_rfc, wv_kI, wv_kJ, wv_kF, wv_kD]) (by simp [lv_args, wv_rfc, wv_kI, wv_kJ, wv_kF, wv_kD]) ?_
  intro p e R s m args below meth c X H locs cells slots ls S hl
  exact wk_X12_init_0 X hv H locs cells slots ls S (lv_sub hl [0, 1] rfl)

def vc_X13_at_0 (G : wv_G) (fr : Nat) (P : wv_R → wv_H → Prop) (v0 : Option Nat) (v1 : Option Nat) (w : wv_W) : Prop :=
  wv_gA w v0 ciX13 0 (fun x1 => wv_cF G fr (⟨"Weaversgate$Pattern", "at", "(LWeaversgate$Place;)C"⟩ : MethodName) x1 [va_rf v1] w (wv_rI (fun x5 w5 => (¬ x5 = (121 : Int32) → narrow .char (.int (109 : Int32)) = .int (109 : Int32) ∧ P (.inl (some (.int (109 : Int32)))) w5.1) ∧ (x5 = (121 : Int32) → narrow .char (.int (121 : Int32)) = .int (121 : Int32) ∧ P (.inl (some (.int (121 : Int32)))) w5.1)) (wv_pr P)))
set_option maxHeartbeats 4000000 in
theorem wk_X13_at_0 {G : wv_G} {p : Program} {e : Env} {R : Room} {s : State} {m : MethodId} {args : Array Value} {below : List Frame} {meth : Method} {c : Code} {fr : Nat} {P : wv_R → wv_H → Prop} (X : wv_ok G p R s m args meth c fr "Weaversgate$FlowPattern" cX13_at 2 (Option.some Jvm.ClassFile.FieldType.char) "at" []) {v0 : Option Nat} {v1 : Option Nat} {w : wv_W} (hv : vc_X13_at_0 G fr P v0 v1 w) : wv_J G p e R s m args below meth c 2 P w 0 [(0, va_rf v0), (1, va_rf v1)] [] := by
  intro H locs cells slots ls S hl
  unfold vc_X13_at_0 at hv
  refine wq_aload_n X dX13_at_0 rfl (lv_at hl 0 rfl) ?_
  refine wq_gA X S hv ccX13 in_X13 (k := 0) (by decide) q1460 dX13_at_1 (fun x1 hv => ?_)
  refine wq_aload_n X dX13_at_4 rfl (lv_at hl 1 rfl) ?_
  refine wq_cF_I X S hv q841 ⟨by decide +kernel, by decide +kernel⟩ (nA := 1) (As := [va_rf v1]) (by decide +kernel) rfl rfl (by simp [wv_rfc, wv_kI, wv_kJ, wv_kF, wv_kD]) hl.1 dX13_at_5 (fun x5 w5 H locs cells slots S hv => ?_) (wq_kx X rfl)
  refine lv_bipush (v := (121 : Int32)) X.hx X.hb dX13_at_10 (by decide) ?_
  refine lv_icmp_ne (tgt := 20) X.hx X.hb dX13_at_12 (by decide) (fun c12 => ?_) (fun c12 => ?_)
  · have hv := hv.1 c12
    refine lv_bipush (v := (109 : Int32)) X.hx X.hb dX13_at_20 (by decide) ?_
    exact wr_iret X S hv.1 hv.2 dX13_at_22
  · have hv := hv.2 c12
    refine lv_bipush (v := (121 : Int32)) X.hx X.hb dX13_at_15 (by decide) ?_
    refine lv_goto (tgt := 22) X.hx X.hb dX13_at_17 (by decide) ?_
    exact wr_iret X S hv.1 hv.2 dX13_at_22
theorem wk_X13_at {G : wv_G} (hG : wv_G0 G) {v0 : Option Nat} {v1 : Option Nat} {h : wv_H} {fr kc ks : Nat} {P : wv_R → wv_H → Prop} (hv : vc_X13_at_0 G fr P v0 v1 (h, kc, ks)) : wv_C G yX13_at [va_rf v0, va_rf v1] h fr kc ks P := by
  refine wv_enter (lv := [(0, va_rf v0), (1, va_rf v1)]) hG (by decide +kernel) q839 (by decide) (by simp [lg_sl, wv_rfc, wv_kI, wv_kJ, wv_kF, wv_kD]) (by simp [lv_args, wv_rfc, wv_kI, wv_kJ, wv_kF, wv_kD]) ?_
  intro p e R s m args below meth c X H locs cells slots ls S hl
  exact wk_X13_at_0 X hv H locs cells slots ls S (lv_sub hl [0, 1] rfl)

def vc_X13_holds_27 (G : wv_G) (fr : Nat) (P : wv_R → wv_H → Prop) (v2 : Option Nat) (w : wv_W) : Prop :=
  (v2 = none → narrow .boolean (.int (0 : Int32)) = .int (0 : Int32) ∧ P (.inl (some (.int (0 : Int32)))) w.1) ∧ (¬ v2 = none → narrow .boolean (.int (1 : Int32)) = .int (1 : Int32) ∧ P (.inl (some (.int (1 : Int32)))) w.1)
def vc_X13_holds_2 (G : wv_G) (fr : Nat) (P : wv_R → wv_H → Prop) (K2 : ((Option Nat) × (Option Nat)) → wv_W → Prop) (v0 : Option Nat) (v2 : Option Nat) (w : wv_W) : Prop :=
  (v2 = none → vc_X13_holds_27 G fr P v2 w) ∧ (¬ v2 = none → wv_gA w v0 ciX13 0 (fun x7 => wv_cF G fr (⟨"Weaversgate$Pattern", "holds", "(LWeaversgate$Point;)Z"⟩ : MethodName) x7 [va_rf v2] w (wv_rI (fun x11 w11 => (¬ x11 = 0 → vc_X13_holds_27 G fr P v2 w11) ∧ (x11 = 0 → wv_gA w11 v2 ciX25 5 (fun x20 => K2 (v0, x20) w11))) (wv_pr P))))
def vc_X13_holds_0 (G : wv_G) (fr : Nat) (P : wv_R → wv_H → Prop) (v0 : Option Nat) (v1 : Option Nat) (w : wv_W) : Prop :=
  wv_L (fun K2 a w => vc_X13_holds_2 G fr P K2 a.1 a.2 w) (v0, v1) w
set_option maxHeartbeats 4000000 in
theorem wk_X13_holds_27 {G : wv_G} {p : Program} {e : Env} {R : Room} {s : State} {m : MethodId} {args : Array Value} {below : List Frame} {meth : Method} {c : Code} {fr : Nat} {P : wv_R → wv_H → Prop} (X : wv_ok G p R s m args meth c fr "Weaversgate$FlowPattern" cX13_holds 3 (Option.some Jvm.ClassFile.FieldType.boolean) "holds" []) {v2 : Option Nat} {w : wv_W} (hv : vc_X13_holds_27 G fr P v2 w) : wv_J G p e R s m args below meth c 3 P w 27 [(2, va_rf v2)] [] := by
  intro H locs cells slots ls S hl
  unfold vc_X13_holds_27 at hv
  refine wq_aload_n X dX13_holds_27 rfl (lv_at hl 0 rfl) ?_
  refine wq_ifnull (tgt := 35) X dX13_holds_28 (by decide) (fun c28 => ?_) (fun c28 => ?_)
  · have hv := hv.1 c28
    refine lv_iconst (v := (0 : Int32)) X.hx X.hb dX13_holds_35 (by decide) ?_
    exact wr_iret X S hv.1 hv.2 dX13_holds_36
  · have hv := hv.2 c28
    refine lv_iconst (v := (1 : Int32)) X.hx X.hb dX13_holds_31 (by decide) ?_
    refine lv_goto (tgt := 36) X.hx X.hb dX13_holds_32 (by decide) ?_
    exact wr_iret X S hv.1 hv.2 dX13_holds_36
set_option maxHeartbeats 4000000 in
theorem wk_X13_holds_2 {G : wv_G} {p : Program} {e : Env} {R : Room} {s : State} {m : MethodId} {args : Array Value} {below : List Frame} {meth : Method} {c : Code} {fr : Nat} {P : wv_R → wv_H → Prop} (X : wv_ok G p R s m args meth c fr "Weaversgate$FlowPattern" cX13_holds 3 (Option.some Jvm.ClassFile.FieldType.boolean) "holds" []) {K2 : ((Option Nat) × (Option Nat)) → wv_W → Prop} (hK2 : ∀ a w, K2 a w → wv_J G p e R s m args below meth c 3 P w 2 [(0, va_rf a.1), (2, va_rf a.2)] []) {v0 : Option Nat} {v2 : Option Nat} {w : wv_W} (hv : vc_X13_holds_2 G fr P K2 v0 v2 w) : wv_J G p e R s m args below meth c 3 P w 2 [(0, va_rf v0), (2, va_rf v2)] [] := by
  intro H locs cells slots ls S hl
  unfold vc_X13_holds_2 at hv
  refine wq_aload_n X dX13_holds_2 rfl (lv_at hl 1 rfl) ?_
  refine wq_ifnull (tgt := 27) X dX13_holds_3 (by decide) (fun c3 => ?_) (fun c3 => ?_)
  · have hv := hv.1 c3
    exact wk_X13_holds_27 X  hv H locs cells slots ls S (lv_sub hl [1] rfl)
  · have hv := hv.2 c3
    refine wq_aload_n X dX13_holds_6 rfl (lv_at hl 0 rfl) ?_
    refine wq_gA X S hv ccX13 in_X13 (k := 0) (by decide) q1460 dX13_holds_7 (fun x7 hv => ?_)
    refine wq_aload_n X dX13_holds_10 rfl (lv_at hl 1 rfl) ?_
    refine wq_cF_I X S hv q1124 ⟨by decide +kernel, by decide +kernel⟩ (nA := 1) (As := [va_rf v2]) (by decide +kernel) rfl rfl (by simp [wv_rfc, wv_kI, wv_kJ, wv_kF, wv_kD]) hl.1 dX13_holds_11 (fun x11 w11 H locs cells slots S hv => ?_) (wq_kx X rfl)
    refine lv_if_ne (tgt := 27) X.hx X.hb dX13_holds_16 (by decide) (fun c16 => ?_) (fun c16 => ?_)
    · have hv := hv.1 c16
      exact wk_X13_holds_27 X  hv H locs cells slots ls S (lv_sub hl [1] rfl)
    · have hv := hv.2 c16
      refine wq_aload_n X dX13_holds_19 rfl (lv_at hl 1 rfl) ?_
      refine wq_gAN X S hv ccX25 in_X25 (k := 5) (by decide) q1070 dX13_holds_20 (fun x20 hv => ?_)
      refine wq_astore_n X (i := 2) (lv' := [(2, va_rf x20), (0, va_rf v0)]) dX13_holds_23 rfl hl (by decide) rfl (fun ls hl => ?_)
      refine lv_goto (tgt := 2) X.hx X.hb dX13_holds_24 (by decide) ?_
      exact hK2 _ _ hv H locs cells slots ls S (lv_sub hl [1, 0] rfl)
set_option maxHeartbeats 4000000 in
theorem wk_X13_holds_0 {G : wv_G} {p : Program} {e : Env} {R : Room} {s : State} {m : MethodId} {args : Array Value} {below : List Frame} {meth : Method} {c : Code} {fr : Nat} {P : wv_R → wv_H → Prop} (X : wv_ok G p R s m args meth c fr "Weaversgate$FlowPattern" cX13_holds 3 (Option.some Jvm.ClassFile.FieldType.boolean) "holds" []) {v0 : Option Nat} {v1 : Option Nat} {w : wv_W} (hv : vc_X13_holds_0 G fr P v0 v1 w) : wv_J G p e R s m args below meth c 3 P w 0 [(0, va_rf v0), (1, va_rf v1)] [] := by
  intro H locs cells slots ls S hl
  unfold vc_X13_holds_0 at hv
  refine wq_aload_n X dX13_holds_0 rfl (lv_at hl 1 rfl) ?_
  refine wq_astore_n X (i := 2) (lv' := [(2, va_rf v1), (0, va_rf v0), (1, va_rf v1)]) dX13_holds_1 rfl hl (by decide) (by simp [wv_rfc, wv_kI, wv_kJ, wv_kF, wv_kD]) (fun ls hl => ?_)
  exact wv_loop (A := (Option Nat) × (Option Nat)) (fun a w => wv_J G p e R s m args below meth c 3 P w 2 [(0, va_rf a.1), (2, va_rf a.2)] []) (fun K2 hK2 a w hv => wk_X13_holds_2 X hK2 hv) hv H locs cells slots ls S (lv_sub hl [1, 0] rfl)
theorem wk_X13_holds {G : wv_G} (hG : wv_G0 G) {v0 : Option Nat} {v1 : Option Nat} {h : wv_H} {fr kc ks : Nat} {P : wv_R → wv_H → Prop} (hv : vc_X13_holds_0 G fr P v0 v1 (h, kc, ks)) : wv_C G yX13_holds [va_rf v0, va_rf v1] h fr kc ks P := by
  refine wv_enter (lv := [(0, va_rf v0), (1, va_rf v1)]) hG (by decide +kernel) q1122 (by decide) (by simp [lg_sl, wv_rfc, wv_kI, wv_kJ, wv_kF, wv_kD]) (by simp [lv_args, wv_rfc, wv_kI, wv_kJ, wv_kF, wv_kD]) ?_
  intro p e R s m args below meth c X H locs cells slots ls S hl
  exact wk_X13_holds_0 X hv H locs cells slots ls S (lv_sub hl [0, 1] rfl)

def vc_X13_init_0 (G : wv_G) (fr : Nat) (P : wv_R → wv_H → Prop) (v0 : Option Nat) (v1 : Option Nat) (w : wv_W) : Prop :=
  (∃ a, v0 = some a) ∧ 1 ≤ fr ∧ (wv_pt w v0 ciX13 0 (va_rf v1) (fun w6 => P (.inl none) w6.1))
set_option maxHeartbeats 4000000 in
theorem wk_X13_init_0 {G : wv_G} {p : Program} {e : Env} {R : Room} {s : State} {m : MethodId} {args : Array Value} {below : List Frame} {meth : Method} {c : Code} {fr : Nat} {P : wv_R → wv_H → Prop} (X : wv_ok G p R s m args meth c fr "Weaversgate$FlowPattern" cX13_init 2 (Option.none : Option Jvm.ClassFile.FieldType) "<init>" []) {v0 : Option Nat} {v1 : Option Nat} {w : wv_W} (hv : vc_X13_init_0 G fr P v0 v1 w) : wv_J G p e R s m args below meth c 2 P w 0 [(0, va_rf v0), (1, va_rf v1)] [] := by
  intro H locs cells slots ls S hl
  unfold vc_X13_init_0 at hv
  refine wq_aload_n X dX13_init_0 rfl (lv_at hl 0 rfl) ?_
  obtain ⟨⟨_, hr⟩, h1, hv⟩ := hv
  refine wq_objInit X hr q1459 q125 q126 h1 (by simp [wv_rfc, wv_kI, wv_kJ, wv_kF, wv_kD]) hl.1 dX13_init_1 ?_
  refine wq_aload_n X dX13_init_4 rfl (lv_at hl 0 rfl) ?_
  refine wq_aload_n X dX13_init_5 rfl (lv_at hl 1 rfl) ?_
  refine wq_ptF X S hv tyX13 tyX13_ok nmX13 ccX13 in_X13 (k := 0) (by decide) q1460 rfl rfl rfl (wv_fnA (Or.inl ⟨_, rfl⟩)).1 (wv_fnA (Or.inl ⟨_, rfl⟩)).2 dX13_init_6 (fun w6 H locs S hv => ?_)
  exact wr_vret X S hv dX13_init_9
theorem wk_X13_init {G : wv_G} (hG : wv_G0 G) {v0 : Option Nat} {v1 : Option Nat} {h : wv_H} {fr kc ks : Nat} {P : wv_R → wv_H → Prop} (hv : vc_X13_init_0 G fr P v0 v1 (h, kc, ks)) : wv_C G yX13_init [va_rf v0, va_rf v1] h fr kc ks P := by
  refine wv_enter (lv := [(0, va_rf v0), (1, va_rf v1)]) hG (by decide +kernel) q1458 (by decide) (by simp [lg_sl, wv_rfc, wv_kI, wv_kJ, wv_kF, wv_kD]) (by simp [lv_args, wv_rfc, wv_kI, wv_kJ, wv_kF, wv_kD]) ?_
  intro p e R s m args below meth c X H locs cells slots ls S hl
  exact wk_X13_init_0 X hv H locs cells slots ls S (lv_sub hl [0, 1] rfl)

def vc_X14_isAsked_0 (G : wv_G) (fr : Nat) (P : wv_R → wv_H → Prop) (v0 : Option Nat) (v1 : Option Nat) (w : wv_W) : Prop :=
  (v1 = none → narrow .boolean (.int (1 : Int32)) = .int (1 : Int32) ∧ P (.inl (some (.int (1 : Int32)))) w.1) ∧ (¬ v1 = none → wv_cF G fr (⟨"Weaversgate$Pattern", "at", "(LWeaversgate$Place;)C"⟩ : MethodName) v0 [va_rf v1] w (wv_rI (fun x6 w6 => (¬ x6 = (109 : Int32) → narrow .boolean (.int (0 : Int32)) = .int (0 : Int32) ∧ P (.inl (some (.int (0 : Int32)))) w6.1) ∧ (x6 = (109 : Int32) → narrow .boolean (.int (1 : Int32)) = .int (1 : Int32) ∧ P (.inl (some (.int (1 : Int32)))) w6.1)) (wv_pr P)))
set_option maxHeartbeats 4000000 in
theorem wk_X14_isAsked_0 {G : wv_G} {p : Program} {e : Env} {R : Room} {s : State} {m : MethodId} {args : Array Value} {below : List Frame} {meth : Method} {c : Code} {fr : Nat} {P : wv_R → wv_H → Prop} (X : wv_ok G p R s m args meth c fr "Weaversgate$Pattern" cX14_isAsked 2 (Option.some Jvm.ClassFile.FieldType.boolean) "isAsked" []) {v0 : Option Nat} {v1 : Option Nat} {w : wv_W} (hv : vc_X14_isAsked_0 G fr P v0 v1 w) : wv_J G p e R s m args below meth c 2 P w 0 [(0, va_rf v0), (1, va_rf v1)] [] := by
  intro H locs cells slots ls S hl
  unfold vc_X14_isAsked_0 at hv
  refine wq_aload_n X dX14_isAsked_0 rfl (lv_at hl 1 rfl) ?_
  refine wq_ifnull (tgt := 16) X dX14_isAsked_1 (by decide) (fun c1 => ?_) (fun c1 => ?_)
  · have hv := hv.1 c1
    refine lv_iconst (v := (1 : Int32)) X.hx X.hb dX14_isAsked_16 (by decide) ?_
    refine lv_goto (tgt := 21) X.hx X.hb dX14_isAsked_17 (by decide) ?_
    exact wr_iret X S hv.1 hv.2 dX14_isAsked_21
  · have hv := hv.2 c1
    refine wq_aload_n X dX14_isAsked_4 rfl (lv_at hl 0 rfl) ?_
    refine wq_aload_n X dX14_isAsked_5 rfl (lv_at hl 1 rfl) ?_
    refine wq_cF_I X S hv q1103 ⟨by decide +kernel, by decide +kernel⟩ (nA := 1) (As := [va_rf v1]) (by decide +kernel) rfl rfl (by simp [wv_rfc, wv_kI, wv_kJ, wv_kF, wv_kD]) hl.1 dX14_isAsked_6 (fun x6 w6 H locs cells slots S hv => ?_) (wq_kx X rfl)
    refine lv_bipush (v := (109 : Int32)) X.hx X.hb dX14_isAsked_11 (by decide) ?_
    refine lv_icmp_ne (tgt := 20) X.hx X.hb dX14_isAsked_13 (by decide) (fun c13 => ?_) (fun c13 => ?_)
    · have hv := hv.1 c13
      refine lv_iconst (v := (0 : Int32)) X.hx X.hb dX14_isAsked_20 (by decide) ?_
      exact wr_iret X S hv.1 hv.2 dX14_isAsked_21
    · have hv := hv.2 c13
      refine lv_iconst (v := (1 : Int32)) X.hx X.hb dX14_isAsked_16 (by decide) ?_
      refine lv_goto (tgt := 21) X.hx X.hb dX14_isAsked_17 (by decide) ?_
      exact wr_iret X S hv.1 hv.2 dX14_isAsked_21
theorem wk_X14_isAsked {G : wv_G} (hG : wv_G0 G) {v0 : Option Nat} {v1 : Option Nat} {h : wv_H} {fr kc ks : Nat} {P : wv_R → wv_H → Prop} (hv : vc_X14_isAsked_0 G fr P v0 v1 (h, kc, ks)) : wv_C G yX14_isAsked [va_rf v0, va_rf v1] h fr kc ks P := by
  refine wv_enter (lv := [(0, va_rf v0), (1, va_rf v1)]) hG (by decide +kernel) q1101 (by decide) (by simp [lg_sl, wv_rfc, wv_kI, wv_kJ, wv_kF, wv_kD]) (by simp [lv_args, wv_rfc, wv_kI, wv_kJ, wv_kF, wv_kD]) ?_
  intro p e R s m args below meth c X H locs cells slots ls S hl
  exact wk_X14_isAsked_0 X hv H locs cells slots ls S (lv_sub hl [0, 1] rfl)

def vc_X14_join_11 (G : wv_G) (fr : Nat) (P : wv_R → wv_H → Prop) (v0 : Option Nat) (v1 : Option Nat) (v2 : Int32) (s0 : Int32) (w : wv_W) : Prop :=
  wv_no G w (wo_o ciX15 [.int 0, va_rf none, va_rf none, .int 0]) 4 (fun a12 w12 => wv_cI G fr yX15_init (some a12) [.int v2, va_rf v0, va_rf v1, .int s0] w12 (wv_rV (fun w20 => P (.inl (some (va_rf (some a12)))) w20.1) (wv_pr P)))
def vc_X14_join_0 (G : wv_G) (fr : Nat) (P : wv_R → wv_H → Prop) (v0 : Option Nat) (v1 : Option Nat) (v2 : Int32) (w : wv_W) : Prop :=
  (v2 = 0 → vc_X14_join_11 G fr P v0 v1 v2 (121 : Int32) w) ∧ (¬ v2 = 0 → vc_X14_join_11 G fr P v0 v1 v2 (110 : Int32) w)
set_option maxHeartbeats 4000000 in
theorem wk_X14_join_11 {G : wv_G} {p : Program} {e : Env} {R : Room} {s : State} {m : MethodId} {args : Array Value} {below : List Frame} {meth : Method} {c : Code} {fr : Nat} {P : wv_R → wv_H → Prop} (X : wv_ok G p R s m args meth c fr "Weaversgate$Pattern" cX14_join 4 (Option.some (Jvm.ClassFile.FieldType.object "Weaversgate$Pattern")) "join" []) {v0 : Option Nat} {v1 : Option Nat} {v2 : Int32} {s0 : Int32} {w : wv_W} (hv : vc_X14_join_11 G fr P v0 v1 v2 s0 w) : wv_J G p e R s m args below meth c 4 P w 11 [(0, va_rf v0), (1, va_rf v1), (2, .int v2)] [.int s0] := by
  intro H locs cells slots ls S hl
  unfold vc_X14_join_11 at hv
  refine lv_istore_n X.hx X.hb (i := 3) (lv' := [(3, .int s0), (0, va_rf v0), (1, va_rf v1), (2, .int v2)]) dX14_join_11 rfl hl (by decide) (by simp [wv_rfc, wv_kI, wv_kJ, wv_kF, wv_kD]) (fun ls hl => ?_)
  refine wq_new X S hv tyX15 tyX15_ok ccX15 in_X15 q1467 q1468 q92 (fun j hj => by have hj : j < 4 := hj; rcases (show j = 0 ∨ j = 1 ∨ j = 2 ∨ j = 3 by omega) with rfl | rfl | rfl | rfl <;> rfl) dX14_join_12 (fun a12 w12 H cells slots S hv => ?_)
  refine lv_dup X.hx X.hb dX14_join_15 (wv_rfc _) ?_
  refine lv_iload_n X.hx X.hb dX14_join_16 rfl (lv_at hl 3 rfl) ?_
  refine wq_aload_n X dX14_join_17 rfl (lv_at hl 1 rfl) ?_
  refine wq_aload_n X dX14_join_18 rfl (lv_at hl 2 rfl) ?_
  refine lv_iload_n X.hx X.hb dX14_join_19 rfl (lv_at hl 0 rfl) ?_
  refine wq_cI_V X S hv rfl q1469 q1470 q1471 q92 ⟨by decide +kernel, by decide +kernel⟩ (nA := 4) (As := [.int v2, va_rf v0, va_rf v1, .int s0]) (by decide +kernel) rfl rfl (by simp [wv_rfc, wv_kI, wv_kJ, wv_kF, wv_kD]) hl.1 dX14_join_20 (fun w20 H locs cells slots S hv => ?_) (wq_kx X rfl)
  exact wr_aret X S (Or.inl ⟨_, rfl⟩) hv dX14_join_23
set_option maxHeartbeats 4000000 in
theorem wk_X14_join_0 {G : wv_G} {p : Program} {e : Env} {R : Room} {s : State} {m : MethodId} {args : Array Value} {below : List Frame} {meth : Method} {c : Code} {fr : Nat} {P : wv_R → wv_H → Prop} (X : wv_ok G p R s m args meth c fr "Weaversgate$Pattern" cX14_join 4 (Option.some (Jvm.ClassFile.FieldType.object "Weaversgate$Pattern")) "join" []) {v0 : Option Nat} {v1 : Option Nat} {v2 : Int32} {w : wv_W} (hv : vc_X14_join_0 G fr P v0 v1 v2 w) : wv_J G p e R s m args below meth c 4 P w 0 [(0, va_rf v0), (1, va_rf v1), (2, .int v2)] [] := by
  intro H locs cells slots ls S hl
  unfold vc_X14_join_0 at hv
  refine lv_iload_n X.hx X.hb dX14_join_0 rfl (lv_at hl 2 rfl) ?_
  refine lv_if_eq (tgt := 9) X.hx X.hb dX14_join_1 (by decide) (fun c1 => ?_) (fun c1 => ?_)
  · have hv := hv.1 c1
    refine lv_bipush (v := (121 : Int32)) X.hx X.hb dX14_join_9 (by decide) ?_
    exact wk_X14_join_11 X  hv H locs cells slots ls S (lv_sub hl [0, 1, 2] rfl)
  · have hv := hv.2 c1
    refine lv_bipush (v := (110 : Int32)) X.hx X.hb dX14_join_4 (by decide) ?_
    refine lv_goto (tgt := 11) X.hx X.hb dX14_join_6 (by decide) ?_
    exact wk_X14_join_11 X  hv H locs cells slots ls S (lv_sub hl [0, 1, 2] rfl)
theorem wk_X14_join {G : wv_G} (hG : wv_G0 G) {v0 : Option Nat} {v1 : Option Nat} {v2 : Int32} {h : wv_H} {fr kc ks : Nat} {P : wv_R → wv_H → Prop} (hv : vc_X14_join_0 G fr P v0 v1 v2 (h, kc, ks)) : wv_C G yX14_join [va_rf v0, va_rf v1, .int v2] h fr kc ks P := by
  refine wv_enter (lv := [(0, va_rf v0), (1, va_rf v1), (2, .int v2)]) hG (by decide +kernel) q1466 (by decide) (by simp [lg_sl, wv_rfc, wv_kI, wv_kJ, wv_kF, wv_kD]) (by simp [lv_args, wv_rfc, wv_kI, wv_kJ, wv_kF, wv_kD]) ?_
  intro p e R s m args below meth c X H locs cells slots ls S hl
  exact wk_X14_join_0 X hv H locs cells slots ls S (lv_sub hl [0, 1, 2] rfl)

def vc_X14_not_0 (G : wv_G) (fr : Nat) (P : wv_R → wv_H → Prop) (v0 : Option Nat) (w : wv_W) : Prop :=
  wv_no G w (wo_o ciX16 [va_rf none]) 1 (fun a0 w0 => wv_cI G fr yX16_init (some a0) [va_rf v0] w0 (wv_rV (fun w5 => P (.inl (some (va_rf (some a0)))) w5.1) (wv_pr P)))
set_option maxHeartbeats 4000000 in
theorem wk_X14_not_0 {G : wv_G} {p : Program} {e : Env} {R : Room} {s : State} {m : MethodId} {args : Array Value} {below : List Frame} {meth : Method} {c : Code} {fr : Nat} {P : wv_R → wv_H → Prop} (X : wv_ok G p R s m args meth c fr "Weaversgate$Pattern" cX14_not 1 (Option.some (Jvm.ClassFile.FieldType.object "Weaversgate$Pattern")) "not" []) {v0 : Option Nat} {w : wv_W} (hv : vc_X14_not_0 G fr P v0 w) : wv_J G p e R s m args below meth c 1 P w 0 [(0, va_rf v0)] [] := by
  intro H locs cells slots ls S hl
  unfold vc_X14_not_0 at hv
  refine wq_new X S hv tyX16 tyX16_ok ccX16 in_X16 q1489 q1490 q93 (fun j hj => by have hj : j < 1 := hj; rcases (show j = 0 by omega) with rfl <;> rfl) dX14_not_0 (fun a0 w0 H cells slots S hv => ?_)
  refine lv_dup X.hx X.hb dX14_not_3 (wv_rfc _) ?_
  refine wq_aload_n X dX14_not_4 rfl (lv_at hl 0 rfl) ?_
  refine wq_cI_V X S hv rfl q1491 q1492 q1493 q93 ⟨by decide +kernel, by decide +kernel⟩ (nA := 1) (As := [va_rf v0]) (by decide +kernel) rfl rfl (by simp [wv_rfc, wv_kI, wv_kJ, wv_kF, wv_kD]) hl.1 dX14_not_5 (fun w5 H locs cells slots S hv => ?_) (wq_kx X rfl)
  exact wr_aret X S (Or.inl ⟨_, rfl⟩) hv dX14_not_8
theorem wk_X14_not {G : wv_G} (hG : wv_G0 G) {v0 : Option Nat} {h : wv_H} {fr kc ks : Nat} {P : wv_R → wv_H → Prop} (hv : vc_X14_not_0 G fr P v0 (h, kc, ks)) : wv_C G yX14_not [va_rf v0] h fr kc ks P := by
  refine wv_enter (lv := [(0, va_rf v0)]) hG (by decide +kernel) q1488 (by decide) (by simp [lg_sl, wv_rfc, wv_kI, wv_kJ, wv_kF, wv_kD]) (by simp [lv_args, wv_rfc, wv_kI, wv_kJ, wv_kF, wv_kD]) ?_
  intro p e R s m args below meth c X H locs cells slots ls S hl
  exact wk_X14_not_0 X hv H locs cells slots ls S (lv_sub hl [0] rfl)

def vc_X14_sure_0 (G : wv_G) (fr : Nat) (P : wv_R → wv_H → Prop) (v0 : Int32) (w : wv_W) : Prop :=
  (v0 = 0 → narrow .char (.int (110 : Int32)) = .int (110 : Int32) ∧ P (.inl (some (.int (110 : Int32)))) w.1) ∧ (¬ v0 = 0 → narrow .char (.int (121 : Int32)) = .int (121 : Int32) ∧ P (.inl (some (.int (121 : Int32)))) w.1)
set_option maxHeartbeats 4000000 in
theorem wk_X14_sure_0 {G : wv_G} {p : Program} {e : Env} {R : Room} {s : State} {m : MethodId} {args : Array Value} {below : List Frame} {meth : Method} {c : Code} {fr : Nat} {P : wv_R → wv_H → Prop} (X : wv_ok G p R s m args meth c fr "Weaversgate$Pattern" cX14_sure 1 (Option.some Jvm.ClassFile.FieldType.char) "sure" []) {v0 : Int32} {w : wv_W} (hv : vc_X14_sure_0 G fr P v0 w) : wv_J G p e R s m args below meth c 1 P w 0 [(0, .int v0)] [] := by
  intro H locs cells slots ls S hl
  unfold vc_X14_sure_0 at hv
  refine lv_iload_n X.hx X.hb dX14_sure_0 rfl (lv_at hl 0 rfl) ?_
  refine lv_if_eq (tgt := 9) X.hx X.hb dX14_sure_1 (by decide) (fun c1 => ?_) (fun c1 => ?_)
  · have hv := hv.1 c1
    refine lv_bipush (v := (110 : Int32)) X.hx X.hb dX14_sure_9 (by decide) ?_
    exact wr_iret X S hv.1 hv.2 dX14_sure_11
  · have hv := hv.2 c1
    refine lv_bipush (v := (121 : Int32)) X.hx X.hb dX14_sure_4 (by decide) ?_
    refine lv_goto (tgt := 11) X.hx X.hb dX14_sure_6 (by decide) ?_
    exact wr_iret X S hv.1 hv.2 dX14_sure_11
theorem wk_X14_sure {G : wv_G} (hG : wv_G0 G) {v0 : Int32} {h : wv_H} {fr kc ks : Nat} {P : wv_R → wv_H → Prop} (hv : vc_X14_sure_0 G fr P v0 (h, kc, ks)) : wv_C G yX14_sure [.int v0] h fr kc ks P := by
  refine wv_enter (lv := [(0, .int v0)]) hG (by decide +kernel) q850 (by decide) (by simp [lg_sl, wv_rfc, wv_kI, wv_kJ, wv_kF, wv_kD]) (by simp [lv_args, wv_rfc, wv_kI, wv_kJ, wv_kF, wv_kD]) ?_
  intro p e R s m args below meth c X H locs cells slots ls S hl
  exact wk_X14_sure_0 X hv H locs cells slots ls S (lv_sub hl [0] rfl)

def vc_X15_at_43 (G : wv_G) (fr : Nat) (P : wv_R → wv_H → Prop) (v0 : Option Nat) (v2 : Int32) (v3 : Int32) (s0 : Int32) (w : wv_W) : Prop :=
  (s0 = 0 → (¬ v2 = v3 → narrow .char (.int (109 : Int32)) = .int (109 : Int32) ∧ P (.inl (some (.int (109 : Int32)))) w.1) ∧ (v2 = v3 → narrow .char (.int v2) = .int v2 ∧ P (.inl (some (.int v2))) w.1)) ∧ (¬ s0 = 0 → wv_gI w v0 ciX15 3 (fun x51 => narrow .char (.int x51) = .int x51 ∧ P (.inl (some (.int x51))) w.1))
def vc_X15_at_0 (G : wv_G) (fr : Nat) (P : wv_R → wv_H → Prop) (v0 : Option Nat) (v1 : Option Nat) (w : wv_W) : Prop :=
  wv_gA w v0 ciX15 1 (fun x1 => wv_cF G fr (⟨"Weaversgate$Pattern", "at", "(LWeaversgate$Place;)C"⟩ : MethodName) x1 [va_rf v1] w (wv_rI (fun x5 w5 => wv_gA w5 v0 ciX15 2 (fun x12 => wv_cF G fr (⟨"Weaversgate$Pattern", "at", "(LWeaversgate$Place;)C"⟩ : MethodName) x12 [va_rf v1] w5 (wv_rI (fun x16 w16 => wv_gI w16 v0 ciX15 3 (fun x24 => (x5 = x24 → vc_X15_at_43 G fr P v0 x5 x16 (1 : Int32) w16) ∧ (¬ x5 = x24 → wv_gI w16 v0 ciX15 3 (fun x32 => (¬ x16 = x32 → vc_X15_at_43 G fr P v0 x5 x16 (0 : Int32) w16) ∧ (x16 = x32 → vc_X15_at_43 G fr P v0 x5 x16 (1 : Int32) w16))))) (wv_pr P)))) (wv_pr P)))
set_option maxHeartbeats 4000000 in
theorem wk_X15_at_43 {G : wv_G} {p : Program} {e : Env} {R : Room} {s : State} {m : MethodId} {args : Array Value} {below : List Frame} {meth : Method} {c : Code} {fr : Nat} {P : wv_R → wv_H → Prop} (X : wv_ok G p R s m args meth c fr "Weaversgate$Pattern$2" cX15_at 5 (Option.some Jvm.ClassFile.FieldType.char) "at" []) {v0 : Option Nat} {v2 : Int32} {v3 : Int32} {s0 : Int32} {w : wv_W} (hv : vc_X15_at_43 G fr P v0 v2 v3 s0 w) : wv_J G p e R s m args below meth c 5 P w 43 [(0, va_rf v0), (2, .int v2), (3, .int v3)] [.int s0] := by
  intro H locs cells slots ls S hl
  unfold vc_X15_at_43 at hv
  refine lv_istore X.hx X.hb (i := 4) (lv' := [(4, .int s0), (0, va_rf v0), (2, .int v2), (3, .int v3)]) dX15_at_43 hl (by decide) (by simp [wv_rfc, wv_kI, wv_kJ, wv_kF, wv_kD]) (fun ls hl => ?_)
  refine lv_iload X.hx X.hb dX15_at_45 (lv_at hl 0 rfl) ?_
  refine lv_if_eq (tgt := 57) X.hx X.hb dX15_at_47 (by decide) (fun c47 => ?_) (fun c47 => ?_)
  · have hv := hv.1 c47
    refine lv_iload_n X.hx X.hb dX15_at_57 rfl (lv_at hl 2 rfl) ?_
    refine lv_iload_n X.hx X.hb dX15_at_58 rfl (lv_at hl 3 rfl) ?_
    refine lv_icmp_ne (tgt := 66) X.hx X.hb dX15_at_59 (by decide) (fun c59 => ?_) (fun c59 => ?_)
    · have hv := hv.1 c59
      refine lv_bipush (v := (109 : Int32)) X.hx X.hb dX15_at_66 (by decide) ?_
      exact wr_iret X S hv.1 hv.2 dX15_at_68
    · have hv := hv.2 c59
      refine lv_iload_n X.hx X.hb dX15_at_62 rfl (lv_at hl 2 rfl) ?_
      refine lv_goto (tgt := 68) X.hx X.hb dX15_at_63 (by decide) ?_
      exact wr_iret X S hv.1 hv.2 dX15_at_68
  · have hv := hv.2 c47
    refine wq_aload_n X dX15_at_50 rfl (lv_at hl 1 rfl) ?_
    refine wq_gI X S hv ccX15 in_X15 (k := 3) (by decide) q1476 dX15_at_51 (fun x51 hv => ?_)
    refine lv_goto (tgt := 68) X.hx X.hb dX15_at_54 (by decide) ?_
    exact wr_iret X S hv.1 hv.2 dX15_at_68
set_option maxHeartbeats 4000000 in
theorem wk_X15_at_0 {G : wv_G} {p : Program} {e : Env} {R : Room} {s : State} {m : MethodId} {args : Array Value} {below : List Frame} {meth : Method} {c : Code} {fr : Nat} {P : wv_R → wv_H → Prop} (X : wv_ok G p R s m args meth c fr "Weaversgate$Pattern$2" cX15_at 5 (Option.some Jvm.ClassFile.FieldType.char) "at" []) {v0 : Option Nat} {v1 : Option Nat} {w : wv_W} (hv : vc_X15_at_0 G fr P v0 v1 w) : wv_J G p e R s m args below meth c 5 P w 0 [(0, va_rf v0), (1, va_rf v1)] [] := by
  intro H locs cells slots ls S hl
  unfold vc_X15_at_0 at hv
  refine wq_aload_n X dX15_at_0 rfl (lv_at hl 0 rfl) ?_
  refine wq_gA X S hv ccX15 in_X15 (k := 1) (by decide) q1474 dX15_at_1 (fun x1 hv => ?_)
  refine wq_aload_n X dX15_at_4 rfl (lv_at hl 1 rfl) ?_
  refine wq_cF_I X S hv q881 ⟨by decide +kernel, by decide +kernel⟩ (nA := 1) (As := [va_rf v1]) (by decide +kernel) rfl rfl (by simp [wv_rfc, wv_kI, wv_kJ, wv_kF, wv_kD]) hl.1 dX15_at_5 (fun x5 w5 H locs cells slots S hv => ?_) (wq_kx X rfl)
  refine lv_istore_n X.hx X.hb (i := 2) (lv' := [(2, .int x5), (0, va_rf v0), (1, va_rf v1)]) dX15_at_10 rfl hl (by decide) (by simp [wv_rfc, wv_kI, wv_kJ, wv_kF, wv_kD]) (fun ls hl => ?_)
  refine wq_aload_n X dX15_at_11 rfl (lv_at hl 1 rfl) ?_
  refine wq_gA X S hv ccX15 in_X15 (k := 2) (by decide) q1475 dX15_at_12 (fun x12 hv => ?_)
  refine wq_aload_n X dX15_at_15 rfl (lv_at hl 2 rfl) ?_
  refine wq_cF_I X S hv q881 ⟨by decide +kernel, by decide +kernel⟩ (nA := 1) (As := [va_rf v1]) (by decide +kernel) rfl rfl (by simp [wv_rfc, wv_kI, wv_kJ, wv_kF, wv_kD]) hl.1 dX15_at_16 (fun x16 w16 H locs cells slots S hv => ?_) (wq_kx X rfl)
  refine lv_istore_n X.hx X.hb (i := 3) (lv' := [(3, .int x16), (2, .int x5), (0, va_rf v0), (1, va_rf v1)]) dX15_at_21 rfl hl (by decide) (by simp [wv_rfc, wv_kI, wv_kJ, wv_kF, wv_kD]) (fun ls hl => ?_)
  refine lv_iload_n X.hx X.hb dX15_at_22 rfl (lv_at hl 1 rfl) ?_
  refine wq_aload_n X dX15_at_23 rfl (lv_at hl 2 rfl) ?_
  refine wq_gI X S hv ccX15 in_X15 (k := 3) (by decide) q1476 dX15_at_24 (fun x24 hv => ?_)
  refine lv_icmp_eq (tgt := 38) X.hx X.hb dX15_at_27 (by decide) (fun c27 => ?_) (fun c27 => ?_)
  · have hv := hv.1 c27
    refine lv_iconst (v := (1 : Int32)) X.hx X.hb dX15_at_38 (by decide) ?_
    refine lv_goto (tgt := 43) X.hx X.hb dX15_at_39 (by decide) ?_
    exact wk_X15_at_43 X  hv H locs cells slots ls S (lv_sub hl [2, 1, 0] rfl)
  · have hv := hv.2 c27
    refine lv_iload_n X.hx X.hb dX15_at_30 rfl (lv_at hl 0 rfl) ?_
    refine wq_aload_n X dX15_at_31 rfl (lv_at hl 2 rfl) ?_
    refine wq_gI X S hv ccX15 in_X15 (k := 3) (by decide) q1476 dX15_at_32 (fun x32 hv => ?_)
    refine lv_icmp_ne (tgt := 42) X.hx X.hb dX15_at_35 (by decide) (fun c35 => ?_) (fun c35 => ?_)
    · have hv := hv.1 c35
      refine lv_iconst (v := (0 : Int32)) X.hx X.hb dX15_at_42 (by decide) ?_
      exact wk_X15_at_43 X  hv H locs cells slots ls S (lv_sub hl [2, 1, 0] rfl)
    · have hv := hv.2 c35
      refine lv_iconst (v := (1 : Int32)) X.hx X.hb dX15_at_38 (by decide) ?_
      refine lv_goto (tgt := 43) X.hx X.hb dX15_at_39 (by decide) ?_
      exact wk_X15_at_43 X  hv H locs cells slots ls S (lv_sub hl [2, 1, 0] rfl)
theorem wk_X15_at {G : wv_G} (hG : wv_G0 G) {v0 : Option Nat} {v1 : Option Nat} {h : wv_H} {fr kc ks : Nat} {P : wv_R → wv_H → Prop} (hv : vc_X15_at_0 G fr P v0 v1 (h, kc, ks)) : wv_C G yX15_at [va_rf v0, va_rf v1] h fr kc ks P := by
  refine wv_enter (lv := [(0, va_rf v0), (1, va_rf v1)]) hG (by decide +kernel) q879 (by decide) (by simp [lg_sl, wv_rfc, wv_kI, wv_kJ, wv_kF, wv_kD]) (by simp [lv_args, wv_rfc, wv_kI, wv_kJ, wv_kF, wv_kD]) ?_
  intro p e R s m args below meth c X H locs cells slots ls S hl
  exact wk_X15_at_0 X hv H locs cells slots ls S (lv_sub hl [0, 1] rfl)

def vc_X15_holds_0 (G : wv_G) (fr : Nat) (P : wv_R → wv_H → Prop) (v0 : Option Nat) (v1 : Option Nat) (w : wv_W) : Prop :=
  wv_gI w v0 ciX15 0 (fun x1 => (x1 = 0 → wv_gA w v0 ciX15 1 (fun x42 => wv_cF G fr (⟨"Weaversgate$Pattern", "holds", "(LWeaversgate$Point;)Z"⟩ : MethodName) x42 [va_rf v1] w (wv_rI (fun x46 w46 => (¬ x46 = 0 → narrow .boolean (.int (1 : Int32)) = .int (1 : Int32) ∧ P (.inl (some (.int (1 : Int32)))) w46.1) ∧ (x46 = 0 → wv_gA w46 v0 ciX15 2 (fun x55 => wv_cF G fr (⟨"Weaversgate$Pattern", "holds", "(LWeaversgate$Point;)Z"⟩ : MethodName) x55 [va_rf v1] w46 (wv_rI (fun x59 w59 => (x59 = 0 → narrow .boolean (.int (0 : Int32)) = .int (0 : Int32) ∧ P (.inl (some (.int (0 : Int32)))) w59.1) ∧ (¬ x59 = 0 → narrow .boolean (.int (1 : Int32)) = .int (1 : Int32) ∧ P (.inl (some (.int (1 : Int32)))) w59.1)) (wv_pr P))))) (wv_pr P)))) ∧ (¬ x1 = 0 → wv_gA w v0 ciX15 1 (fun x8 => wv_cF G fr (⟨"Weaversgate$Pattern", "holds", "(LWeaversgate$Point;)Z"⟩ : MethodName) x8 [va_rf v1] w (wv_rI (fun x12 w12 => (x12 = 0 → narrow .boolean (.int (0 : Int32)) = .int (0 : Int32) ∧ P (.inl (some (.int (0 : Int32)))) w12.1) ∧ (¬ x12 = 0 → wv_gA w12 v0 ciX15 2 (fun x21 => wv_cF G fr (⟨"Weaversgate$Pattern", "holds", "(LWeaversgate$Point;)Z"⟩ : MethodName) x21 [va_rf v1] w12 (wv_rI (fun x25 w25 => (x25 = 0 → narrow .boolean (.int (0 : Int32)) = .int (0 : Int32) ∧ P (.inl (some (.int (0 : Int32)))) w25.1) ∧ (¬ x25 = 0 → narrow .boolean (.int (1 : Int32)) = .int (1 : Int32) ∧ P (.inl (some (.int (1 : Int32)))) w25.1)) (wv_pr P))))) (wv_pr P)))))
set_option maxHeartbeats 4000000 in
theorem wk_X15_holds_0 {G : wv_G} {p : Program} {e : Env} {R : Room} {s : State} {m : MethodId} {args : Array Value} {below : List Frame} {meth : Method} {c : Code} {fr : Nat} {P : wv_R → wv_H → Prop} (X : wv_ok G p R s m args meth c fr "Weaversgate$Pattern$2" cX15_holds 2 (Option.some Jvm.ClassFile.FieldType.boolean) "holds" []) {v0 : Option Nat} {v1 : Option Nat} {w : wv_W} (hv : vc_X15_holds_0 G fr P v0 v1 w) : wv_J G p e R s m args below meth c 2 P w 0 [(0, va_rf v0), (1, va_rf v1)] [] := by
  intro H locs cells slots ls S hl
  unfold vc_X15_holds_0 at hv
  refine wq_aload_n X dX15_holds_0 rfl (lv_at hl 0 rfl) ?_
  refine wq_gI X S hv ccX15 in_X15 (k := 0) (by decide) q1473 dX15_holds_1 (fun x1 hv => ?_)
  refine lv_if_eq (tgt := 41) X.hx X.hb dX15_holds_4 (by decide) (fun c4 => ?_) (fun c4 => ?_)
  · have hv := hv.1 c4
    refine wq_aload_n X dX15_holds_41 rfl (lv_at hl 0 rfl) ?_
    refine wq_gA X S hv ccX15 in_X15 (k := 1) (by decide) q1474 dX15_holds_42 (fun x42 hv => ?_)
    refine wq_aload_n X dX15_holds_45 rfl (lv_at hl 1 rfl) ?_
    refine wq_cF_I X S hv q1155 ⟨by decide +kernel, by decide +kernel⟩ (nA := 1) (As := [va_rf v1]) (by decide +kernel) rfl rfl (by simp [wv_rfc, wv_kI, wv_kJ, wv_kF, wv_kD]) hl.1 dX15_holds_46 (fun x46 w46 H locs cells slots S hv => ?_) (wq_kx X rfl)
    refine lv_if_ne (tgt := 67) X.hx X.hb dX15_holds_51 (by decide) (fun c51 => ?_) (fun c51 => ?_)
    · have hv := hv.1 c51
      refine lv_iconst (v := (1 : Int32)) X.hx X.hb dX15_holds_67 (by decide) ?_
      refine lv_goto (tgt := 72) X.hx X.hb dX15_holds_68 (by decide) ?_
      exact wr_iret X S hv.1 hv.2 dX15_holds_72
    · have hv := hv.2 c51
      refine wq_aload_n X dX15_holds_54 rfl (lv_at hl 0 rfl) ?_
      refine wq_gA X S hv ccX15 in_X15 (k := 2) (by decide) q1475 dX15_holds_55 (fun x55 hv => ?_)
      refine wq_aload_n X dX15_holds_58 rfl (lv_at hl 1 rfl) ?_
      refine wq_cF_I X S hv q1155 ⟨by decide +kernel, by decide +kernel⟩ (nA := 1) (As := [va_rf v1]) (by decide +kernel) rfl rfl (by simp [wv_rfc, wv_kI, wv_kJ, wv_kF, wv_kD]) hl.1 dX15_holds_59 (fun x59 w59 H locs cells slots S hv => ?_) (wq_kx X rfl)
      refine lv_if_eq (tgt := 71) X.hx X.hb dX15_holds_64 (by decide) (fun c64 => ?_) (fun c64 => ?_)
      · have hv := hv.1 c64
        refine lv_iconst (v := (0 : Int32)) X.hx X.hb dX15_holds_71 (by decide) ?_
        exact wr_iret X S hv.1 hv.2 dX15_holds_72
      · have hv := hv.2 c64
        refine lv_iconst (v := (1 : Int32)) X.hx X.hb dX15_holds_67 (by decide) ?_
        refine lv_goto (tgt := 72) X.hx X.hb dX15_holds_68 (by decide) ?_
        exact wr_iret X S hv.1 hv.2 dX15_holds_72
  · have hv := hv.2 c4
    refine wq_aload_n X dX15_holds_7 rfl (lv_at hl 0 rfl) ?_
    refine wq_gA X S hv ccX15 in_X15 (k := 1) (by decide) q1474 dX15_holds_8 (fun x8 hv => ?_)
    refine wq_aload_n X dX15_holds_11 rfl (lv_at hl 1 rfl) ?_
    refine wq_cF_I X S hv q1155 ⟨by decide +kernel, by decide +kernel⟩ (nA := 1) (As := [va_rf v1]) (by decide +kernel) rfl rfl (by simp [wv_rfc, wv_kI, wv_kJ, wv_kF, wv_kD]) hl.1 dX15_holds_12 (fun x12 w12 H locs cells slots S hv => ?_) (wq_kx X rfl)
    refine lv_if_eq (tgt := 37) X.hx X.hb dX15_holds_17 (by decide) (fun c17 => ?_) (fun c17 => ?_)
    · have hv := hv.1 c17
      refine lv_iconst (v := (0 : Int32)) X.hx X.hb dX15_holds_37 (by decide) ?_
      refine lv_goto (tgt := 72) X.hx X.hb dX15_holds_38 (by decide) ?_
      exact wr_iret X S hv.1 hv.2 dX15_holds_72
    · have hv := hv.2 c17
      refine wq_aload_n X dX15_holds_20 rfl (lv_at hl 0 rfl) ?_
      refine wq_gA X S hv ccX15 in_X15 (k := 2) (by decide) q1475 dX15_holds_21 (fun x21 hv => ?_)
      refine wq_aload_n X dX15_holds_24 rfl (lv_at hl 1 rfl) ?_
      refine wq_cF_I X S hv q1155 ⟨by decide +kernel, by decide +kernel⟩ (nA := 1) (As := [va_rf v1]) (by decide +kernel) rfl rfl (by simp [wv_rfc, wv_kI, wv_kJ, wv_kF, wv_kD]) hl.1 dX15_holds_25 (fun x25 w25 H locs cells slots S hv => ?_) (wq_kx X rfl)
      refine lv_if_eq (tgt := 37) X.hx X.hb dX15_holds_30 (by decide) (fun c30 => ?_) (fun c30 => ?_)
      · have hv := hv.1 c30
        refine lv_iconst (v := (0 : Int32)) X.hx X.hb dX15_holds_37 (by decide) ?_
        refine lv_goto (tgt := 72) X.hx X.hb dX15_holds_38 (by decide) ?_
        exact wr_iret X S hv.1 hv.2 dX15_holds_72
      · have hv := hv.2 c30
        refine lv_iconst (v := (1 : Int32)) X.hx X.hb dX15_holds_33 (by decide) ?_
        refine lv_goto (tgt := 72) X.hx X.hb dX15_holds_34 (by decide) ?_
        exact wr_iret X S hv.1 hv.2 dX15_holds_72
theorem wk_X15_holds {G : wv_G} (hG : wv_G0 G) {v0 : Option Nat} {v1 : Option Nat} {h : wv_H} {fr kc ks : Nat} {P : wv_R → wv_H → Prop} (hv : vc_X15_holds_0 G fr P v0 v1 (h, kc, ks)) : wv_C G yX15_holds [va_rf v0, va_rf v1] h fr kc ks P := by
  refine wv_enter (lv := [(0, va_rf v0), (1, va_rf v1)]) hG (by decide +kernel) q1153 (by decide) (by simp [lg_sl, wv_rfc, wv_kI, wv_kJ, wv_kF, wv_kD]) (by simp [lv_args, wv_rfc, wv_kI, wv_kJ, wv_kF, wv_kD]) ?_
  intro p e R s m args below meth c X H locs cells slots ls S hl
  exact wk_X15_holds_0 X hv H locs cells slots ls S (lv_sub hl [0, 1] rfl)

def vc_X15_init_0 (G : wv_G) (fr : Nat) (P : wv_R → wv_H → Prop) (v0 : Option Nat) (v1 : Int32) (v2 : Option Nat) (v3 : Option Nat) (v4 : Int32) (w : wv_W) : Prop :=
  wv_fit .boolean v1 ∧ wv_pt w v0 ciX15 0 (.int v1) (fun w2 => wv_pt w2 v0 ciX15 1 (va_rf v2) (fun w7 => wv_pt w7 v0 ciX15 2 (va_rf v3) (fun w12 => wv_fit .char v4 ∧ wv_pt w12 v0 ciX15 3 (.int v4) (fun w18 => (∃ a, v0 = some a) ∧ 1 ≤ fr ∧ (P (.inl none) w18.1)))))
set_option maxHeartbeats 4000000 in
theorem wk_X15_init_0 {G : wv_G} {p : Program} {e : Env} {R : Room} {s : State} {m : MethodId} {args : Array Value} {below : List Frame} {meth : Method} {c : Code} {fr : Nat} {P : wv_R → wv_H → Prop} (X : wv_ok G p R s m args meth c fr "Weaversgate$Pattern$2" cX15_init 5 (Option.none : Option Jvm.ClassFile.FieldType) "<init>" []) {v0 : Option Nat} {v1 : Int32} {v2 : Option Nat} {v3 : Option Nat} {v4 : Int32} {w : wv_W} (hv : vc_X15_init_0 G fr P v0 v1 v2 v3 v4 w) : wv_J G p e R s m args below meth c 5 P w 0 [(0, va_rf v0), (1, .int v1), (2, va_rf v2), (3, va_rf v3), (4, .int v4)] [] := by
  intro H locs cells slots ls S hl
  unfold vc_X15_init_0 at hv
  refine wq_aload_n X dX15_init_0 rfl (lv_at hl 0 rfl) ?_
  refine lv_iload_n X.hx X.hb dX15_init_1 rfl (lv_at hl 1 rfl) ?_
  have hv2 := hv.1
  have hv := hv.2
  refine wq_ptF X S hv tyX15 tyX15_ok nmX15 ccX15 in_X15 (k := 0) (by decide) q1473 rfl rfl rfl hv2.1 hv2.2 dX15_init_2 (fun w2 H locs S hv => ?_)
  refine wq_aload_n X dX15_init_5 rfl (lv_at hl 0 rfl) ?_
  refine wq_aload_n X dX15_init_6 rfl (lv_at hl 2 rfl) ?_
  refine wq_ptF X S hv tyX15 tyX15_ok nmX15 ccX15 in_X15 (k := 1) (by decide) q1474 rfl rfl rfl (wv_fnA (Or.inl ⟨_, rfl⟩)).1 (wv_fnA (Or.inl ⟨_, rfl⟩)).2 dX15_init_7 (fun w7 H locs S hv => ?_)
  refine wq_aload_n X dX15_init_10 rfl (lv_at hl 0 rfl) ?_
  refine wq_aload_n X dX15_init_11 rfl (lv_at hl 3 rfl) ?_
  refine wq_ptF X S hv tyX15 tyX15_ok nmX15 ccX15 in_X15 (k := 2) (by decide) q1475 rfl rfl rfl (wv_fnA (Or.inl ⟨_, rfl⟩)).1 (wv_fnA (Or.inl ⟨_, rfl⟩)).2 dX15_init_12 (fun w12 H locs S hv => ?_)
  refine wq_aload_n X dX15_init_15 rfl (lv_at hl 0 rfl) ?_
  refine lv_iload X.hx X.hb dX15_init_16 (lv_at hl 4 rfl) ?_
  have hv18 := hv.1
  have hv := hv.2
  refine wq_ptF X S hv tyX15 tyX15_ok nmX15 ccX15 in_X15 (k := 3) (by decide) q1476 rfl rfl rfl hv18.1 hv18.2 dX15_init_18 (fun w18 H locs S hv => ?_)
  refine wq_aload_n X dX15_init_21 rfl (lv_at hl 0 rfl) ?_
  obtain ⟨⟨_, hr⟩, h1, hv⟩ := hv
  refine wq_objInit X hr q1472 q125 q126 h1 (by simp [wv_rfc, wv_kI, wv_kJ, wv_kF, wv_kD]) hl.1 dX15_init_22 ?_
  exact wr_vret X S hv dX15_init_25
theorem wk_X15_init {G : wv_G} (hG : wv_G0 G) {v0 : Option Nat} {v1 : Int32} {v2 : Option Nat} {v3 : Option Nat} {v4 : Int32} {h : wv_H} {fr kc ks : Nat} {P : wv_R → wv_H → Prop} (hv : vc_X15_init_0 G fr P v0 v1 v2 v3 v4 (h, kc, ks)) : wv_C G yX15_init [va_rf v0, .int v1, va_rf v2, va_rf v3, .int v4] h fr kc ks P := by
  refine wv_enter (lv := [(0, va_rf v0), (1, .int v1), (2, va_rf v2), (3, va_rf v3), (4, .int v4)]) hG (by decide +kernel) q1471 (by decide) (by simp [lg_sl, wv_rfc, wv_kI, wv_kJ, wv_kF, wv_kD]) (by simp [lv_args, wv_rfc, wv_kI, wv_kJ, wv_kF, wv_kD]) ?_
  intro p e R s m args below meth c X H locs cells slots ls S hl
  exact wk_X15_init_0 X hv H locs cells slots ls S (lv_sub hl [0, 1, 2, 3, 4] rfl)

def vc_X16_at_33 (G : wv_G) (fr : Nat) (P : wv_R → wv_H → Prop) (s0 : Int32) (w : wv_W) : Prop :=
  wv_c0 G fr yX14_sure [.int s0] w (wv_rI (fun x33 w33 => narrow .char (.int x33) = .int x33 ∧ P (.inl (some (.int x33))) w33.1) (wv_pr P))
def vc_X16_at_0 (G : wv_G) (fr : Nat) (P : wv_R → wv_H → Prop) (v0 : Option Nat) (v1 : Option Nat) (w : wv_W) : Prop :=
  wv_gA w v0 ciX16 0 (fun x1 => wv_cF G fr (⟨"Weaversgate$Pattern", "at", "(LWeaversgate$Place;)C"⟩ : MethodName) x1 [va_rf v1] w (wv_rI (fun x5 w5 => (¬ x5 = (109 : Int32) → (¬ x5 = (110 : Int32) → vc_X16_at_33 G fr P (0 : Int32) w5) ∧ (x5 = (110 : Int32) → vc_X16_at_33 G fr P (1 : Int32) w5)) ∧ (x5 = (109 : Int32) → narrow .char (.int (109 : Int32)) = .int (109 : Int32) ∧ P (.inl (some (.int (109 : Int32)))) w5.1)) (wv_pr P)))
set_option maxHeartbeats 4000000 in
theorem wk_X16_at_33 {G : wv_G} {p : Program} {e : Env} {R : Room} {s : State} {m : MethodId} {args : Array Value} {below : List Frame} {meth : Method} {c : Code} {fr : Nat} {P : wv_R → wv_H → Prop} (X : wv_ok G p R s m args meth c fr "Weaversgate$Pattern$1" cX16_at 3 (Option.some Jvm.ClassFile.FieldType.char) "at" []) {s0 : Int32} {w : wv_W} (hv : vc_X16_at_33 G fr P s0 w) : wv_J G p e R s m args below meth c 3 P w 33 [] [.int s0] := by
  intro H locs cells slots ls S hl
  unfold vc_X16_at_33 at hv
  refine wq_cS_I X S hv q909 q849 q91 ⟨by decide +kernel, by decide +kernel⟩ (nA := 1) (As := [.int s0]) (by decide +kernel) rfl rfl (by simp [wv_rfc, wv_kI, wv_kJ, wv_kF, wv_kD]) hl.1 dX16_at_33 (fun x33 w33 H locs cells slots S hv => ?_) (wq_kx X rfl)
  exact wr_iret X S hv.1 hv.2 dX16_at_36
set_option maxHeartbeats 4000000 in
theorem wk_X16_at_0 {G : wv_G} {p : Program} {e : Env} {R : Room} {s : State} {m : MethodId} {args : Array Value} {below : List Frame} {meth : Method} {c : Code} {fr : Nat} {P : wv_R → wv_H → Prop} (X : wv_ok G p R s m args meth c fr "Weaversgate$Pattern$1" cX16_at 3 (Option.some Jvm.ClassFile.FieldType.char) "at" []) {v0 : Option Nat} {v1 : Option Nat} {w : wv_W} (hv : vc_X16_at_0 G fr P v0 v1 w) : wv_J G p e R s m args below meth c 3 P w 0 [(0, va_rf v0), (1, va_rf v1)] [] := by
  intro H locs cells slots ls S hl
  unfold vc_X16_at_0 at hv
  refine wq_aload_n X dX16_at_0 rfl (lv_at hl 0 rfl) ?_
  refine wq_gA X S hv ccX16 in_X16 (k := 0) (by decide) q1495 dX16_at_1 (fun x1 hv => ?_)
  refine wq_aload_n X dX16_at_4 rfl (lv_at hl 1 rfl) ?_
  refine wq_cF_I X S hv q873 ⟨by decide +kernel, by decide +kernel⟩ (nA := 1) (As := [va_rf v1]) (by decide +kernel) rfl rfl (by simp [wv_rfc, wv_kI, wv_kJ, wv_kF, wv_kD]) hl.1 dX16_at_5 (fun x5 w5 H locs cells slots S hv => ?_) (wq_kx X rfl)
  refine lv_istore_n X.hx X.hb (i := 2) (lv' := [(2, .int x5), (0, va_rf v0), (1, va_rf v1)]) dX16_at_10 rfl hl (by decide) (by simp [wv_rfc, wv_kI, wv_kJ, wv_kF, wv_kD]) (fun ls hl => ?_)
  refine lv_iload_n X.hx X.hb dX16_at_11 rfl (lv_at hl 0 rfl) ?_
  refine lv_bipush (v := (109 : Int32)) X.hx X.hb dX16_at_12 (by decide) ?_
  refine lv_icmp_ne (tgt := 22) X.hx X.hb dX16_at_14 (by decide) (fun c14 => ?_) (fun c14 => ?_)
  · have hv := hv.1 c14
    refine lv_iload_n X.hx X.hb dX16_at_22 rfl (lv_at hl 0 rfl) ?_
    refine lv_bipush (v := (110 : Int32)) X.hx X.hb dX16_at_23 (by decide) ?_
    refine lv_icmp_ne (tgt := 32) X.hx X.hb dX16_at_25 (by decide) (fun c25 => ?_) (fun c25 => ?_)
    · have hv := hv.1 c25
      refine lv_iconst (v := (0 : Int32)) X.hx X.hb dX16_at_32 (by decide) ?_
      exact wk_X16_at_33 X  hv H locs cells slots ls S (lv_sub hl [] rfl)
    · have hv := hv.2 c25
      refine lv_iconst (v := (1 : Int32)) X.hx X.hb dX16_at_28 (by decide) ?_
      refine lv_goto (tgt := 33) X.hx X.hb dX16_at_29 (by decide) ?_
      exact wk_X16_at_33 X  hv H locs cells slots ls S (lv_sub hl [] rfl)
  · have hv := hv.2 c14
    refine lv_bipush (v := (109 : Int32)) X.hx X.hb dX16_at_17 (by decide) ?_
    refine lv_goto (tgt := 36) X.hx X.hb dX16_at_19 (by decide) ?_
    exact wr_iret X S hv.1 hv.2 dX16_at_36
theorem wk_X16_at {G : wv_G} (hG : wv_G0 G) {v0 : Option Nat} {v1 : Option Nat} {h : wv_H} {fr kc ks : Nat} {P : wv_R → wv_H → Prop} (hv : vc_X16_at_0 G fr P v0 v1 (h, kc, ks)) : wv_C G yX16_at [va_rf v0, va_rf v1] h fr kc ks P := by
  refine wv_enter (lv := [(0, va_rf v0), (1, va_rf v1)]) hG (by decide +kernel) q871 (by decide) (by simp [lg_sl, wv_rfc, wv_kI, wv_kJ, wv_kF, wv_kD]) (by simp [lv_args, wv_rfc, wv_kI, wv_kJ, wv_kF, wv_kD]) ?_
  intro p e R s m args below meth c X H locs cells slots ls S hl
  exact wk_X16_at_0 X hv H locs cells slots ls S (lv_sub hl [0, 1] rfl)

def vc_X16_holds_0 (G : wv_G) (fr : Nat) (P : wv_R → wv_H → Prop) (v0 : Option Nat) (v1 : Option Nat) (w : wv_W) : Prop :=
  wv_gA w v0 ciX16 0 (fun x1 => wv_cF G fr (⟨"Weaversgate$Pattern", "holds", "(LWeaversgate$Point;)Z"⟩ : MethodName) x1 [va_rf v1] w (wv_rI (fun x5 w5 => (¬ x5 = 0 → narrow .boolean (.int (0 : Int32)) = .int (0 : Int32) ∧ P (.inl (some (.int (0 : Int32)))) w5.1) ∧ (x5 = 0 → narrow .boolean (.int (1 : Int32)) = .int (1 : Int32) ∧ P (.inl (some (.int (1 : Int32)))) w5.1)) (wv_pr P)))
set_option maxHeartbeats 4000000 in
theorem wk_X16_holds_0 {G : wv_G} {p : Program} {e : Env} {R : Room} {s : State} {m : MethodId} {args : Array Value} {below : List Frame} {meth : Method} {c : Code} {fr : Nat} {P : wv_R → wv_H → Prop} (X : wv_ok G p R s m args meth c fr "Weaversgate$Pattern$1" cX16_holds 2 (Option.some Jvm.ClassFile.FieldType.boolean) "holds" []) {v0 : Option Nat} {v1 : Option Nat} {w : wv_W} (hv : vc_X16_holds_0 G fr P v0 v1 w) : wv_J G p e R s m args below meth c 2 P w 0 [(0, va_rf v0), (1, va_rf v1)] [] := by
  intro H locs cells slots ls S hl
  unfold vc_X16_holds_0 at hv
  refine wq_aload_n X dX16_holds_0 rfl (lv_at hl 0 rfl) ?_
  refine wq_gA X S hv ccX16 in_X16 (k := 0) (by decide) q1495 dX16_holds_1 (fun x1 hv => ?_)
  refine wq_aload_n X dX16_holds_4 rfl (lv_at hl 1 rfl) ?_
  refine wq_cF_I X S hv q1148 ⟨by decide +kernel, by decide +kernel⟩ (nA := 1) (As := [va_rf v1]) (by decide +kernel) rfl rfl (by simp [wv_rfc, wv_kI, wv_kJ, wv_kF, wv_kD]) hl.1 dX16_holds_5 (fun x5 w5 H locs cells slots S hv => ?_) (wq_kx X rfl)
  refine lv_if_ne (tgt := 17) X.hx X.hb dX16_holds_10 (by decide) (fun c10 => ?_) (fun c10 => ?_)
  · have hv := hv.1 c10
    refine lv_iconst (v := (0 : Int32)) X.hx X.hb dX16_holds_17 (by decide) ?_
    exact wr_iret X S hv.1 hv.2 dX16_holds_18
  · have hv := hv.2 c10
    refine lv_iconst (v := (1 : Int32)) X.hx X.hb dX16_holds_13 (by decide) ?_
    refine lv_goto (tgt := 18) X.hx X.hb dX16_holds_14 (by decide) ?_
    exact wr_iret X S hv.1 hv.2 dX16_holds_18
theorem wk_X16_holds {G : wv_G} (hG : wv_G0 G) {v0 : Option Nat} {v1 : Option Nat} {h : wv_H} {fr kc ks : Nat} {P : wv_R → wv_H → Prop} (hv : vc_X16_holds_0 G fr P v0 v1 (h, kc, ks)) : wv_C G yX16_holds [va_rf v0, va_rf v1] h fr kc ks P := by
  refine wv_enter (lv := [(0, va_rf v0), (1, va_rf v1)]) hG (by decide +kernel) q1146 (by decide) (by simp [lg_sl, wv_rfc, wv_kI, wv_kJ, wv_kF, wv_kD]) (by simp [lv_args, wv_rfc, wv_kI, wv_kJ, wv_kF, wv_kD]) ?_
  intro p e R s m args below meth c X H locs cells slots ls S hl
  exact wk_X16_holds_0 X hv H locs cells slots ls S (lv_sub hl [0, 1] rfl)

def vc_X16_init_0 (G : wv_G) (fr : Nat) (P : wv_R → wv_H → Prop) (v0 : Option Nat) (v1 : Option Nat) (w : wv_W) : Prop :=
  wv_pt w v0 ciX16 0 (va_rf v1) (fun w2 => (∃ a, v0 = some a) ∧ 1 ≤ fr ∧ (P (.inl none) w2.1))
set_option maxHeartbeats 4000000 in
theorem wk_X16_init_0 {G : wv_G} {p : Program} {e : Env} {R : Room} {s : State} {m : MethodId} {args : Array Value} {below : List Frame} {meth : Method} {c : Code} {fr : Nat} {P : wv_R → wv_H → Prop} (X : wv_ok G p R s m args meth c fr "Weaversgate$Pattern$1" cX16_init 2 (Option.none : Option Jvm.ClassFile.FieldType) "<init>" []) {v0 : Option Nat} {v1 : Option Nat} {w : wv_W} (hv : vc_X16_init_0 G fr P v0 v1 w) : wv_J G p e R s m args below meth c 2 P w 0 [(0, va_rf v0), (1, va_rf v1)] [] := by
  intro H locs cells slots ls S hl
  unfold vc_X16_init_0 at hv
  refine wq_aload_n X dX16_init_0 rfl (lv_at hl 0 rfl) ?_
  refine wq_aload_n X dX16_init_1 rfl (lv_at hl 1 rfl) ?_
  refine wq_ptF X S hv tyX16 tyX16_ok nmX16 ccX16 in_X16 (k := 0) (by decide) q1495 rfl rfl rfl (wv_fnA (Or.inl ⟨_, rfl⟩)).1 (wv_fnA (Or.inl ⟨_, rfl⟩)).2 dX16_init_2 (fun w2 H locs S hv => ?_)
  refine wq_aload_n X dX16_init_5 rfl (lv_at hl 0 rfl) ?_
  obtain ⟨⟨_, hr⟩, h1, hv⟩ := hv
  refine wq_objInit X hr q1494 q125 q126 h1 (by simp [wv_rfc, wv_kI, wv_kJ, wv_kF, wv_kD]) hl.1 dX16_init_6 ?_
  exact wr_vret X S hv dX16_init_9
theorem wk_X16_init {G : wv_G} (hG : wv_G0 G) {v0 : Option Nat} {v1 : Option Nat} {h : wv_H} {fr kc ks : Nat} {P : wv_R → wv_H → Prop} (hv : vc_X16_init_0 G fr P v0 v1 (h, kc, ks)) : wv_C G yX16_init [va_rf v0, va_rf v1] h fr kc ks P := by
  refine wv_enter (lv := [(0, va_rf v0), (1, va_rf v1)]) hG (by decide +kernel) q1493 (by decide) (by simp [lg_sl, wv_rfc, wv_kI, wv_kJ, wv_kF, wv_kD]) (by simp [lv_args, wv_rfc, wv_kI, wv_kJ, wv_kF, wv_kD]) ?_
  intro p e R s m args below meth c X H locs cells slots ls S hl
  exact wk_X16_init_0 X hv H locs cells slots ls S (lv_sub hl [0, 1] rfl)

def vc_X17_at_16 (G : wv_G) (fr : Nat) (P : wv_R → wv_H → Prop) (s0 : Int32) (w : wv_W) : Prop :=
  wv_c0 G fr yX14_sure [.int s0] w (wv_rI (fun x16 w16 => narrow .char (.int x16) = .int x16 ∧ P (.inl (some (.int x16))) w16.1) (wv_pr P))
def vc_X17_at_0 (G : wv_G) (fr : Nat) (P : wv_R → wv_H → Prop) (v0 : Option Nat) (v1 : Option Nat) (w : wv_W) : Prop :=
  wv_gI w v1 ciX21 0 (fun x1 => wv_gI w v0 ciX17 0 (fun x5 => (¬ x1 = x5 → vc_X17_at_16 G fr P (0 : Int32) w) ∧ (x1 = x5 → vc_X17_at_16 G fr P (1 : Int32) w)))
set_option maxHeartbeats 4000000 in
theorem wk_X17_at_16 {G : wv_G} {p : Program} {e : Env} {R : Room} {s : State} {m : MethodId} {args : Array Value} {below : List Frame} {meth : Method} {c : Code} {fr : Nat} {P : wv_R → wv_H → Prop} (X : wv_ok G p R s m args meth c fr "Weaversgate$KindPattern" cX17_at 2 (Option.some Jvm.ClassFile.FieldType.char) "at" []) {s0 : Int32} {w : wv_W} (hv : vc_X17_at_16 G fr P s0 w) : wv_J G p e R s m args below meth c 2 P w 16 [] [.int s0] := by
  intro H locs cells slots ls S hl
  unfold vc_X17_at_16 at hv
  refine wq_cS_I X S hv q848 q849 q91 ⟨by decide +kernel, by decide +kernel⟩ (nA := 1) (As := [.int s0]) (by decide +kernel) rfl rfl (by simp [wv_rfc, wv_kI, wv_kJ, wv_kF, wv_kD]) hl.1 dX17_at_16 (fun x16 w16 H locs cells slots S hv => ?_) (wq_kx X rfl)
  exact wr_iret X S hv.1 hv.2 dX17_at_19
set_option maxHeartbeats 4000000 in
theorem wk_X17_at_0 {G : wv_G} {p : Program} {e : Env} {R : Room} {s : State} {m : MethodId} {args : Array Value} {below : List Frame} {meth : Method} {c : Code} {fr : Nat} {P : wv_R → wv_H → Prop} (X : wv_ok G p R s m args meth c fr "Weaversgate$KindPattern" cX17_at 2 (Option.some Jvm.ClassFile.FieldType.char) "at" []) {v0 : Option Nat} {v1 : Option Nat} {w : wv_W} (hv : vc_X17_at_0 G fr P v0 v1 w) : wv_J G p e R s m args below meth c 2 P w 0 [(0, va_rf v0), (1, va_rf v1)] [] := by
  intro H locs cells slots ls S hl
  unfold vc_X17_at_0 at hv
  refine wq_aload_n X dX17_at_0 rfl (lv_at hl 1 rfl) ?_
  refine wq_gIN X S hv ccX21 in_X21 (k := 0) (by decide) q725 dX17_at_1 (fun x1 hv => ?_)
  refine wq_aload_n X dX17_at_4 rfl (lv_at hl 0 rfl) ?_
  refine wq_gI X S hv ccX17 in_X17 (k := 0) (by decide) q1505 dX17_at_5 (fun x5 hv => ?_)
  refine lv_icmp_ne (tgt := 15) X.hx X.hb dX17_at_8 (by decide) (fun c8 => ?_) (fun c8 => ?_)
  · have hv := hv.1 c8
    refine lv_iconst (v := (0 : Int32)) X.hx X.hb dX17_at_15 (by decide) ?_
    exact wk_X17_at_16 X  hv H locs cells slots ls S (lv_sub hl [] rfl)
  · have hv := hv.2 c8
    refine lv_iconst (v := (1 : Int32)) X.hx X.hb dX17_at_11 (by decide) ?_
    refine lv_goto (tgt := 16) X.hx X.hb dX17_at_12 (by decide) ?_
    exact wk_X17_at_16 X  hv H locs cells slots ls S (lv_sub hl [] rfl)
theorem wk_X17_at {G : wv_G} (hG : wv_G0 G) {v0 : Option Nat} {v1 : Option Nat} {h : wv_H} {fr kc ks : Nat} {P : wv_R → wv_H → Prop} (hv : vc_X17_at_0 G fr P v0 v1 (h, kc, ks)) : wv_C G yX17_at [va_rf v0, va_rf v1] h fr kc ks P := by
  refine wv_enter (lv := [(0, va_rf v0), (1, va_rf v1)]) hG (by decide +kernel) q847 (by decide) (by simp [lg_sl, wv_rfc, wv_kI, wv_kJ, wv_kF, wv_kD]) (by simp [lv_args, wv_rfc, wv_kI, wv_kJ, wv_kF, wv_kD]) ?_
  intro p e R s m args below meth c X H locs cells slots ls S hl
  exact wk_X17_at_0 X hv H locs cells slots ls S (lv_sub hl [0, 1] rfl)

def vc_X17_holds_0 (G : wv_G) (fr : Nat) (P : wv_R → wv_H → Prop) (v0 : Option Nat) (v1 : Option Nat) (w : wv_W) : Prop :=
  wv_gI w v1 ciX25 0 (fun x1 => wv_gI w v0 ciX17 0 (fun x5 => (¬ x1 = x5 → narrow .boolean (.int (0 : Int32)) = .int (0 : Int32) ∧ P (.inl (some (.int (0 : Int32)))) w.1) ∧ (x1 = x5 → narrow .boolean (.int (1 : Int32)) = .int (1 : Int32) ∧ P (.inl (some (.int (1 : Int32)))) w.1)))
set_option maxHeartbeats 4000000 in
theorem wk_X17_holds_0 {G : wv_G} {p : Program} {e : Env} {R : Room} {s : State} {m : MethodId} {args : Array Value} {below : List Frame} {meth : Method} {c : Code} {fr : Nat} {P : wv_R → wv_H → Prop} (X : wv_ok G p R s m args meth c fr "Weaversgate$KindPattern" cX17_holds 2 (Option.some Jvm.ClassFile.FieldType.boolean) "holds" []) {v0 : Option Nat} {v1 : Option Nat} {w : wv_W} (hv : vc_X17_holds_0 G fr P v0 v1 w) : wv_J G p e R s m args below meth c 2 P w 0 [(0, va_rf v0), (1, va_rf v1)] [] := by
  intro H locs cells slots ls S hl
  unfold vc_X17_holds_0 at hv
  refine wq_aload_n X dX17_holds_0 rfl (lv_at hl 1 rfl) ?_
  refine wq_gIN X S hv ccX25 in_X25 (k := 0) (by decide) q1060 dX17_holds_1 (fun x1 hv => ?_)
  refine wq_aload_n X dX17_holds_4 rfl (lv_at hl 0 rfl) ?_
  refine wq_gI X S hv ccX17 in_X17 (k := 0) (by decide) q1505 dX17_holds_5 (fun x5 hv => ?_)
  refine lv_icmp_ne (tgt := 15) X.hx X.hb dX17_holds_8 (by decide) (fun c8 => ?_) (fun c8 => ?_)
  · have hv := hv.1 c8
    refine lv_iconst (v := (0 : Int32)) X.hx X.hb dX17_holds_15 (by decide) ?_
    exact wr_iret X S hv.1 hv.2 dX17_holds_16
  · have hv := hv.2 c8
    refine lv_iconst (v := (1 : Int32)) X.hx X.hb dX17_holds_11 (by decide) ?_
    refine lv_goto (tgt := 16) X.hx X.hb dX17_holds_12 (by decide) ?_
    exact wr_iret X S hv.1 hv.2 dX17_holds_16
theorem wk_X17_holds {G : wv_G} (hG : wv_G0 G) {v0 : Option Nat} {v1 : Option Nat} {h : wv_H} {fr kc ks : Nat} {P : wv_R → wv_H → Prop} (hv : vc_X17_holds_0 G fr P v0 v1 (h, kc, ks)) : wv_C G yX17_holds [va_rf v0, va_rf v1] h fr kc ks P := by
  refine wv_enter (lv := [(0, va_rf v0), (1, va_rf v1)]) hG (by decide +kernel) q1129 (by decide) (by simp [lg_sl, wv_rfc, wv_kI, wv_kJ, wv_kF, wv_kD]) (by simp [lv_args, wv_rfc, wv_kI, wv_kJ, wv_kF, wv_kD]) ?_
  intro p e R s m args below meth c X H locs cells slots ls S hl
  exact wk_X17_holds_0 X hv H locs cells slots ls S (lv_sub hl [0, 1] rfl)

def vc_X17_init_0 (G : wv_G) (fr : Nat) (P : wv_R → wv_H → Prop) (v0 : Option Nat) (v1 : Int32) (w : wv_W) : Prop :=
  (∃ a, v0 = some a) ∧ 1 ≤ fr ∧ (wv_fit .char v1 ∧ wv_pt w v0 ciX17 0 (.int v1) (fun w6 => P (.inl none) w6.1))
set_option maxHeartbeats 4000000 in
theorem wk_X17_init_0 {G : wv_G} {p : Program} {e : Env} {R : Room} {s : State} {m : MethodId} {args : Array Value} {below : List Frame} {meth : Method} {c : Code} {fr : Nat} {P : wv_R → wv_H → Prop} (X : wv_ok G p R s m args meth c fr "Weaversgate$KindPattern" cX17_init 2 (Option.none : Option Jvm.ClassFile.FieldType) "<init>" []) {v0 : Option Nat} {v1 : Int32} {w : wv_W} (hv : vc_X17_init_0 G fr P v0 v1 w) : wv_J G p e R s m args below meth c 2 P w 0 [(0, va_rf v0), (1, .int v1)] [] := by
  intro H locs cells slots ls S hl
  unfold vc_X17_init_0 at hv
  refine wq_aload_n X dX17_init_0 rfl (lv_at hl 0 rfl) ?_
  obtain ⟨⟨_, hr⟩, h1, hv⟩ := hv
  refine wq_objInit X hr q1504 q125 q126 h1 (by simp [wv_rfc, wv_kI, wv_kJ, wv_kF, wv_kD]) hl.1 dX17_init_1 ?_
  refine wq_aload_n X dX17_init_4 rfl (lv_at hl 0 rfl) ?_
  refine lv_iload_n X.hx X.hb dX17_init_5 rfl (lv_at hl 1 rfl) ?_
  have hv6 := hv.1
  have hv := hv.2
  refine wq_ptF X S hv tyX17 tyX17_ok nmX17 ccX17 in_X17 (k := 0) (by decide) q1505 rfl rfl rfl hv6.1 hv6.2 dX17_init_6 (fun w6 H locs S hv => ?_)
  exact wr_vret X S hv dX17_init_9
theorem wk_X17_init {G : wv_G} (hG : wv_G0 G) {v0 : Option Nat} {v1 : Int32} {h : wv_H} {fr kc ks : Nat} {P : wv_R → wv_H → Prop} (hv : vc_X17_init_0 G fr P v0 v1 (h, kc, ks)) : wv_C G yX17_init [va_rf v0, .int v1] h fr kc ks P := by
  refine wv_enter (lv := [(0, va_rf v0), (1, .int v1)]) hG (by decide +kernel) q1503 (by decide) (by simp [lg_sl, wv_rfc, wv_kI, wv_kJ, wv_kF, wv_kD]) (by simp [lv_args, wv_rfc, wv_kI, wv_kJ, wv_kF, wv_kD]) ?_
  intro p e R s m args below meth c X H locs cells slots ls S hl
  exact wk_X17_init_0 X hv H locs cells slots ls S (lv_sub hl [0, 1] rfl)

def vc_X18_at_82 (G : wv_G) (fr : Nat) (P : wv_R → wv_H → Prop) (v0 : Option Nat) (v1 : Option Nat) (w : wv_W) : Prop :=
  wv_gI w v1 ciX21 5 (fun x83 => wv_gI w v0 ciX18 1 (fun x87 => ((x83 &&& x87) = 0 → wv_gI w v1 ciX21 6 (fun x100 => wv_gI w v0 ciX18 1 (fun x104 => ((x100 &&& x104) = 0 → narrow .char (.int (109 : Int32)) = .int (109 : Int32) ∧ P (.inl (some (.int (109 : Int32)))) w.1) ∧ (¬ (x100 &&& x104) = 0 → narrow .char (.int (110 : Int32)) = .int (110 : Int32) ∧ P (.inl (some (.int (110 : Int32)))) w.1)))) ∧ (¬ (x83 &&& x87) = 0 → narrow .char (.int (121 : Int32)) = .int (121 : Int32) ∧ P (.inl (some (.int (121 : Int32)))) w.1)))
def vc_X18_at_78 (G : wv_G) (fr : Nat) (P : wv_R → wv_H → Prop) (v0 : Option Nat) (v1 : Option Nat) (s0 : Int32) (s1 : Int32) (s2 : Option Nat) (w : wv_W) : Prop :=
  wv_pt w s2 ciX21 6 (.int (s1 ||| s0)) (fun w79 => vc_X18_at_82 G fr P v0 v1 w79)
def vc_X18_at_55 (G : wv_G) (fr : Nat) (P : wv_R → wv_H → Prop) (v0 : Option Nat) (v1 : Option Nat) (v2 : Int32) (s0 : Int32) (s1 : Int32) (s2 : Option Nat) (w : wv_W) : Prop :=
  wv_pt w s2 ciX21 5 (.int (s1 ||| s0)) (fun w56 => wv_gI w56 v1 ciX21 6 (fun x61 => (¬ v2 = (110 : Int32) → vc_X18_at_78 G fr P v0 v1 (0 : Int32) x61 v1 w56) ∧ (v2 = (110 : Int32) → wv_gI w56 v0 ciX18 1 (fun x71 => vc_X18_at_78 G fr P v0 v1 x71 x61 v1 w56))))
def vc_X18_at_0 (G : wv_G) (fr : Nat) (P : wv_R → wv_H → Prop) (v0 : Option Nat) (v1 : Option Nat) (w : wv_W) : Prop :=
  wv_gI w v1 ciX21 4 (fun x1 => wv_gI w v0 ciX18 1 (fun x5 => (¬ (x1 &&& x5) = 0 → vc_X18_at_82 G fr P v0 v1 w) ∧ ((x1 &&& x5) = 0 → wv_gA w v0 ciX18 0 (fun x13 => wv_cF G fr (⟨"Weaversgate$Pattern", "at", "(LWeaversgate$Place;)C"⟩ : MethodName) x13 [va_rf v1] w (wv_rI (fun x17 w17 => wv_gI w17 v1 ciX21 4 (fun x25 => wv_gI w17 v0 ciX18 1 (fun x29 => wv_pt w17 v1 ciX21 4 (.int (x25 ||| x29)) (fun w33 => wv_gI w33 v1 ciX21 5 (fun x38 => (¬ x17 = (121 : Int32) → vc_X18_at_55 G fr P v0 v1 x17 (0 : Int32) x38 v1 w33) ∧ (x17 = (121 : Int32) → wv_gI w33 v0 ciX18 1 (fun x48 => vc_X18_at_55 G fr P v0 v1 x17 x48 x38 v1 w33))))))) (wv_pr P))))))
set_option maxHeartbeats 4000000 in
theorem wk_X18_at_82 {G : wv_G} {p : Program} {e : Env} {R : Room} {s : State} {m : MethodId} {args : Array Value} {below : List Frame} {meth : Method} {c : Code} {fr : Nat} {P : wv_R → wv_H → Prop} (X : wv_ok G p R s m args meth c fr "Weaversgate$NumberedPattern" cX18_at 3 (Option.some Jvm.ClassFile.FieldType.char) "at" []) {v0 : Option Nat} {v1 : Option Nat} {w : wv_W} (hv : vc_X18_at_82 G fr P v0 v1 w) : wv_J G p e R s m args below meth c 3 P w 82 [(0, va_rf v0), (1, va_rf v1)] [] := by
  intro H locs cells slots ls S hl
  unfold vc_X18_at_82 at hv
  refine wq_aload_n X dX18_at_82 rfl (lv_at hl 1 rfl) ?_
  refine wq_gIN X S hv ccX21 in_X21 (k := 5) (by decide) q734 dX18_at_83 (fun x83 hv => ?_)
  refine wq_aload_n X dX18_at_86 rfl (lv_at hl 0 rfl) ?_
  refine wq_gI X S hv ccX18 in_X18 (k := 1) (by decide) q1516 dX18_at_87 (fun x87 hv => ?_)
  refine lv_iand X.hx X.hb dX18_at_90 ?_
  refine lv_if_eq (tgt := 99) X.hx X.hb dX18_at_91 (by decide) (fun c91 => ?_) (fun c91 => ?_)
  · have hv := hv.1 c91
    refine wq_aload_n X dX18_at_99 rfl (lv_at hl 1 rfl) ?_
    refine wq_gIN X S hv ccX21 in_X21 (k := 6) (by decide) q735 dX18_at_100 (fun x100 hv => ?_)
    refine wq_aload_n X dX18_at_103 rfl (lv_at hl 0 rfl) ?_
    refine wq_gI X S hv ccX18 in_X18 (k := 1) (by decide) q1516 dX18_at_104 (fun x104 hv => ?_)
    refine lv_iand X.hx X.hb dX18_at_107 ?_
    refine lv_if_eq (tgt := 116) X.hx X.hb dX18_at_108 (by decide) (fun c108 => ?_) (fun c108 => ?_)
    · have hv := hv.1 c108
      refine lv_bipush (v := (109 : Int32)) X.hx X.hb dX18_at_116 (by decide) ?_
      exact wr_iret X S hv.1 hv.2 dX18_at_118
    · have hv := hv.2 c108
      refine lv_bipush (v := (110 : Int32)) X.hx X.hb dX18_at_111 (by decide) ?_
      refine lv_goto (tgt := 118) X.hx X.hb dX18_at_113 (by decide) ?_
      exact wr_iret X S hv.1 hv.2 dX18_at_118
  · have hv := hv.2 c91
    refine lv_bipush (v := (121 : Int32)) X.hx X.hb dX18_at_94 (by decide) ?_
    refine lv_goto (tgt := 118) X.hx X.hb dX18_at_96 (by decide) ?_
    exact wr_iret X S hv.1 hv.2 dX18_at_118
set_option maxHeartbeats 4000000 in
theorem wk_X18_at_78 {G : wv_G} {p : Program} {e : Env} {R : Room} {s : State} {m : MethodId} {args : Array Value} {below : List Frame} {meth : Method} {c : Code} {fr : Nat} {P : wv_R → wv_H → Prop} (X : wv_ok G p R s m args meth c fr "Weaversgate$NumberedPattern" cX18_at 3 (Option.some Jvm.ClassFile.FieldType.char) "at" []) {v0 : Option Nat} {v1 : Option Nat} {s0 : Int32} {s1 : Int32} {s2 : Option Nat} {w : wv_W} (hv : vc_X18_at_78 G fr P v0 v1 s0 s1 s2 w) : wv_J G p e R s m args below meth c 3 P w 78 [(0, va_rf v0), (1, va_rf v1)] [.int s0, .int s1, va_rf s2] := by
  intro H locs cells slots ls S hl
  unfold vc_X18_at_78 at hv
  refine lv_ior X.hx X.hb dX18_at_78 ?_
  refine wq_ptN X S hv tyX21 tyX21_ok nmX21 ccX21 in_X21 (k := 6) (by decide) q735 rfl rfl rfl rfl dX18_at_79 (fun w79 H locs S hv => ?_)
  exact wk_X18_at_82 X  hv H locs cells slots ls S (lv_sub hl [0, 1] rfl)
set_option maxHeartbeats 4000000 in
theorem wk_X18_at_55 {G : wv_G} {p : Program} {e : Env} {R : Room} {s : State} {m : MethodId} {args : Array Value} {below : List Frame} {meth : Method} {c : Code} {fr : Nat} {P : wv_R → wv_H → Prop} (X : wv_ok G p R s m args meth c fr "Weaversgate$NumberedPattern" cX18_at 3 (Option.some Jvm.ClassFile.FieldType.char) "at" []) {v0 : Option Nat} {v1 : Option Nat} {v2 : Int32} {s0 : Int32} {s1 : Int32} {s2 : Option Nat} {w : wv_W} (hv : vc_X18_at_55 G fr P v0 v1 v2 s0 s1 s2 w) : wv_J G p e R s m args below meth c 3 P w 55 [(0, va_rf v0), (1, va_rf v1), (2, .int v2)] [.int s0, .int s1, va_rf s2] := by
  intro H locs cells slots ls S hl
  unfold vc_X18_at_55 at hv
  refine lv_ior X.hx X.hb dX18_at_55 ?_
  refine wq_ptN X S hv tyX21 tyX21_ok nmX21 ccX21 in_X21 (k := 5) (by decide) q734 rfl rfl rfl rfl dX18_at_56 (fun w56 H locs S hv => ?_)
  refine wq_aload_n X dX18_at_59 rfl (lv_at hl 1 rfl) ?_
  refine lv_dup X.hx X.hb dX18_at_60 (wv_rfc _) ?_
  refine wq_gIN X S hv ccX21 in_X21 (k := 6) (by decide) q735 dX18_at_61 (fun x61 hv => ?_)
  refine lv_iload_n X.hx X.hb dX18_at_64 rfl (lv_at hl 2 rfl) ?_
  refine lv_bipush (v := (110 : Int32)) X.hx X.hb dX18_at_65 (by decide) ?_
  refine lv_icmp_ne (tgt := 77) X.hx X.hb dX18_at_67 (by decide) (fun c67 => ?_) (fun c67 => ?_)
  · have hv := hv.1 c67
    refine lv_iconst (v := (0 : Int32)) X.hx X.hb dX18_at_77 (by decide) ?_
    exact wk_X18_at_78 X  hv H locs cells slots ls S (lv_sub hl [0, 1] rfl)
  · have hv := hv.2 c67
    refine wq_aload_n X dX18_at_70 rfl (lv_at hl 0 rfl) ?_
    refine wq_gI X S hv ccX18 in_X18 (k := 1) (by decide) q1516 dX18_at_71 (fun x71 hv => ?_)
    refine lv_goto (tgt := 78) X.hx X.hb dX18_at_74 (by decide) ?_
    exact wk_X18_at_78 X  hv H locs cells slots ls S (lv_sub hl [0, 1] rfl)
set_option maxHeartbeats 4000000 in
theorem wk_X18_at_0 {G : wv_G} {p : Program} {e : Env} {R : Room} {s : State} {m : MethodId} {args : Array Value} {below : List Frame} {meth : Method} {c : Code} {fr : Nat} {P : wv_R → wv_H → Prop} (X : wv_ok G p R s m args meth c fr "Weaversgate$NumberedPattern" cX18_at 3 (Option.some Jvm.ClassFile.FieldType.char) "at" []) {v0 : Option Nat} {v1 : Option Nat} {w : wv_W} (hv : vc_X18_at_0 G fr P v0 v1 w) : wv_J G p e R s m args below meth c 3 P w 0 [(0, va_rf v0), (1, va_rf v1)] [] := by
  intro H locs cells slots ls S hl
  unfold vc_X18_at_0 at hv
  refine wq_aload_n X dX18_at_0 rfl (lv_at hl 1 rfl) ?_
  refine wq_gIN X S hv ccX21 in_X21 (k := 4) (by decide) q733 dX18_at_1 (fun x1 hv => ?_)
  refine wq_aload_n X dX18_at_4 rfl (lv_at hl 0 rfl) ?_
  refine wq_gI X S hv ccX18 in_X18 (k := 1) (by decide) q1516 dX18_at_5 (fun x5 hv => ?_)
  refine lv_iand X.hx X.hb dX18_at_8 ?_
  refine lv_if_ne (tgt := 82) X.hx X.hb dX18_at_9 (by decide) (fun c9 => ?_) (fun c9 => ?_)
  · have hv := hv.1 c9
    exact wk_X18_at_82 X  hv H locs cells slots ls S (lv_sub hl [0, 1] rfl)
  · have hv := hv.2 c9
    refine wq_aload_n X dX18_at_12 rfl (lv_at hl 0 rfl) ?_
    refine wq_gA X S hv ccX18 in_X18 (k := 0) (by decide) q1515 dX18_at_13 (fun x13 hv => ?_)
    refine wq_aload_n X dX18_at_16 rfl (lv_at hl 1 rfl) ?_
    refine wq_cF_I X S hv q865 ⟨by decide +kernel, by decide +kernel⟩ (nA := 1) (As := [va_rf v1]) (by decide +kernel) rfl rfl (by simp [wv_rfc, wv_kI, wv_kJ, wv_kF, wv_kD]) hl.1 dX18_at_17 (fun x17 w17 H locs cells slots S hv => ?_) (wq_kx X rfl)
    refine lv_istore_n X.hx X.hb (i := 2) (lv' := [(2, .int x17), (0, va_rf v0), (1, va_rf v1)]) dX18_at_22 rfl hl (by decide) (by simp [wv_rfc, wv_kI, wv_kJ, wv_kF, wv_kD]) (fun ls hl => ?_)
    refine wq_aload_n X dX18_at_23 rfl (lv_at hl 2 rfl) ?_
    refine lv_dup X.hx X.hb dX18_at_24 (wv_rfc _) ?_
    refine wq_gIN X S hv ccX21 in_X21 (k := 4) (by decide) q733 dX18_at_25 (fun x25 hv => ?_)
    refine wq_aload_n X dX18_at_28 rfl (lv_at hl 1 rfl) ?_
    refine wq_gI X S hv ccX18 in_X18 (k := 1) (by decide) q1516 dX18_at_29 (fun x29 hv => ?_)
    refine lv_ior X.hx X.hb dX18_at_32 ?_
    refine wq_ptN X S hv tyX21 tyX21_ok nmX21 ccX21 in_X21 (k := 4) (by decide) q733 rfl rfl rfl rfl dX18_at_33 (fun w33 H locs S hv => ?_)
    refine wq_aload_n X dX18_at_36 rfl (lv_at hl 2 rfl) ?_
    refine lv_dup X.hx X.hb dX18_at_37 (wv_rfc _) ?_
    refine wq_gIN X S hv ccX21 in_X21 (k := 5) (by decide) q734 dX18_at_38 (fun x38 hv => ?_)
    refine lv_iload_n X.hx X.hb dX18_at_41 rfl (lv_at hl 0 rfl) ?_
    refine lv_bipush (v := (121 : Int32)) X.hx X.hb dX18_at_42 (by decide) ?_
    refine lv_icmp_ne (tgt := 54) X.hx X.hb dX18_at_44 (by decide) (fun c44 => ?_) (fun c44 => ?_)
    · have hv := hv.1 c44
      refine lv_iconst (v := (0 : Int32)) X.hx X.hb dX18_at_54 (by decide) ?_
      exact wk_X18_at_55 X  hv H locs cells slots ls S (lv_sub hl [1, 2, 0] rfl)
    · have hv := hv.2 c44
      refine wq_aload_n X dX18_at_47 rfl (lv_at hl 1 rfl) ?_
      refine wq_gI X S hv ccX18 in_X18 (k := 1) (by decide) q1516 dX18_at_48 (fun x48 hv => ?_)
      refine lv_goto (tgt := 55) X.hx X.hb dX18_at_51 (by decide) ?_
      exact wk_X18_at_55 X  hv H locs cells slots ls S (lv_sub hl [1, 2, 0] rfl)
theorem wk_X18_at {G : wv_G} (hG : wv_G0 G) {v0 : Option Nat} {v1 : Option Nat} {h : wv_H} {fr kc ks : Nat} {P : wv_R → wv_H → Prop} (hv : vc_X18_at_0 G fr P v0 v1 (h, kc, ks)) : wv_C G yX18_at [va_rf v0, va_rf v1] h fr kc ks P := by
  refine wv_enter (lv := [(0, va_rf v0), (1, va_rf v1)]) hG (by decide +kernel) q863 (by decide) (by simp [lg_sl, wv_rfc, wv_kI, wv_kJ, wv_kF, wv_kD]) (by simp [lv_args, wv_rfc, wv_kI, wv_kJ, wv_kF, wv_kD]) ?_
  intro p e R s m args below meth c X H locs cells slots ls S hl
  exact wk_X18_at_0 X hv H locs cells slots ls S (lv_sub hl [0, 1] rfl)

def vc_X18_holds_57 (G : wv_G) (fr : Nat) (P : wv_R → wv_H → Prop) (v0 : Option Nat) (v1 : Option Nat) (w : wv_W) : Prop :=
  wv_gI w v1 ciX25 7 (fun x58 => wv_gI w v0 ciX18 1 (fun x62 => ((x58 &&& x62) = 0 → narrow .boolean (.int (0 : Int32)) = .int (0 : Int32) ∧ P (.inl (some (.int (0 : Int32)))) w.1) ∧ (¬ (x58 &&& x62) = 0 → narrow .boolean (.int (1 : Int32)) = .int (1 : Int32) ∧ P (.inl (some (.int (1 : Int32)))) w.1)))
def vc_X18_holds_40 (G : wv_G) (fr : Nat) (P : wv_R → wv_H → Prop) (v0 : Option Nat) (v1 : Option Nat) (s0 : Int32) (s1 : Int32) (s2 : Option Nat) (w : wv_W) : Prop :=
  wv_pt w s2 ciX25 7 (.int (s1 ||| s0)) (fun w41 => wv_gI w41 v1 ciX25 6 (fun x46 => wv_gI w41 v0 ciX18 1 (fun x50 => wv_pt w41 v1 ciX25 6 (.int (x46 ||| x50)) (fun w54 => vc_X18_holds_57 G fr P v0 v1 w54))))
def vc_X18_holds_0 (G : wv_G) (fr : Nat) (P : wv_R → wv_H → Prop) (v0 : Option Nat) (v1 : Option Nat) (w : wv_W) : Prop :=
  wv_gI w v1 ciX25 6 (fun x1 => wv_gI w v0 ciX18 1 (fun x5 => (¬ (x1 &&& x5) = 0 → vc_X18_holds_57 G fr P v0 v1 w) ∧ ((x1 &&& x5) = 0 → wv_gA w v0 ciX18 0 (fun x13 => wv_cF G fr (⟨"Weaversgate$Pattern", "holds", "(LWeaversgate$Point;)Z"⟩ : MethodName) x13 [va_rf v1] w (wv_rI (fun x17 w17 => wv_gI w17 v1 ciX25 7 (fun x25 => (x17 = 0 → vc_X18_holds_40 G fr P v0 v1 (0 : Int32) x25 v1 w17) ∧ (¬ x17 = 0 → wv_gI w17 v0 ciX18 1 (fun x33 => vc_X18_holds_40 G fr P v0 v1 x33 x25 v1 w17)))) (wv_pr P))))))
set_option maxHeartbeats 4000000 in
theorem wk_X18_holds_57 {G : wv_G} {p : Program} {e : Env} {R : Room} {s : State} {m : MethodId} {args : Array Value} {below : List Frame} {meth : Method} {c : Code} {fr : Nat} {P : wv_R → wv_H → Prop} (X : wv_ok G p R s m args meth c fr "Weaversgate$NumberedPattern" cX18_holds 3 (Option.some Jvm.ClassFile.FieldType.boolean) "holds" []) {v0 : Option Nat} {v1 : Option Nat} {w : wv_W} (hv : vc_X18_holds_57 G fr P v0 v1 w) : wv_J G p e R s m args below meth c 3 P w 57 [(0, va_rf v0), (1, va_rf v1)] [] := by
  intro H locs cells slots ls S hl
  unfold vc_X18_holds_57 at hv
  refine wq_aload_n X dX18_holds_57 rfl (lv_at hl 1 rfl) ?_
  refine wq_gIN X S hv ccX25 in_X25 (k := 7) (by decide) q1072 dX18_holds_58 (fun x58 hv => ?_)
  refine wq_aload_n X dX18_holds_61 rfl (lv_at hl 0 rfl) ?_
  refine wq_gI X S hv ccX18 in_X18 (k := 1) (by decide) q1516 dX18_holds_62 (fun x62 hv => ?_)
  refine lv_iand X.hx X.hb dX18_holds_65 ?_
  refine lv_if_eq (tgt := 73) X.hx X.hb dX18_holds_66 (by decide) (fun c66 => ?_) (fun c66 => ?_)
  · have hv := hv.1 c66
    refine lv_iconst (v := (0 : Int32)) X.hx X.hb dX18_holds_73 (by decide) ?_
    exact wr_iret X S hv.1 hv.2 dX18_holds_74
  · have hv := hv.2 c66
    refine lv_iconst (v := (1 : Int32)) X.hx X.hb dX18_holds_69 (by decide) ?_
    refine lv_goto (tgt := 74) X.hx X.hb dX18_holds_70 (by decide) ?_
    exact wr_iret X S hv.1 hv.2 dX18_holds_74
set_option maxHeartbeats 4000000 in
theorem wk_X18_holds_40 {G : wv_G} {p : Program} {e : Env} {R : Room} {s : State} {m : MethodId} {args : Array Value} {below : List Frame} {meth : Method} {c : Code} {fr : Nat} {P : wv_R → wv_H → Prop} (X : wv_ok G p R s m args meth c fr "Weaversgate$NumberedPattern" cX18_holds 3 (Option.some Jvm.ClassFile.FieldType.boolean) "holds" []) {v0 : Option Nat} {v1 : Option Nat} {s0 : Int32} {s1 : Int32} {s2 : Option Nat} {w : wv_W} (hv : vc_X18_holds_40 G fr P v0 v1 s0 s1 s2 w) : wv_J G p e R s m args below meth c 3 P w 40 [(0, va_rf v0), (1, va_rf v1)] [.int s0, .int s1, va_rf s2] := by
  intro H locs cells slots ls S hl
  unfold vc_X18_holds_40 at hv
  refine lv_ior X.hx X.hb dX18_holds_40 ?_
  refine wq_ptN X S hv tyX25 tyX25_ok nmX25 ccX25 in_X25 (k := 7) (by decide) q1072 rfl rfl rfl rfl dX18_holds_41 (fun w41 H locs S hv => ?_)
  refine wq_aload_n X dX18_holds_44 rfl (lv_at hl 1 rfl) ?_
  refine lv_dup X.hx X.hb dX18_holds_45 (wv_rfc _) ?_
  refine wq_gIN X S hv ccX25 in_X25 (k := 6) (by decide) q1071 dX18_holds_46 (fun x46 hv => ?_)
  refine wq_aload_n X dX18_holds_49 rfl (lv_at hl 0 rfl) ?_
  refine wq_gI X S hv ccX18 in_X18 (k := 1) (by decide) q1516 dX18_holds_50 (fun x50 hv => ?_)
  refine lv_ior X.hx X.hb dX18_holds_53 ?_
  refine wq_ptN X S hv tyX25 tyX25_ok nmX25 ccX25 in_X25 (k := 6) (by decide) q1071 rfl rfl rfl rfl dX18_holds_54 (fun w54 H locs S hv => ?_)
  exact wk_X18_holds_57 X  hv H locs cells slots ls S (lv_sub hl [0, 1] rfl)
set_option maxHeartbeats 4000000 in
theorem wk_X18_holds_0 {G : wv_G} {p : Program} {e : Env} {R : Room} {s : State} {m : MethodId} {args : Array Value} {below : List Frame} {meth : Method} {c : Code} {fr : Nat} {P : wv_R → wv_H → Prop} (X : wv_ok G p R s m args meth c fr "Weaversgate$NumberedPattern" cX18_holds 3 (Option.some Jvm.ClassFile.FieldType.boolean) "holds" []) {v0 : Option Nat} {v1 : Option Nat} {w : wv_W} (hv : vc_X18_holds_0 G fr P v0 v1 w) : wv_J G p e R s m args below meth c 3 P w 0 [(0, va_rf v0), (1, va_rf v1)] [] := by
  intro H locs cells slots ls S hl
  unfold vc_X18_holds_0 at hv
  refine wq_aload_n X dX18_holds_0 rfl (lv_at hl 1 rfl) ?_
  refine wq_gIN X S hv ccX25 in_X25 (k := 6) (by decide) q1071 dX18_holds_1 (fun x1 hv => ?_)
  refine wq_aload_n X dX18_holds_4 rfl (lv_at hl 0 rfl) ?_
  refine wq_gI X S hv ccX18 in_X18 (k := 1) (by decide) q1516 dX18_holds_5 (fun x5 hv => ?_)
  refine lv_iand X.hx X.hb dX18_holds_8 ?_
  refine lv_if_ne (tgt := 57) X.hx X.hb dX18_holds_9 (by decide) (fun c9 => ?_) (fun c9 => ?_)
  · have hv := hv.1 c9
    exact wk_X18_holds_57 X  hv H locs cells slots ls S (lv_sub hl [0, 1] rfl)
  · have hv := hv.2 c9
    refine wq_aload_n X dX18_holds_12 rfl (lv_at hl 0 rfl) ?_
    refine wq_gA X S hv ccX18 in_X18 (k := 0) (by decide) q1515 dX18_holds_13 (fun x13 hv => ?_)
    refine wq_aload_n X dX18_holds_16 rfl (lv_at hl 1 rfl) ?_
    refine wq_cF_I X S hv q1141 ⟨by decide +kernel, by decide +kernel⟩ (nA := 1) (As := [va_rf v1]) (by decide +kernel) rfl rfl (by simp [wv_rfc, wv_kI, wv_kJ, wv_kF, wv_kD]) hl.1 dX18_holds_17 (fun x17 w17 H locs cells slots S hv => ?_) (wq_kx X rfl)
    refine lv_istore_n X.hx X.hb (i := 2) (lv' := [(2, .int x17), (0, va_rf v0), (1, va_rf v1)]) dX18_holds_22 rfl hl (by decide) (by simp [wv_rfc, wv_kI, wv_kJ, wv_kF, wv_kD]) (fun ls hl => ?_)
    refine wq_aload_n X dX18_holds_23 rfl (lv_at hl 2 rfl) ?_
    refine lv_dup X.hx X.hb dX18_holds_24 (wv_rfc _) ?_
    refine wq_gIN X S hv ccX25 in_X25 (k := 7) (by decide) q1072 dX18_holds_25 (fun x25 hv => ?_)
    refine lv_iload_n X.hx X.hb dX18_holds_28 rfl (lv_at hl 0 rfl) ?_
    refine lv_if_eq (tgt := 39) X.hx X.hb dX18_holds_29 (by decide) (fun c29 => ?_) (fun c29 => ?_)
    · have hv := hv.1 c29
      refine lv_iconst (v := (0 : Int32)) X.hx X.hb dX18_holds_39 (by decide) ?_
      exact wk_X18_holds_40 X  hv H locs cells slots ls S (lv_sub hl [1, 2] rfl)
    · have hv := hv.2 c29
      refine wq_aload_n X dX18_holds_32 rfl (lv_at hl 1 rfl) ?_
      refine wq_gI X S hv ccX18 in_X18 (k := 1) (by decide) q1516 dX18_holds_33 (fun x33 hv => ?_)
      refine lv_goto (tgt := 40) X.hx X.hb dX18_holds_36 (by decide) ?_
      exact wk_X18_holds_40 X  hv H locs cells slots ls S (lv_sub hl [1, 2] rfl)
theorem wk_X18_holds {G : wv_G} (hG : wv_G0 G) {v0 : Option Nat} {v1 : Option Nat} {h : wv_H} {fr kc ks : Nat} {P : wv_R → wv_H → Prop} (hv : vc_X18_holds_0 G fr P v0 v1 (h, kc, ks)) : wv_C G yX18_holds [va_rf v0, va_rf v1] h fr kc ks P := by
  refine wv_enter (lv := [(0, va_rf v0), (1, va_rf v1)]) hG (by decide +kernel) q1139 (by decide) (by simp [lg_sl, wv_rfc, wv_kI, wv_kJ, wv_kF, wv_kD]) (by simp [lv_args, wv_rfc, wv_kI, wv_kJ, wv_kF, wv_kD]) ?_
  intro p e R s m args below meth c X H locs cells slots ls S hl
  exact wk_X18_holds_0 X hv H locs cells slots ls S (lv_sub hl [0, 1] rfl)

def vc_X18_init_0 (G : wv_G) (fr : Nat) (P : wv_R → wv_H → Prop) (v0 : Option Nat) (v1 : Option Nat) (v2 : Int32) (w : wv_W) : Prop :=
  (∃ a, v0 = some a) ∧ 1 ≤ fr ∧ (wv_pt w v0 ciX18 0 (va_rf v1) (fun w6 => wv_pt w6 v0 ciX18 1 (.int ((1 : Int32) <<< (v2 &&& 31))) (fun w13 => P (.inl none) w13.1)))
set_option maxHeartbeats 4000000 in
theorem wk_X18_init_0 {G : wv_G} {p : Program} {e : Env} {R : Room} {s : State} {m : MethodId} {args : Array Value} {below : List Frame} {meth : Method} {c : Code} {fr : Nat} {P : wv_R → wv_H → Prop} (X : wv_ok G p R s m args meth c fr "Weaversgate$NumberedPattern" cX18_init 3 (Option.none : Option Jvm.ClassFile.FieldType) "<init>" []) {v0 : Option Nat} {v1 : Option Nat} {v2 : Int32} {w : wv_W} (hv : vc_X18_init_0 G fr P v0 v1 v2 w) : wv_J G p e R s m args below meth c 3 P w 0 [(0, va_rf v0), (1, va_rf v1), (2, .int v2)] [] := by
  intro H locs cells slots ls S hl
  unfold vc_X18_init_0 at hv
  refine wq_aload_n X dX18_init_0 rfl (lv_at hl 0 rfl) ?_
  obtain ⟨⟨_, hr⟩, h1, hv⟩ := hv
  refine wq_objInit X hr q1514 q125 q126 h1 (by simp [wv_rfc, wv_kI, wv_kJ, wv_kF, wv_kD]) hl.1 dX18_init_1 ?_
  refine wq_aload_n X dX18_init_4 rfl (lv_at hl 0 rfl) ?_
  refine wq_aload_n X dX18_init_5 rfl (lv_at hl 1 rfl) ?_
  refine wq_ptF X S hv tyX18 tyX18_ok nmX18 ccX18 in_X18 (k := 0) (by decide) q1515 rfl rfl rfl (wv_fnA (Or.inl ⟨_, rfl⟩)).1 (wv_fnA (Or.inl ⟨_, rfl⟩)).2 dX18_init_6 (fun w6 H locs S hv => ?_)
  refine wq_aload_n X dX18_init_9 rfl (lv_at hl 0 rfl) ?_
  refine lv_iconst (v := (1 : Int32)) X.hx X.hb dX18_init_10 (by decide) ?_
  refine lv_iload_n X.hx X.hb dX18_init_11 rfl (lv_at hl 2 rfl) ?_
  refine lv_ishl X.hx X.hb dX18_init_12 ?_
  refine wq_ptF X S hv tyX18 tyX18_ok nmX18 ccX18 in_X18 (k := 1) (by decide) q1516 rfl rfl rfl rfl rfl dX18_init_13 (fun w13 H locs S hv => ?_)
  exact wr_vret X S hv dX18_init_16
theorem wk_X18_init {G : wv_G} (hG : wv_G0 G) {v0 : Option Nat} {v1 : Option Nat} {v2 : Int32} {h : wv_H} {fr kc ks : Nat} {P : wv_R → wv_H → Prop} (hv : vc_X18_init_0 G fr P v0 v1 v2 (h, kc, ks)) : wv_C G yX18_init [va_rf v0, va_rf v1, .int v2] h fr kc ks P := by
  refine wv_enter (lv := [(0, va_rf v0), (1, va_rf v1), (2, .int v2)]) hG (by decide +kernel) q1513 (by decide) (by simp [lg_sl, wv_rfc, wv_kI, wv_kJ, wv_kF, wv_kD]) (by simp [lv_args, wv_rfc, wv_kI, wv_kJ, wv_kF, wv_kD]) ?_
  intro p e R s m args below meth c X H locs cells slots ls S hl
  exact wk_X18_init_0 X hv H locs cells slots ls S (lv_sub hl [0, 1, 2] rfl)

def vc_X19_init_0 (G : wv_G) (fr : Nat) (P : wv_R → wv_H → Prop) (v0 : Option Nat) (v1 : Int32) (v2 : Int32) (v3 : Int32) (v4 : Option Nat) (v5 : Int32) (v6 : Int32) (w : wv_W) : Prop :=
  (∃ a, v0 = some a) ∧ 1 ≤ fr ∧ (wv_fit .boolean (1 : Int32) ∧ wv_pt w v0 ciX19 6 (.int (1 : Int32)) (fun w6 => wv_pt w6 v0 ciX19 0 (.int v1) (fun w11 => wv_pt w11 v0 ciX19 1 (.int v2) (fun w16 => wv_fit .char v3 ∧ wv_pt w16 v0 ciX19 2 (.int v3) (fun w21 => wv_pt w21 v0 ciX19 3 (va_rf v4) (fun w27 => wv_pt w27 v0 ciX19 4 (.int v5) (fun w33 => wv_pt w33 v0 ciX19 5 (.int v6) (fun w39 => P (.inl none) w39.1))))))))
set_option maxHeartbeats 4000000 in
theorem wk_X19_init_0 {G : wv_G} {p : Program} {e : Env} {R : Room} {s : State} {m : MethodId} {args : Array Value} {below : List Frame} {meth : Method} {c : Code} {fr : Nat} {P : wv_R → wv_H → Prop} (X : wv_ok G p R s m args meth c fr "Weaversgate$Advice" cX19_init 7 (Option.none : Option Jvm.ClassFile.FieldType) "<init>" []) {v0 : Option Nat} {v1 : Int32} {v2 : Int32} {v3 : Int32} {v4 : Option Nat} {v5 : Int32} {v6 : Int32} {w : wv_W} (hv : vc_X19_init_0 G fr P v0 v1 v2 v3 v4 v5 v6 w) : wv_J G p e R s m args below meth c 7 P w 0 [(0, va_rf v0), (1, .int v1), (2, .int v2), (3, .int v3), (4, va_rf v4), (5, .int v5), (6, .int v6)] [] := by
  intro H locs cells slots ls S hl
  unfold vc_X19_init_0 at hv
  refine wq_aload_n X dX19_init_0 rfl (lv_at hl 0 rfl) ?_
  obtain ⟨⟨_, hr⟩, h1, hv⟩ := hv
  refine wq_objInit X hr q1536 q125 q126 h1 (by simp [wv_rfc, wv_kI, wv_kJ, wv_kF, wv_kD]) hl.1 dX19_init_1 ?_
  refine wq_aload_n X dX19_init_4 rfl (lv_at hl 0 rfl) ?_
  refine lv_iconst (v := (1 : Int32)) X.hx X.hb dX19_init_5 (by decide) ?_
  have hv6 := hv.1
  have hv := hv.2
  refine wq_pt X S hv tyX19 tyX19_ok nmX19 ccX19 in_X19 (k := 6) (by decide) q1551 rfl rfl hv6.1 hv6.2 dX19_init_6 (fun w6 H locs S hv => ?_)
  refine wq_aload_n X dX19_init_9 rfl (lv_at hl 0 rfl) ?_
  refine lv_iload_n X.hx X.hb dX19_init_10 rfl (lv_at hl 1 rfl) ?_
  refine wq_ptF X S hv tyX19 tyX19_ok nmX19 ccX19 in_X19 (k := 0) (by decide) q1537 rfl rfl rfl rfl rfl dX19_init_11 (fun w11 H locs S hv => ?_)
  refine wq_aload_n X dX19_init_14 rfl (lv_at hl 0 rfl) ?_
  refine lv_iload_n X.hx X.hb dX19_init_15 rfl (lv_at hl 2 rfl) ?_
  refine wq_ptF X S hv tyX19 tyX19_ok nmX19 ccX19 in_X19 (k := 1) (by decide) q1539 rfl rfl rfl rfl rfl dX19_init_16 (fun w16 H locs S hv => ?_)
  refine wq_aload_n X dX19_init_19 rfl (lv_at hl 0 rfl) ?_
  refine lv_iload_n X.hx X.hb dX19_init_20 rfl (lv_at hl 3 rfl) ?_
  have hv21 := hv.1
  have hv := hv.2
  refine wq_ptF X S hv tyX19 tyX19_ok nmX19 ccX19 in_X19 (k := 2) (by decide) q1541 rfl rfl rfl hv21.1 hv21.2 dX19_init_21 (fun w21 H locs S hv => ?_)
  refine wq_aload_n X dX19_init_24 rfl (lv_at hl 0 rfl) ?_
  refine wq_aload X dX19_init_25 (lv_at hl 4 rfl) ?_
  refine wq_ptF X S hv tyX19 tyX19_ok nmX19 ccX19 in_X19 (k := 3) (by decide) q1544 rfl rfl rfl (wv_fnA (Or.inl ⟨_, rfl⟩)).1 (wv_fnA (Or.inl ⟨_, rfl⟩)).2 dX19_init_27 (fun w27 H locs S hv => ?_)
  refine wq_aload_n X dX19_init_30 rfl (lv_at hl 0 rfl) ?_
  refine lv_iload X.hx X.hb dX19_init_31 (lv_at hl 5 rfl) ?_
  refine wq_ptF X S hv tyX19 tyX19_ok nmX19 ccX19 in_X19 (k := 4) (by decide) q1547 rfl rfl rfl rfl rfl dX19_init_33 (fun w33 H locs S hv => ?_)
  refine wq_aload_n X dX19_init_36 rfl (lv_at hl 0 rfl) ?_
  refine lv_iload X.hx X.hb dX19_init_37 (lv_at hl 6 rfl) ?_
  refine wq_ptF X S hv tyX19 tyX19_ok nmX19 ccX19 in_X19 (k := 5) (by decide) q1549 rfl rfl rfl rfl rfl dX19_init_39 (fun w39 H locs S hv => ?_)
  exact wr_vret X S hv dX19_init_42
theorem wk_X19_init {G : wv_G} (hG : wv_G0 G) {v0 : Option Nat} {v1 : Int32} {v2 : Int32} {v3 : Int32} {v4 : Option Nat} {v5 : Int32} {v6 : Int32} {h : wv_H} {fr kc ks : Nat} {P : wv_R → wv_H → Prop} (hv : vc_X19_init_0 G fr P v0 v1 v2 v3 v4 v5 v6 (h, kc, ks)) : wv_C G yX19_init [va_rf v0, .int v1, .int v2, .int v3, va_rf v4, .int v5, .int v6] h fr kc ks P := by
  refine wv_enter (lv := [(0, va_rf v0), (1, .int v1), (2, .int v2), (3, .int v3), (4, va_rf v4), (5, .int v5), (6, .int v6)]) hG (by decide +kernel) q1535 (by decide) (by simp [lg_sl, wv_rfc, wv_kI, wv_kJ, wv_kF, wv_kD]) (by simp [lv_args, wv_rfc, wv_kI, wv_kJ, wv_kF, wv_kD]) ?_
  intro p e R s m args below meth c X H locs cells slots ls S hl
  exact wk_X19_init_0 X hv H locs cells slots ls S (lv_sub hl [0, 1, 2, 3, 4, 5, 6] rfl)

def vc_X21_init_0 (G : wv_G) (fr : Nat) (P : wv_R → wv_H → Prop) (v0 : Option Nat) (v1 : Int32) (v2 : Int32) (v3 : Int32) (v4 : Int32) (w : wv_W) : Prop :=
  (∃ a, v0 = some a) ∧ 1 ≤ fr ∧ (wv_fit .char v1 ∧ wv_pt w v0 ciX21 0 (.int v1) (fun w6 => wv_pt w6 v0 ciX21 1 (.int v2) (fun w11 => wv_pt w11 v0 ciX21 2 (.int v3) (fun w16 => wv_pt w16 v0 ciX21 3 (.int v4) (fun w22 => P (.inl none) w22.1)))))
set_option maxHeartbeats 4000000 in
theorem wk_X21_init_0 {G : wv_G} {p : Program} {e : Env} {R : Room} {s : State} {m : MethodId} {args : Array Value} {below : List Frame} {meth : Method} {c : Code} {fr : Nat} {P : wv_R → wv_H → Prop} (X : wv_ok G p R s m args meth c fr "Weaversgate$Place" cX21_init 5 (Option.none : Option Jvm.ClassFile.FieldType) "<init>" []) {v0 : Option Nat} {v1 : Int32} {v2 : Int32} {v3 : Int32} {v4 : Int32} {w : wv_W} (hv : vc_X21_init_0 G fr P v0 v1 v2 v3 v4 w) : wv_J G p e R s m args below meth c 5 P w 0 [(0, va_rf v0), (1, .int v1), (2, .int v2), (3, .int v3), (4, .int v4)] [] := by
  intro H locs cells slots ls S hl
  unfold vc_X21_init_0 at hv
  refine wq_aload_n X dX21_init_0 rfl (lv_at hl 0 rfl) ?_
  obtain ⟨⟨_, hr⟩, h1, hv⟩ := hv
  refine wq_objInit X hr q723 q125 q126 h1 (by simp [wv_rfc, wv_kI, wv_kJ, wv_kF, wv_kD]) hl.1 dX21_init_1 ?_
  refine wq_aload_n X dX21_init_4 rfl (lv_at hl 0 rfl) ?_
  refine lv_iload_n X.hx X.hb dX21_init_5 rfl (lv_at hl 1 rfl) ?_
  have hv6 := hv.1
  have hv := hv.2
  refine wq_ptF X S hv tyX21 tyX21_ok nmX21 ccX21 in_X21 (k := 0) (by decide) q724 rfl rfl rfl hv6.1 hv6.2 dX21_init_6 (fun w6 H locs S hv => ?_)
  refine wq_aload_n X dX21_init_9 rfl (lv_at hl 0 rfl) ?_
  refine lv_iload_n X.hx X.hb dX21_init_10 rfl (lv_at hl 2 rfl) ?_
  refine wq_ptF X S hv tyX21 tyX21_ok nmX21 ccX21 in_X21 (k := 1) (by decide) q727 rfl rfl rfl rfl rfl dX21_init_11 (fun w11 H locs S hv => ?_)
  refine wq_aload_n X dX21_init_14 rfl (lv_at hl 0 rfl) ?_
  refine lv_iload_n X.hx X.hb dX21_init_15 rfl (lv_at hl 3 rfl) ?_
  refine wq_ptF X S hv tyX21 tyX21_ok nmX21 ccX21 in_X21 (k := 2) (by decide) q729 rfl rfl rfl rfl rfl dX21_init_16 (fun w16 H locs S hv => ?_)
  refine wq_aload_n X dX21_init_19 rfl (lv_at hl 0 rfl) ?_
  refine lv_iload X.hx X.hb dX21_init_20 (lv_at hl 4 rfl) ?_
  refine wq_ptF X S hv tyX21 tyX21_ok nmX21 ccX21 in_X21 (k := 3) (by decide) q731 rfl rfl rfl rfl rfl dX21_init_22 (fun w22 H locs S hv => ?_)
  exact wr_vret X S hv dX21_init_25
theorem wk_X21_init {G : wv_G} (hG : wv_G0 G) {v0 : Option Nat} {v1 : Int32} {v2 : Int32} {v3 : Int32} {v4 : Int32} {h : wv_H} {fr kc ks : Nat} {P : wv_R → wv_H → Prop} (hv : vc_X21_init_0 G fr P v0 v1 v2 v3 v4 (h, kc, ks)) : wv_C G yX21_init [va_rf v0, .int v1, .int v2, .int v3, .int v4] h fr kc ks P := by
  refine wv_enter (lv := [(0, va_rf v0), (1, .int v1), (2, .int v2), (3, .int v3), (4, .int v4)]) hG (by decide +kernel) q722 (by decide) (by simp [lg_sl, wv_rfc, wv_kI, wv_kJ, wv_kF, wv_kD]) (by simp [lv_args, wv_rfc, wv_kI, wv_kJ, wv_kF, wv_kD]) ?_
  intro p e R s m args below meth c X H locs cells slots ls S hl
  exact wk_X21_init_0 X hv H locs cells slots ls S (lv_sub hl [0, 1, 2, 3, 4] rfl)

def vc_X22_init_0 (G : wv_G) (fr : Nat) (P : wv_R → wv_H → Prop) (v0 : Option Nat) (v1 : Option Nat) (w : wv_W) : Prop :=
  (∃ a, v0 = some a) ∧ 1 ≤ fr ∧ (wv_na G w (4 : Int32) (fun N => wo_i (wv_A G 0) N (fun _ => 0)) (fun a6 w6 => wv_pt w6 v0 ciX22 1 (va_rf (some a6)) (fun w8 => wv_pt w8 v0 ciX22 0 (va_rf v1) (fun w13 => P (.inl none) w13.1))))
set_option maxHeartbeats 4000000 in
theorem wk_X22_init_0 {G : wv_G} {p : Program} {e : Env} {R : Room} {s : State} {m : MethodId} {args : Array Value} {below : List Frame} {meth : Method} {c : Code} {fr : Nat} {P : wv_R → wv_H → Prop} (X : wv_ok G p R s m args meth c fr "Weaversgate$Thing" cX22_init 2 (Option.none : Option Jvm.ClassFile.FieldType) "<init>" []) {v0 : Option Nat} {v1 : Option Nat} {w : wv_W} (hv : vc_X22_init_0 G fr P v0 v1 w) : wv_J G p e R s m args below meth c 2 P w 0 [(0, va_rf v0), (1, va_rf v1)] [] := by
  intro H locs cells slots ls S hl
  unfold vc_X22_init_0 at hv
  refine wq_aload_n X dX22_init_0 rfl (lv_at hl 0 rfl) ?_
  obtain ⟨⟨_, hr⟩, h1, hv⟩ := hv
  refine wq_objInit X hr q957 q125 q126 h1 (by simp [wv_rfc, wv_kI, wv_kJ, wv_kF, wv_kD]) hl.1 dX22_init_1 ?_
  refine wq_aload_n X dX22_init_4 rfl (lv_at hl 0 rfl) ?_
  refine lv_iconst (v := (4 : Int32)) X.hx X.hb dX22_init_5 (by decide) ?_
  refine wq_nwi X S hv q188 dX22_init_6 (fun a6 w6 H cells slots S hv => ?_)
  refine wq_ptF X S hv tyX22 tyX22_ok nmX22 ccX22 in_X22 (k := 1) (by decide) q960 rfl rfl rfl (wv_fnA (Or.inr ⟨_, rfl⟩)).1 (wv_fnA (Or.inr ⟨_, rfl⟩)).2 dX22_init_8 (fun w8 H locs S hv => ?_)
  refine wq_aload_n X dX22_init_11 rfl (lv_at hl 0 rfl) ?_
  refine wq_aload_n X dX22_init_12 rfl (lv_at hl 1 rfl) ?_
  refine wq_ptF X S hv tyX22 tyX22_ok nmX22 ccX22 in_X22 (k := 0) (by decide) q958 rfl rfl rfl (wv_fnA (Or.inl ⟨_, rfl⟩)).1 (wv_fnA (Or.inl ⟨_, rfl⟩)).2 dX22_init_13 (fun w13 H locs S hv => ?_)
  exact wr_vret X S hv dX22_init_16
theorem wk_X22_init {G : wv_G} (hG : wv_G0 G) {v0 : Option Nat} {v1 : Option Nat} {h : wv_H} {fr kc ks : Nat} {P : wv_R → wv_H → Prop} (hv : vc_X22_init_0 G fr P v0 v1 (h, kc, ks)) : wv_C G yX22_init [va_rf v0, va_rf v1] h fr kc ks P := by
  refine wv_enter (lv := [(0, va_rf v0), (1, va_rf v1)]) hG (by decide +kernel) q956 (by decide) (by simp [lg_sl, wv_rfc, wv_kI, wv_kJ, wv_kF, wv_kD]) (by simp [lv_args, wv_rfc, wv_kI, wv_kJ, wv_kF, wv_kD]) ?_
  intro p e R s m args below meth c X H locs cells slots ls S hl
  exact wk_X22_init_0 X hv H locs cells slots ls S (lv_sub hl [0, 1] rfl)

def vc_X23_init_0 (G : wv_G) (fr : Nat) (P : wv_R → wv_H → Prop) (v0 : Option Nat) (v1 : Int32) (w : wv_W) : Prop :=
  wv_cI G fr yJ4_init_2 v0 [] w (wv_rV (fun w1 => wv_pt w1 v0 ciX23 6 (.int v1) (fun w6 => P (.inl none) w6.1)) (wv_pr P))
set_option maxHeartbeats 4000000 in
theorem wk_X23_init_0 {G : wv_G} {p : Program} {e : Env} {R : Room} {s : State} {m : MethodId} {args : Array Value} {below : List Frame} {meth : Method} {c : Code} {fr : Nat} {P : wv_R → wv_H → Prop} (X : wv_ok G p R s m args meth c fr "Weaversgate$Thrown" cX23_init 2 (Option.none : Option Jvm.ClassFile.FieldType) "<init>" []) {v0 : Option Nat} {v1 : Int32} {w : wv_W} (hv : vc_X23_init_0 G fr P v0 v1 w) : wv_J G p e R s m args below meth c 2 P w 0 [(0, va_rf v0), (1, .int v1)] [] := by
  intro H locs cells slots ls S hl
  unfold vc_X23_init_0 at hv
  refine wq_aload_n X dX23_init_0 rfl (lv_at hl 0 rfl) ?_
  refine wq_cI_V X S hv rfl q990 q991 q992 q69 ⟨by decide +kernel, by decide +kernel⟩ (nA := 0) (As := []) (by decide +kernel) rfl rfl (by simp [wv_rfc, wv_kI, wv_kJ, wv_kF, wv_kD]) hl.1 dX23_init_1 (fun w1 H locs cells slots S hv => ?_) (wq_kx X rfl)
  refine wq_aload_n X dX23_init_4 rfl (lv_at hl 0 rfl) ?_
  refine lv_iload_n X.hx X.hb dX23_init_5 rfl (lv_at hl 1 rfl) ?_
  refine wq_ptF X S hv tyX23 tyX23_ok nmX23 ccX23 in_X23 (k := 6) (by decide) q994 rfl rfl rfl rfl rfl dX23_init_6 (fun w6 H locs S hv => ?_)
  exact wr_vret X S hv dX23_init_9
theorem wk_X23_init {G : wv_G} (hG : wv_G0 G) {v0 : Option Nat} {v1 : Int32} {h : wv_H} {fr kc ks : Nat} {P : wv_R → wv_H → Prop} (hv : vc_X23_init_0 G fr P v0 v1 (h, kc, ks)) : wv_C G yX23_init [va_rf v0, .int v1] h fr kc ks P := by
  refine wv_enter (lv := [(0, va_rf v0), (1, .int v1)]) hG (by decide +kernel) q989 (by decide) (by simp [lg_sl, wv_rfc, wv_kI, wv_kJ, wv_kF, wv_kD]) (by simp [lv_args, wv_rfc, wv_kI, wv_kJ, wv_kF, wv_kD]) ?_
  intro p e R s m args below meth c X H locs cells slots ls S hl
  exact wk_X23_init_0 X hv H locs cells slots ls S (lv_sub hl [0, 1] rfl)

def vc_X24_init_0 (G : wv_G) (fr : Nat) (P : wv_R → wv_H → Prop) (v0 : Option Nat) (w : wv_W) : Prop :=
  wv_cI G fr yJ5_init_2 v0 [] w (wv_rV (fun w1 => P (.inl none) w1.1) (wv_pr P))
set_option maxHeartbeats 4000000 in
theorem wk_X24_init_0 {G : wv_G} {p : Program} {e : Env} {R : Room} {s : State} {m : MethodId} {args : Array Value} {below : List Frame} {meth : Method} {c : Code} {fr : Nat} {P : wv_R → wv_H → Prop} (X : wv_ok G p R s m args meth c fr "Weaversgate$GivenUp" cX24_init 1 (Option.none : Option Jvm.ClassFile.FieldType) "<init>" []) {v0 : Option Nat} {w : wv_W} (hv : vc_X24_init_0 G fr P v0 w) : wv_J G p e R s m args below meth c 1 P w 0 [(0, va_rf v0)] [] := by
  intro H locs cells slots ls S hl
  unfold vc_X24_init_0 at hv
  refine wq_aload_n X dX24_init_0 rfl (lv_at hl 0 rfl) ?_
  refine wq_cI_V X S hv rfl q1047 q1048 q1049 q70 ⟨by decide +kernel, by decide +kernel⟩ (nA := 0) (As := []) (by decide +kernel) rfl rfl (by simp [wv_rfc, wv_kI, wv_kJ, wv_kF, wv_kD]) hl.1 dX24_init_1 (fun w1 H locs cells slots S hv => ?_) (wq_kx X rfl)
  exact wr_vret X S hv dX24_init_4
theorem wk_X24_init {G : wv_G} (hG : wv_G0 G) {v0 : Option Nat} {h : wv_H} {fr kc ks : Nat} {P : wv_R → wv_H → Prop} (hv : vc_X24_init_0 G fr P v0 (h, kc, ks)) : wv_C G yX24_init [va_rf v0] h fr kc ks P := by
  refine wv_enter (lv := [(0, va_rf v0)]) hG (by decide +kernel) q1046 (by decide) (by simp [lg_sl, wv_rfc, wv_kI, wv_kJ, wv_kF, wv_kD]) (by simp [lv_args, wv_rfc, wv_kI, wv_kJ, wv_kF, wv_kD]) ?_
  intro p e R s m args below meth c X H locs cells slots ls S hl
  exact wk_X24_init_0 X hv H locs cells slots ls S (lv_sub hl [0] rfl)

def vc_X25_goingOn_0 (G : wv_G) (fr : Nat) (P : wv_R → wv_H → Prop) (v0 : Option Nat) (w : wv_W) : Prop :=
  wv_gA w v0 ciX25 5 (fun x1 => (¬ x1 = none → wv_gA w v0 ciX25 5 (fun x12 => wv_cV G fr yX25_goingOn x12 [] w (wv_rI (fun x15 w15 => P (.inl (some (.int (x15 + (1 : Int32))))) w15.1) (wv_pr P)))) ∧ (x1 = none → P (.inl (some (.int (1 : Int32)))) w.1))
set_option maxHeartbeats 4000000 in
theorem wk_X25_goingOn_0 {G : wv_G} {p : Program} {e : Env} {R : Room} {s : State} {m : MethodId} {args : Array Value} {below : List Frame} {meth : Method} {c : Code} {fr : Nat} {P : wv_R → wv_H → Prop} (X : wv_ok G p R s m args meth c fr "Weaversgate$Point" cX25_goingOn 1 (Option.some Jvm.ClassFile.FieldType.int) "goingOn" []) {v0 : Option Nat} {w : wv_W} (hv : vc_X25_goingOn_0 G fr P v0 w) : wv_J G p e R s m args below meth c 1 P w 0 [(0, va_rf v0)] [] := by
  intro H locs cells slots ls S hl
  unfold vc_X25_goingOn_0 at hv
  refine wq_aload_n X dX25_goingOn_0 rfl (lv_at hl 0 rfl) ?_
  refine wq_gA X S hv ccX25 in_X25 (k := 5) (by decide) q1069 dX25_goingOn_1 (fun x1 hv => ?_)
  refine wq_ifnonnull (tgt := 11) X dX25_goingOn_4 (by decide) (fun c4 => ?_) (fun c4 => ?_)
  · have hv := hv.1 c4
    refine wq_aload_n X dX25_goingOn_11 rfl (lv_at hl 0 rfl) ?_
    refine wq_gA X S hv ccX25 in_X25 (k := 5) (by decide) q1069 dX25_goingOn_12 (fun x12 hv => ?_)
    refine wq_cV_I X S hv q1035 q1032 q1033 q111 ⟨by decide +kernel, by decide +kernel⟩ (nA := 0) (As := []) (by decide +kernel) rfl rfl (by simp [wv_rfc, wv_kI, wv_kJ, wv_kF, wv_kD]) hl.1 dX25_goingOn_15 (fun x15 w15 H locs cells slots S hv => ?_) (wq_kx X rfl)
    refine lv_iconst (v := (1 : Int32)) X.hx X.hb dX25_goingOn_18 (by decide) ?_
    refine lv_iadd X.hx X.hb dX25_goingOn_19 ?_
    exact wr_iret X S rfl hv dX25_goingOn_20
  · have hv := hv.2 c4
    refine lv_iconst (v := (1 : Int32)) X.hx X.hb dX25_goingOn_7 (by decide) ?_
    refine lv_goto (tgt := 20) X.hx X.hb dX25_goingOn_8 (by decide) ?_
    exact wr_iret X S rfl hv dX25_goingOn_20
theorem wk_X25_goingOn {G : wv_G} (hG : wv_G0 G) {v0 : Option Nat} {h : wv_H} {fr kc ks : Nat} {P : wv_R → wv_H → Prop} (hv : vc_X25_goingOn_0 G fr P v0 (h, kc, ks)) : wv_C G yX25_goingOn [va_rf v0] h fr kc ks P := by
  refine wv_enter (lv := [(0, va_rf v0)]) hG (by decide +kernel) q1034 (by decide) (by simp [lg_sl, wv_rfc, wv_kI, wv_kJ, wv_kF, wv_kD]) (by simp [lv_args, wv_rfc, wv_kI, wv_kJ, wv_kF, wv_kD]) ?_
  intro p e R s m args below meth c X H locs cells slots ls S hl
  exact wk_X25_goingOn_0 X hv H locs cells slots ls S (lv_sub hl [0] rfl)

def vc_X25_init_0 (G : wv_G) (fr : Nat) (P : wv_R → wv_H → Prop) (v0 : Option Nat) (v1 : Int32) (v2 : Int32) (v3 : Option Nat) (v4 : Int32) (v5 : Int32) (v6 : Option Nat) (w : wv_W) : Prop :=
  (∃ a, v0 = some a) ∧ 1 ≤ fr ∧ (wv_fit .char v1 ∧ wv_pt w v0 ciX25 0 (.int v1) (fun w6 => wv_pt w6 v0 ciX25 1 (.int v2) (fun w11 => wv_pt w11 v0 ciX25 2 (va_rf v3) (fun w16 => wv_pt w16 v0 ciX25 3 (.int v4) (fun w22 => wv_pt w22 v0 ciX25 4 (.int v5) (fun w28 => wv_pt w28 v0 ciX25 5 (va_rf v6) (fun w34 => P (.inl none) w34.1)))))))
set_option maxHeartbeats 4000000 in
theorem wk_X25_init_0 {G : wv_G} {p : Program} {e : Env} {R : Room} {s : State} {m : MethodId} {args : Array Value} {below : List Frame} {meth : Method} {c : Code} {fr : Nat} {P : wv_R → wv_H → Prop} (X : wv_ok G p R s m args meth c fr "Weaversgate$Point" cX25_init 7 (Option.none : Option Jvm.ClassFile.FieldType) "<init>" []) {v0 : Option Nat} {v1 : Int32} {v2 : Int32} {v3 : Option Nat} {v4 : Int32} {v5 : Int32} {v6 : Option Nat} {w : wv_W} (hv : vc_X25_init_0 G fr P v0 v1 v2 v3 v4 v5 v6 w) : wv_J G p e R s m args below meth c 7 P w 0 [(0, va_rf v0), (1, .int v1), (2, .int v2), (3, va_rf v3), (4, .int v4), (5, .int v5), (6, va_rf v6)] [] := by
  intro H locs cells slots ls S hl
  unfold vc_X25_init_0 at hv
  refine wq_aload_n X dX25_init_0 rfl (lv_at hl 0 rfl) ?_
  obtain ⟨⟨_, hr⟩, h1, hv⟩ := hv
  refine wq_objInit X hr q1058 q125 q126 h1 (by simp [wv_rfc, wv_kI, wv_kJ, wv_kF, wv_kD]) hl.1 dX25_init_1 ?_
  refine wq_aload_n X dX25_init_4 rfl (lv_at hl 0 rfl) ?_
  refine lv_iload_n X.hx X.hb dX25_init_5 rfl (lv_at hl 1 rfl) ?_
  have hv6 := hv.1
  have hv := hv.2
  refine wq_ptF X S hv tyX25 tyX25_ok nmX25 ccX25 in_X25 (k := 0) (by decide) q1059 rfl rfl rfl hv6.1 hv6.2 dX25_init_6 (fun w6 H locs S hv => ?_)
  refine wq_aload_n X dX25_init_9 rfl (lv_at hl 0 rfl) ?_
  refine lv_iload_n X.hx X.hb dX25_init_10 rfl (lv_at hl 2 rfl) ?_
  refine wq_ptF X S hv tyX25 tyX25_ok nmX25 ccX25 in_X25 (k := 1) (by decide) q1061 rfl rfl rfl rfl rfl dX25_init_11 (fun w11 H locs S hv => ?_)
  refine wq_aload_n X dX25_init_14 rfl (lv_at hl 0 rfl) ?_
  refine wq_aload_n X dX25_init_15 rfl (lv_at hl 3 rfl) ?_
  refine wq_ptF X S hv tyX25 tyX25_ok nmX25 ccX25 in_X25 (k := 2) (by decide) q1063 rfl rfl rfl (wv_fnA (Or.inl ⟨_, rfl⟩)).1 (wv_fnA (Or.inl ⟨_, rfl⟩)).2 dX25_init_16 (fun w16 H locs S hv => ?_)
  refine wq_aload_n X dX25_init_19 rfl (lv_at hl 0 rfl) ?_
  refine lv_iload X.hx X.hb dX25_init_20 (lv_at hl 4 rfl) ?_
  refine wq_ptF X S hv tyX25 tyX25_ok nmX25 ccX25 in_X25 (k := 3) (by decide) q1065 rfl rfl rfl rfl rfl dX25_init_22 (fun w22 H locs S hv => ?_)
  refine wq_aload_n X dX25_init_25 rfl (lv_at hl 0 rfl) ?_
  refine lv_iload X.hx X.hb dX25_init_26 (lv_at hl 5 rfl) ?_
  refine wq_ptF X S hv tyX25 tyX25_ok nmX25 ccX25 in_X25 (k := 4) (by decide) q1067 rfl rfl rfl rfl rfl dX25_init_28 (fun w28 H locs S hv => ?_)
  refine wq_aload_n X dX25_init_31 rfl (lv_at hl 0 rfl) ?_
  refine wq_aload X dX25_init_32 (lv_at hl 6 rfl) ?_
  refine wq_ptF X S hv tyX25 tyX25_ok nmX25 ccX25 in_X25 (k := 5) (by decide) q1069 rfl rfl rfl (wv_fnA (Or.inl ⟨_, rfl⟩)).1 (wv_fnA (Or.inl ⟨_, rfl⟩)).2 dX25_init_34 (fun w34 H locs S hv => ?_)
  exact wr_vret X S hv dX25_init_37
theorem wk_X25_init {G : wv_G} (hG : wv_G0 G) {v0 : Option Nat} {v1 : Int32} {v2 : Int32} {v3 : Option Nat} {v4 : Int32} {v5 : Int32} {v6 : Option Nat} {h : wv_H} {fr kc ks : Nat} {P : wv_R → wv_H → Prop} (hv : vc_X25_init_0 G fr P v0 v1 v2 v3 v4 v5 v6 (h, kc, ks)) : wv_C G yX25_init [va_rf v0, .int v1, .int v2, va_rf v3, .int v4, .int v5, va_rf v6] h fr kc ks P := by
  refine wv_enter (lv := [(0, va_rf v0), (1, .int v1), (2, .int v2), (3, va_rf v3), (4, .int v4), (5, .int v5), (6, va_rf v6)]) hG (by decide +kernel) q1057 (by decide) (by simp [lg_sl, wv_rfc, wv_kI, wv_kJ, wv_kF, wv_kD]) (by simp [lv_args, wv_rfc, wv_kI, wv_kJ, wv_kF, wv_kD]) ?_
  intro p e R s m args below meth c X H locs cells slots ls S hl
  exact wk_X25_init_0 X hv H locs cells slots ls S (lv_sub hl [0, 1, 2, 3, 4, 5, 6] rfl)
