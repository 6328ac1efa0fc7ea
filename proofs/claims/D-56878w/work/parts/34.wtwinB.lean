def vc_X4_acted_63 (G : wv_G) (fr : Nat) (P : wv_R → wv_H → Prop) (K28 : (Int32 × Int32 × (Option Nat)) → wv_W → Prop) (v1 : Int32) (v3 : Option Nat) (s0 : Int32) (s1 : Int32) (w : wv_W) : Prop :=
  K28 (v1, (s1 + s0), v3) w
def vc_X4_acted_28 (G : wv_G) (fr : Nat) (P : wv_R → wv_H → Prop) (K28 : (Int32 × Int32 × (Option Nat)) → wv_W → Prop) (v1 : Int32) (v2 : Int32) (v3 : Option Nat) (w : wv_W) : Prop :=
  wv_cF G fr (⟨"java/util/Iterator", "hasNext", "()Z"⟩ : MethodName) v3 [] w (wv_rI (fun x29 w29 => (x29 = 0 → P (.inl (some (.int v2))) w29.1) ∧ (¬ x29 = 0 → wv_cF G fr (⟨"java/util/Iterator", "next", "()Ljava/lang/Object;"⟩ : MethodName) v3 [] w29 (wv_rA (fun x38 w38 => wv_cc G w38 x38 "WeaversgateModel$Act" (wv_cV G fr yX31_kind x38 [] w38 (wv_rI (fun x51 w51 => (¬ x51 = v1 → vc_X4_acted_63 G fr P K28 v1 v3 (0 : Int32) v2 w51) ∧ (x51 = v1 → vc_X4_acted_63 G fr P K28 v1 v3 (1 : Int32) v2 w51)) (wv_pr P)))) (wv_pr P)))) (wv_pr P))
def vc_X4_acted_0 (G : wv_G) (fr : Nat) (P : wv_R → wv_H → Prop) (v0 : Option Nat) (v1 : Int32) (w : wv_W) : Prop :=
  wv_c0 G fr yX4_isOneOf [va_rf (some (G.2.2.2.2 417)), .int v1] w (wv_rI (fun x4 w4 => wv_cV G fr yX4_checked v0 [.int x4] w4 (wv_rI (fun x7 w7 => (x7 ≤ 0 → wv_gA w7 v0 ciX4 16 (fun x18 => wv_gA w7 x18 ciX5 0 (fun x21 => wv_cV G fr yJ2_iterator x21 [] w7 (wv_rA (fun x24 w24 => wv_L (fun K28 a w => vc_X4_acted_28 G fr P K28 a.1 a.2.1 a.2.2 w) (v1, (0 : Int32), x24) w24) (wv_pr P))))) ∧ (¬ x7 ≤ 0 → P (.inl (some (.int (0 : Int32)))) w7.1)) (wv_pr P))) (wv_pr P))
set_option maxHeartbeats 4000000 in
theorem wk_X4_acted_63 {G : wv_G} {p : Program} {e : Env} {R : Room} {s : State} {m : MethodId} {args : Array Value} {below : List Frame} {meth : Method} {c : Code} {fr : Nat} {P : wv_R → wv_H → Prop} (X : wv_ok G p R s m args meth c fr "WeaversgateModel" cX4_acted 5 (Option.some Jvm.ClassFile.FieldType.int) "acted" []) {K28 : (Int32 × Int32 × (Option Nat)) → wv_W → Prop} (hK28 : ∀ a w, K28 a w → wv_J G p e R s m args below meth c 5 P w 28 [(1, .int a.1), (2, .int a.2.1), (3, va_rf a.2.2)] []) {v1 : Int32} {v3 : Option Nat} {s0 : Int32} {s1 : Int32} {w : wv_W} (hv : vc_X4_acted_63 G fr P K28 v1 v3 s0 s1 w) : wv_J G p e R s m args below meth c 5 P w 63 [(1, .int v1), (3, va_rf v3)] [.int s0, .int s1] := by
  intro H locs cells slots ls S hl
  unfold vc_X4_acted_63 at hv
  refine lv_iadd X.hx X.hb dX4_acted_63 ?_
  refine lv_istore_n X.hx X.hb (i := 2) (lv' := [(2, .int (s1 + s0)), (1, .int v1), (3, va_rf v3)]) dX4_acted_64 rfl hl (by decide) (by simp [wv_rfc, wv_kI, wv_kJ, wv_kF, wv_kD]) (fun ls hl => ?_)
  refine lv_goto (tgt := 28) X.hx X.hb dX4_acted_65 (by decide) ?_
  exact hK28 _ _ hv H locs cells slots ls S (lv_sub hl [1, 0, 2] rfl)
set_option maxHeartbeats 4000000 in
theorem wk_X4_acted_28 {G : wv_G} {p : Program} {e : Env} {R : Room} {s : State} {m : MethodId} {args : Array Value} {below : List Frame} {meth : Method} {c : Code} {fr : Nat} {P : wv_R → wv_H → Prop} (X : wv_ok G p R s m args meth c fr "WeaversgateModel" cX4_acted 5 (Option.some Jvm.ClassFile.FieldType.int) "acted" []) {K28 : (Int32 × Int32 × (Option Nat)) → wv_W → Prop} (hK28 : ∀ a w, K28 a w → wv_J G p e R s m args below meth c 5 P w 28 [(1, .int a.1), (2, .int a.2.1), (3, va_rf a.2.2)] []) {v1 : Int32} {v2 : Int32} {v3 : Option Nat} {w : wv_W} (hv : vc_X4_acted_28 G fr P K28 v1 v2 v3 w) : wv_J G p e R s m args below meth c 5 P w 28 [(1, .int v1), (2, .int v2), (3, va_rf v3)] [] := by
  intro H locs cells slots ls S hl
  unfold vc_X4_acted_28 at hv
  refine wq_aload_n X dX4_acted_28 rfl (lv_at hl 2 rfl) ?_
  refine wq_cF_I X S hv q2198 ⟨by decide +kernel, by decide +kernel⟩ (nA := 0) (As := []) (by decide +kernel) rfl rfl (by simp [wv_rfc, wv_kI, wv_kJ, wv_kF, wv_kD]) hl.1 dX4_acted_29 (fun x29 w29 H locs cells slots S hv => ?_) (wq_kx X rfl)
  refine lv_if_eq (tgt := 68) X.hx X.hb dX4_acted_34 (by decide) (fun c34 => ?_) (fun c34 => ?_)
  · have hv := hv.1 c34
    refine lv_iload_n X.hx X.hb dX4_acted_68 rfl (lv_at hl 1 rfl) ?_
    exact wr_iret X S rfl hv dX4_acted_69
  · have hv := hv.2 c34
    refine wq_aload_n X dX4_acted_37 rfl (lv_at hl 2 rfl) ?_
    refine wq_cF_A X S hv q2208 ⟨by decide +kernel, by decide +kernel⟩ (nA := 0) (As := []) (by decide +kernel) rfl rfl (by simp [wv_rfc, wv_kI, wv_kJ, wv_kF, wv_kD]) hl.1 dX4_acted_38 (fun x38 w38 H locs cells slots S hv => ?_) (wq_kx X rfl)
    refine wq_cc X S hv q2504 dX4_acted_43 (fun hv => ?_)
    refine wq_astore X (i := 4) (lv' := [(4, va_rf x38), (1, .int v1), (2, .int v2), (3, va_rf v3)]) dX4_acted_46 hl (by decide) (by simp [wv_rfc, wv_kI, wv_kJ, wv_kF, wv_kD]) (fun ls hl => ?_)
    refine lv_iload_n X.hx X.hb dX4_acted_48 rfl (lv_at hl 2 rfl) ?_
    refine wq_aload X dX4_acted_49 (lv_at hl 0 rfl) ?_
    refine wq_cV_I X S hv q2505 q2506 q2507 q117 ⟨by decide +kernel, by decide +kernel⟩ (nA := 0) (As := []) (by decide +kernel) rfl rfl (by simp [wv_rfc, wv_kI, wv_kJ, wv_kF, wv_kD]) hl.1 dX4_acted_51 (fun x51 w51 H locs cells slots S hv => ?_) (wq_kx X rfl)
    refine lv_iload_n X.hx X.hb dX4_acted_54 rfl (lv_at hl 1 rfl) ?_
    refine lv_icmp_ne (tgt := 62) X.hx X.hb dX4_acted_55 (by decide) (fun c55 => ?_) (fun c55 => ?_)
    · have hv := hv.1 c55
      refine lv_iconst (v := (0 : Int32)) X.hx X.hb dX4_acted_62 (by decide) ?_
      exact wk_X4_acted_63 X hK28 hv H locs cells slots ls S (lv_sub hl [1, 3] rfl)
    · have hv := hv.2 c55
      refine lv_iconst (v := (1 : Int32)) X.hx X.hb dX4_acted_58 (by decide) ?_
      refine lv_goto (tgt := 63) X.hx X.hb dX4_acted_59 (by decide) ?_
      exact wk_X4_acted_63 X hK28 hv H locs cells slots ls S (lv_sub hl [1, 3] rfl)
set_option maxHeartbeats 4000000 in
theorem wk_X4_acted_0 {G : wv_G} {p : Program} {e : Env} {R : Room} {s : State} {m : MethodId} {args : Array Value} {below : List Frame} {meth : Method} {c : Code} {fr : Nat} {P : wv_R → wv_H → Prop} (X : wv_ok G p R s m args meth c fr "WeaversgateModel" cX4_acted 5 (Option.some Jvm.ClassFile.FieldType.int) "acted" []) {v0 : Option Nat} {v1 : Int32} {w : wv_W} (hv : vc_X4_acted_0 G fr P v0 v1 w) : wv_J G p e R s m args below meth c 5 P w 0 [(0, va_rf v0), (1, .int v1)] [] := by
  intro H locs cells slots ls S hl
  unfold vc_X4_acted_0 at hv
  refine wq_aload_n X dX4_acted_0 rfl (lv_at hl 0 rfl) ?_
  refine wq_ldcS X S (k := 17) rfl q1966 dX4_acted_1 ?_
  refine lv_iload_n X.hx X.hb dX4_acted_3 rfl (lv_at hl 1 rfl) ?_
  refine wq_cS_I X S hv q1940 q1941 q66 ⟨by decide +kernel, by decide +kernel⟩ (nA := 2) (As := [va_rf (some (G.2.2.2.2 417)), .int v1]) (by decide +kernel) rfl rfl (by simp [wv_rfc, wv_kI, wv_kJ, wv_kF, wv_kD]) hl.1 dX4_acted_4 (fun x4 w4 H locs cells slots S hv => ?_) (wq_kx X rfl)
  refine wq_cV_I X S hv q1975 q1977 qs43 q66 ⟨by decide +kernel, by decide +kernel⟩ (nA := 1) (As := [.int x4]) (by decide +kernel) rfl rfl (by simp [wv_rfc, wv_kI, wv_kJ, wv_kF, wv_kD]) hl.1 dX4_acted_7 (fun x7 w7 H locs cells slots S hv => ?_) (wq_kx X rfl)
  refine lv_if_le (tgt := 15) X.hx X.hb dX4_acted_10 (by decide) (fun c10 => ?_) (fun c10 => ?_)
  · have hv := hv.1 c10
    refine lv_iconst (v := (0 : Int32)) X.hx X.hb dX4_acted_15 (by decide) ?_
    refine lv_istore_n X.hx X.hb (i := 2) (lv' := [(2, .int (0 : Int32)), (0, va_rf v0), (1, .int v1)]) dX4_acted_16 rfl hl (by decide) (by simp [wv_rfc, wv_kI, wv_kJ, wv_kF, wv_kD]) (fun ls hl => ?_)
    refine wq_aload_n X dX4_acted_17 rfl (lv_at hl 1 rfl) ?_
    refine wq_gA X S hv ccX4 in_X4 (k := 16) (by decide) q1827 dX4_acted_18 (fun x18 hv => ?_)
    refine wq_gA X S hv ccX5 in_X5 (k := 0) (by decide) q1776 dX4_acted_21 (fun x21 hv => ?_)
    refine wq_cV_A X S hv q2174 q2175 q2176 q63 ⟨by decide +kernel, by decide +kernel⟩ (nA := 0) (As := []) (by decide +kernel) rfl rfl (by simp [wv_rfc, wv_kI, wv_kJ, wv_kF, wv_kD]) hl.1 dX4_acted_24 (fun x24 w24 H locs cells slots S hv => ?_) (wq_kx X rfl)
    refine wq_astore_n X (i := 3) (lv' := [(3, va_rf x24), (2, .int (0 : Int32)), (0, va_rf v0), (1, .int v1)]) dX4_acted_27 rfl hl (by decide) (by simp [wv_rfc, wv_kI, wv_kJ, wv_kF, wv_kD]) (fun ls hl => ?_)
    exact wv_loop (A := Int32 × Int32 × (Option Nat)) (fun a w => wv_J G p e R s m args below meth c 5 P w 28 [(1, .int a.1), (2, .int a.2.1), (3, va_rf a.2.2)] []) (fun K28 hK28 a w hv => wk_X4_acted_28 X hK28 hv) hv H locs cells slots ls S (lv_sub hl [3, 1, 0] rfl)
  · have hv := hv.2 c10
    refine lv_iconst (v := (0 : Int32)) X.hx X.hb dX4_acted_13 (by decide) ?_
    exact wr_iret X S rfl hv dX4_acted_14
theorem wk_X4_acted {G : wv_G} (hG : wv_G0 G) {v0 : Option Nat} {v1 : Int32} {h : wv_H} {fr kc ks : Nat} {P : wv_R → wv_H → Prop} (hv : vc_X4_acted_0 G fr P v0 v1 (h, kc, ks)) : wv_C G yX4_acted [va_rf v0, .int v1] h fr kc ks P := by
  refine wv_enter (lv := [(0, va_rf v0), (1, .int v1)]) hG (by decide +kernel) q2533 (by decide) (by simp [lg_sl, wv_rfc, wv_kI, wv_kJ, wv_kF, wv_kD]) (by simp [lv_args, wv_rfc, wv_kI, wv_kJ, wv_kF, wv_kD]) ?_
  intro p e R s m args below meth c X H locs cells slots ls S hl
  exact wk_X4_acted_0 X hv H locs cells slots ls S (lv_sub hl [0, 1] rfl)

def vc_X4_addAdvice_69 (G : wv_G) (fr : Nat) (P : wv_R → wv_H → Prop) (v0 : Option Nat) (v1 : Int32) (v2 : Int32) (v3 : Int32) (v4 : Int32) (v5 : Int32) (s0 : Int32) (s1 : Option Nat) (w : wv_W) : Prop :=
  wv_pt w s1 ciX4 12 (.int s0) (fun w69 => wv_gI w69 v0 ciX4 12 (fun x73 => (x73 ≤ 0 → wv_gA w69 v0 ciX4 4 (fun x82 => wv_gI w69 v0 ciX4 15 (fun x86 => wv_si G 0 w69 x82 x86 v1 (fun w90 => wv_gA w90 v0 ciX4 9 (fun x92 => wv_gI w90 v0 ciX4 15 (fun x96 => wv_si G 1 w90 x92 x96 (vp_nar .char v2) (fun w100 => wv_gA w100 v0 ciX4 5 (fun x102 => wv_gI w100 v0 ciX4 15 (fun x106 => wv_si G 0 w100 x102 x106 v3 (fun w110 => wv_gA w110 v0 ciX4 6 (fun x112 => wv_gI w110 v0 ciX4 15 (fun x116 => wv_si G 0 w110 x112 x116 v4 (fun w121 => wv_gA w121 v0 ciX4 7 (fun x123 => wv_gI w121 v0 ciX4 15 (fun x127 => wv_si G 0 w121 x123 x127 v5 (fun w132 => wv_gA w132 v0 ciX4 10 (fun x134 => wv_gI w132 v0 ciX4 15 (fun x138 => wv_si G 2 w132 x134 x138 (vp_nar .boolean (1 : Int32)) (fun w142 => wv_gI w142 v0 ciX4 15 (fun x145 => wv_pt w142 v0 ciX4 15 (.int (x145 + (1 : Int32))) (fun w150 => wv_gI w150 v0 ciX4 15 (fun x154 => P (.inl (some (.int (x154 - (1 : Int32))))) w150.1)))))))))))))))))))))) ∧ (¬ x73 ≤ 0 → P (.inl (some (.int (0 : Int32)))) w69.1)))
def vc_X4_addAdvice_0 (G : wv_G) (fr : Nat) (P : wv_R → wv_H → Prop) (v0 : Option Nat) (v1 : Int32) (v2 : Int32) (v3 : Int32) (v4 : Int32) (v5 : Int32) (w : wv_W) : Prop :=
  wv_c0 G fr yX4_isAspect [.int v1] w (wv_rI (fun x2 w2 => (x2 = 0 → vc_X4_addAdvice_69 G fr P v0 v1 v2 v3 v4 v5 (1 : Int32) v0 w2) ∧ (¬ x2 = 0 → wv_c0 G fr yX4_isOneOf [va_rf (some (G.2.2.2.2 417)), .int v2] w2 (wv_rI (fun x11 w11 => (x11 = 0 → vc_X4_addAdvice_69 G fr P v0 v1 v2 v3 v4 v5 (1 : Int32) v0 w11) ∧ (¬ x11 = 0 → wv_c0 G fr yX4_in [.int v4, .int (-99 : Int32), .int (99 : Int32)] w11 (wv_rI (fun x23 w23 => (x23 = 0 → vc_X4_addAdvice_69 G fr P v0 v1 v2 v3 v4 v5 (1 : Int32) v0 w23) ∧ (¬ x23 = 0 → wv_c0 G fr yX4_in [.int v5, .int (0 : Int32), .int (2 : Int32)] w23 (wv_rI (fun x33 w33 => (¬ x33 = 0 → wv_cV G fr yX4_isPattern v0 [.int v3] w33 (wv_rI (fun x45 w45 => (¬ x45 = 0 → wv_gI w45 v0 ciX4 15 (fun x56 => (¬ x56 = (12 : Int32) → vc_X4_addAdvice_69 G fr P v0 v1 v2 v3 v4 v5 (0 : Int32) v0 w45) ∧ (x56 = (12 : Int32) → vc_X4_addAdvice_69 G fr P v0 v1 v2 v3 v4 v5 (3 : Int32) v0 w45))) ∧ (x45 = 0 → vc_X4_addAdvice_69 G fr P v0 v1 v2 v3 v4 v5 (2 : Int32) v0 w45)) (wv_pr P))) ∧ (x33 = 0 → vc_X4_addAdvice_69 G fr P v0 v1 v2 v3 v4 v5 (1 : Int32) v0 w33)) (wv_pr P)))) (wv_pr P)))) (wv_pr P)))) (wv_pr P))
set_option maxHeartbeats 4000000 in
theorem wk_X4_addAdvice_69 {G : wv_G} {p : Program} {e : Env} {R : Room} {s : State} {m : MethodId} {args : Array Value} {below : List Frame} {meth : Method} {c : Code} {fr : Nat} {P : wv_R → wv_H → Prop} (X : wv_ok G p R s m args meth c fr "WeaversgateModel" cX4_addAdvice 6 (Option.some Jvm.ClassFile.FieldType.int) "addAdvice" []) {v0 : Option Nat} {v1 : Int32} {v2 : Int32} {v3 : Int32} {v4 : Int32} {v5 : Int32} {s0 : Int32} {s1 : Option Nat} {w : wv_W} (hv : vc_X4_addAdvice_69 G fr P v0 v1 v2 v3 v4 v5 s0 s1 w) : wv_J G p e R s m args below meth c 6 P w 69 [(0, va_rf v0), (1, .int v1), (2, .int v2), (3, .int v3), (4, .int v4), (5, .int v5)] [.int s0, va_rf s1] := by
  intro H locs cells slots ls S hl
  unfold vc_X4_addAdvice_69 at hv
  refine wq_pt X S hv tyX4 tyX4_ok nmX4 ccX4 in_X4 (k := 12) (by decide) q1821 rfl rfl rfl rfl dX4_addAdvice_69 (fun w69 H locs S hv => ?_)
  refine wq_aload_n X dX4_addAdvice_72 rfl (lv_at hl 0 rfl) ?_
  refine wq_gI X S hv ccX4 in_X4 (k := 12) (by decide) q1821 dX4_addAdvice_73 (fun x73 hv => ?_)
  refine lv_if_le (tgt := 81) X.hx X.hb dX4_addAdvice_76 (by decide) (fun c76 => ?_) (fun c76 => ?_)
  · have hv := hv.1 c76
    refine wq_aload_n X dX4_addAdvice_81 rfl (lv_at hl 0 rfl) ?_
    refine wq_gA X S hv ccX4 in_X4 (k := 4) (by decide) q1806 dX4_addAdvice_82 (fun x82 hv => ?_)
    refine wq_aload_n X dX4_addAdvice_85 rfl (lv_at hl 0 rfl) ?_
    refine wq_gI X S hv ccX4 in_X4 (k := 15) (by decide) q1825 dX4_addAdvice_86 (fun x86 hv => ?_)
    refine lv_iload_n X.hx X.hb dX4_addAdvice_89 rfl (lv_at hl 1 rfl) ?_
    refine wq_si0 X S hv dX4_addAdvice_90 (fun w90 H locs S hv => ?_)
    refine wq_aload_n X dX4_addAdvice_91 rfl (lv_at hl 0 rfl) ?_
    refine wq_gA X S hv ccX4 in_X4 (k := 9) (by decide) q1816 dX4_addAdvice_92 (fun x92 hv => ?_)
    refine wq_aload_n X dX4_addAdvice_95 rfl (lv_at hl 0 rfl) ?_
    refine wq_gI X S hv ccX4 in_X4 (k := 15) (by decide) q1825 dX4_addAdvice_96 (fun x96 hv => ?_)
    refine lv_iload_n X.hx X.hb dX4_addAdvice_99 rfl (lv_at hl 2 rfl) ?_
    refine wq_si1 X S hv dX4_addAdvice_100 (fun w100 H locs S hv => ?_)
    refine wq_aload_n X dX4_addAdvice_101 rfl (lv_at hl 0 rfl) ?_
    refine wq_gA X S hv ccX4 in_X4 (k := 5) (by decide) q1808 dX4_addAdvice_102 (fun x102 hv => ?_)
    refine wq_aload_n X dX4_addAdvice_105 rfl (lv_at hl 0 rfl) ?_
    refine wq_gI X S hv ccX4 in_X4 (k := 15) (by decide) q1825 dX4_addAdvice_106 (fun x106 hv => ?_)
    refine lv_iload_n X.hx X.hb dX4_addAdvice_109 rfl (lv_at hl 3 rfl) ?_
    refine wq_si0 X S hv dX4_addAdvice_110 (fun w110 H locs S hv => ?_)
    refine wq_aload_n X dX4_addAdvice_111 rfl (lv_at hl 0 rfl) ?_
    refine wq_gA X S hv ccX4 in_X4 (k := 6) (by decide) q1810 dX4_addAdvice_112 (fun x112 hv => ?_)
    refine wq_aload_n X dX4_addAdvice_115 rfl (lv_at hl 0 rfl) ?_
    refine wq_gI X S hv ccX4 in_X4 (k := 15) (by decide) q1825 dX4_addAdvice_116 (fun x116 hv => ?_)
    refine lv_iload X.hx X.hb dX4_addAdvice_119 (lv_at hl 4 rfl) ?_
    refine wq_si0 X S hv dX4_addAdvice_121 (fun w121 H locs S hv => ?_)
    refine wq_aload_n X dX4_addAdvice_122 rfl (lv_at hl 0 rfl) ?_
    refine wq_gA X S hv ccX4 in_X4 (k := 7) (by decide) q1812 dX4_addAdvice_123 (fun x123 hv => ?_)
    refine wq_aload_n X dX4_addAdvice_126 rfl (lv_at hl 0 rfl) ?_
    refine wq_gI X S hv ccX4 in_X4 (k := 15) (by decide) q1825 dX4_addAdvice_127 (fun x127 hv => ?_)
    refine lv_iload X.hx X.hb dX4_addAdvice_130 (lv_at hl 5 rfl) ?_
    refine wq_si0 X S hv dX4_addAdvice_132 (fun w132 H locs S hv => ?_)
    refine wq_aload_n X dX4_addAdvice_133 rfl (lv_at hl 0 rfl) ?_
    refine wq_gA X S hv ccX4 in_X4 (k := 10) (by decide) q1818 dX4_addAdvice_134 (fun x134 hv => ?_)
    refine wq_aload_n X dX4_addAdvice_137 rfl (lv_at hl 0 rfl) ?_
    refine wq_gI X S hv ccX4 in_X4 (k := 15) (by decide) q1825 dX4_addAdvice_138 (fun x138 hv => ?_)
    refine lv_iconst (v := (1 : Int32)) X.hx X.hb dX4_addAdvice_141 (by decide) ?_
    refine wq_si2 X S hv dX4_addAdvice_142 (fun w142 H locs S hv => ?_)
    refine wq_aload_n X dX4_addAdvice_143 rfl (lv_at hl 0 rfl) ?_
    refine lv_dup X.hx X.hb dX4_addAdvice_144 (wv_rfc _) ?_
    refine wq_gI X S hv ccX4 in_X4 (k := 15) (by decide) q1825 dX4_addAdvice_145 (fun x145 hv => ?_)
    refine lv_iconst (v := (1 : Int32)) X.hx X.hb dX4_addAdvice_148 (by decide) ?_
    refine lv_iadd X.hx X.hb dX4_addAdvice_149 ?_
    refine wq_pt X S hv tyX4 tyX4_ok nmX4 ccX4 in_X4 (k := 15) (by decide) q1825 rfl rfl rfl rfl dX4_addAdvice_150 (fun w150 H locs S hv => ?_)
    refine wq_aload_n X dX4_addAdvice_153 rfl (lv_at hl 0 rfl) ?_
    refine wq_gI X S hv ccX4 in_X4 (k := 15) (by decide) q1825 dX4_addAdvice_154 (fun x154 hv => ?_)
    refine lv_iconst (v := (1 : Int32)) X.hx X.hb dX4_addAdvice_157 (by decide) ?_
    refine lv_isub X.hx X.hb dX4_addAdvice_158 ?_
    exact wr_iret X S rfl hv dX4_addAdvice_159
  · have hv := hv.2 c76
    refine lv_iconst (v := (0 : Int32)) X.hx X.hb dX4_addAdvice_79 (by decide) ?_
    exact wr_iret X S rfl hv dX4_addAdvice_80
set_option maxHeartbeats 4000000 in
theorem wk_X4_addAdvice_0 {G : wv_G} {p : Program} {e : Env} {R : Room} {s : State} {m : MethodId} {args : Array Value} {below : List Frame} {meth : Method} {c : Code} {fr : Nat} {P : wv_R → wv_H → Prop} (X : wv_ok G p R s m args meth c fr "WeaversgateModel" cX4_addAdvice 6 (Option.some Jvm.ClassFile.FieldType.int) "addAdvice" []) {v0 : Option Nat} {v1 : Int32} {v2 : Int32} {v3 : Int32} {v4 : Int32} {v5 : Int32} {w : wv_W} (hv : vc_X4_addAdvice_0 G fr P v0 v1 v2 v3 v4 v5 w) : wv_J G p e R s m args below meth c 6 P w 0 [(0, va_rf v0), (1, .int v1), (2, .int v2), (3, .int v3), (4, .int v4), (5, .int v5)] [] := by
  intro H locs cells slots ls S hl
  unfold vc_X4_addAdvice_0 at hv
  refine wq_aload_n X dX4_addAdvice_0 rfl (lv_at hl 0 rfl) ?_
  refine lv_iload_n X.hx X.hb dX4_addAdvice_1 rfl (lv_at hl 1 rfl) ?_
  refine wq_cS_I X S hv q1963 q1964 q66 ⟨by decide +kernel, by decide +kernel⟩ (nA := 1) (As := [.int v1]) (by decide +kernel) rfl rfl (by simp [wv_rfc, wv_kI, wv_kJ, wv_kF, wv_kD]) hl.1 dX4_addAdvice_2 (fun x2 w2 H locs cells slots S hv => ?_) (wq_kx X rfl)
  refine lv_if_eq (tgt := 39) X.hx X.hb dX4_addAdvice_5 (by decide) (fun c5 => ?_) (fun c5 => ?_)
  · have hv := hv.1 c5
    refine lv_iconst (v := (1 : Int32)) X.hx X.hb dX4_addAdvice_39 (by decide) ?_
    refine lv_goto (tgt := 69) X.hx X.hb dX4_addAdvice_40 (by decide) ?_
    exact wk_X4_addAdvice_69 X  hv H locs cells slots ls S (lv_sub hl [0, 1, 2, 3, 4, 5] rfl)
  · have hv := hv.2 c5
    refine wq_ldcS X S (k := 17) rfl q1966 dX4_addAdvice_8 ?_
    refine lv_iload_n X.hx X.hb dX4_addAdvice_10 rfl (lv_at hl 2 rfl) ?_
    refine wq_cS_I X S hv q1940 q1941 q66 ⟨by decide +kernel, by decide +kernel⟩ (nA := 2) (As := [va_rf (some (G.2.2.2.2 417)), .int v2]) (by decide +kernel) rfl rfl (by simp [wv_rfc, wv_kI, wv_kJ, wv_kF, wv_kD]) hl.1 dX4_addAdvice_11 (fun x11 w11 H locs cells slots S hv => ?_) (wq_kx X rfl)
    refine lv_if_eq (tgt := 39) X.hx X.hb dX4_addAdvice_14 (by decide) (fun c14 => ?_) (fun c14 => ?_)
    · have hv := hv.1 c14
      refine lv_iconst (v := (1 : Int32)) X.hx X.hb dX4_addAdvice_39 (by decide) ?_
      refine lv_goto (tgt := 69) X.hx X.hb dX4_addAdvice_40 (by decide) ?_
      exact wk_X4_addAdvice_69 X  hv H locs cells slots ls S (lv_sub hl [0, 1, 2, 3, 4, 5] rfl)
    · have hv := hv.2 c14
      refine lv_iload X.hx X.hb dX4_addAdvice_17 (lv_at hl 4 rfl) ?_
      refine lv_bipush (v := (-99 : Int32)) X.hx X.hb dX4_addAdvice_19 (by decide) ?_
      refine lv_bipush (v := (99 : Int32)) X.hx X.hb dX4_addAdvice_21 (by decide) ?_
      refine wq_cS_I X S hv q1875 q1876 q66 ⟨by decide +kernel, by decide +kernel⟩ (nA := 3) (As := [.int v4, .int (-99 : Int32), .int (99 : Int32)]) (by decide +kernel) rfl rfl (by simp [wv_rfc, wv_kI, wv_kJ, wv_kF, wv_kD]) hl.1 dX4_addAdvice_23 (fun x23 w23 H locs cells slots S hv => ?_) (wq_kx X rfl)
      refine lv_if_eq (tgt := 39) X.hx X.hb dX4_addAdvice_26 (by decide) (fun c26 => ?_) (fun c26 => ?_)
      · have hv := hv.1 c26
        refine lv_iconst (v := (1 : Int32)) X.hx X.hb dX4_addAdvice_39 (by decide) ?_
        refine lv_goto (tgt := 69) X.hx X.hb dX4_addAdvice_40 (by decide) ?_
        exact wk_X4_addAdvice_69 X  hv H locs cells slots ls S (lv_sub hl [0, 1, 2, 3, 4, 5] rfl)
      · have hv := hv.2 c26
        refine lv_iload X.hx X.hb dX4_addAdvice_29 (lv_at hl 5 rfl) ?_
        refine lv_iconst (v := (0 : Int32)) X.hx X.hb dX4_addAdvice_31 (by decide) ?_
        refine lv_iconst (v := (2 : Int32)) X.hx X.hb dX4_addAdvice_32 (by decide) ?_
        refine wq_cS_I X S hv q1875 q1876 q66 ⟨by decide +kernel, by decide +kernel⟩ (nA := 3) (As := [.int v5, .int (0 : Int32), .int (2 : Int32)]) (by decide +kernel) rfl rfl (by simp [wv_rfc, wv_kI, wv_kJ, wv_kF, wv_kD]) hl.1 dX4_addAdvice_33 (fun x33 w33 H locs cells slots S hv => ?_) (wq_kx X rfl)
        refine lv_if_ne (tgt := 43) X.hx X.hb dX4_addAdvice_36 (by decide) (fun c36 => ?_) (fun c36 => ?_)
        · have hv := hv.1 c36
          refine wq_aload_n X dX4_addAdvice_43 rfl (lv_at hl 0 rfl) ?_
          refine lv_iload_n X.hx X.hb dX4_addAdvice_44 rfl (lv_at hl 3 rfl) ?_
          refine wq_cV_I X S hv q1954 q1956 qs41 q66 ⟨by decide +kernel, by decide +kernel⟩ (nA := 1) (As := [.int v3]) (by decide +kernel) rfl rfl (by simp [wv_rfc, wv_kI, wv_kJ, wv_kF, wv_kD]) hl.1 dX4_addAdvice_45 (fun x45 w45 H locs cells slots S hv => ?_) (wq_kx X rfl)
          refine lv_if_ne (tgt := 55) X.hx X.hb dX4_addAdvice_48 (by decide) (fun c48 => ?_) (fun c48 => ?_)
          · have hv := hv.1 c48
            refine wq_aload_n X dX4_addAdvice_55 rfl (lv_at hl 0 rfl) ?_
            refine wq_gI X S hv ccX4 in_X4 (k := 15) (by decide) q1825 dX4_addAdvice_56 (fun x56 hv => ?_)
            refine lv_bipush (v := (12 : Int32)) X.hx X.hb dX4_addAdvice_59 (by decide) ?_
            refine lv_icmp_ne (tgt := 68) X.hx X.hb dX4_addAdvice_61 (by decide) (fun c61 => ?_) (fun c61 => ?_)
            · have hv := hv.1 c61
              refine lv_iconst (v := (0 : Int32)) X.hx X.hb dX4_addAdvice_68 (by decide) ?_
              exact wk_X4_addAdvice_69 X  hv H locs cells slots ls S (lv_sub hl [0, 1, 2, 3, 4, 5] rfl)
            · have hv := hv.2 c61
              refine lv_iconst (v := (3 : Int32)) X.hx X.hb dX4_addAdvice_64 (by decide) ?_
              refine lv_goto (tgt := 69) X.hx X.hb dX4_addAdvice_65 (by decide) ?_
              exact wk_X4_addAdvice_69 X  hv H locs cells slots ls S (lv_sub hl [0, 1, 2, 3, 4, 5] rfl)
          · have hv := hv.2 c48
            refine lv_iconst (v := (2 : Int32)) X.hx X.hb dX4_addAdvice_51 (by decide) ?_
            refine lv_goto (tgt := 69) X.hx X.hb dX4_addAdvice_52 (by decide) ?_
            exact wk_X4_addAdvice_69 X  hv H locs cells slots ls S (lv_sub hl [0, 1, 2, 3, 4, 5] rfl)
        · have hv := hv.2 c36
          refine lv_iconst (v := (1 : Int32)) X.hx X.hb dX4_addAdvice_39 (by decide) ?_
          refine lv_goto (tgt := 69) X.hx X.hb dX4_addAdvice_40 (by decide) ?_
          exact wk_X4_addAdvice_69 X  hv H locs cells slots ls S (lv_sub hl [0, 1, 2, 3, 4, 5] rfl)
theorem wk_X4_addAdvice {G : wv_G} (hG : wv_G0 G) {v0 : Option Nat} {v1 : Int32} {v2 : Int32} {v3 : Int32} {v4 : Int32} {v5 : Int32} {h : wv_H} {fr kc ks : Nat} {P : wv_R → wv_H → Prop} (hv : vc_X4_addAdvice_0 G fr P v0 v1 v2 v3 v4 v5 (h, kc, ks)) : wv_C G yX4_addAdvice [va_rf v0, .int v1, .int v2, .int v3, .int v4, .int v5] h fr kc ks P := by
  refine wv_enter (lv := [(0, va_rf v0), (1, .int v1), (2, .int v2), (3, .int v3), (4, .int v4), (5, .int v5)]) hG (by decide +kernel) q1962 (by decide) (by simp [lg_sl, wv_rfc, wv_kI, wv_kJ, wv_kF, wv_kD]) (by simp [lv_args, wv_rfc, wv_kI, wv_kJ, wv_kF, wv_kD]) ?_
  intro p e R s m args below meth c X H locs cells slots ls S hl
  exact wk_X4_addAdvice_0 X hv H locs cells slots ls S (lv_sub hl [0, 1, 2, 3, 4, 5] rfl)

def vc_X4_addClass_32 (G : wv_G) (fr : Nat) (P : wv_R → wv_H → Prop) (v0 : Option Nat) (v1 : Int32) (s0 : Int32) (s1 : Option Nat) (w : wv_W) : Prop :=
  wv_pt w s1 ciX4 12 (.int s0) (fun w32 => wv_gI w32 v0 ciX4 12 (fun x36 => (x36 ≤ 0 → wv_gA w32 v0 ciX4 1 (fun x45 => wv_gI w32 v0 ciX4 13 (fun x49 => wv_si G 0 w32 x45 x49 v1 (fun w53 => wv_gI w53 v0 ciX4 13 (fun x56 => wv_pt w53 v0 ciX4 13 (.int (x56 + (1 : Int32))) (fun w61 => wv_gI w61 v0 ciX4 13 (fun x65 => P (.inl (some (.int (x65 - (1 : Int32))))) w61.1))))))) ∧ (¬ x36 ≤ 0 → P (.inl (some (.int (0 : Int32)))) w32.1)))
def vc_X4_addClass_18 (G : wv_G) (fr : Nat) (P : wv_R → wv_H → Prop) (v0 : Option Nat) (v1 : Int32) (s0 : Option Nat) (w : wv_W) : Prop :=
  wv_gI w v0 ciX4 13 (fun x19 => (¬ x19 = (6 : Int32) → vc_X4_addClass_32 G fr P v0 v1 (0 : Int32) s0 w) ∧ (x19 = (6 : Int32) → vc_X4_addClass_32 G fr P v0 v1 (2 : Int32) s0 w))
def vc_X4_addClass_0 (G : wv_G) (fr : Nat) (P : wv_R → wv_H → Prop) (v0 : Option Nat) (v1 : Int32) (w : wv_W) : Prop :=
  (v1 = (-1 : Int32) → vc_X4_addClass_18 G fr P v0 v1 v0 w) ∧ (¬ v1 = (-1 : Int32) → wv_cV G fr yX4_isClass v0 [.int v1] w (wv_rI (fun x8 w8 => (¬ x8 = 0 → vc_X4_addClass_18 G fr P v0 v1 v0 w8) ∧ (x8 = 0 → vc_X4_addClass_32 G fr P v0 v1 (1 : Int32) v0 w8)) (wv_pr P)))
set_option maxHeartbeats 4000000 in
theorem wk_X4_addClass_32 {G : wv_G} {p : Program} {e : Env} {R : Room} {s : State} {m : MethodId} {args : Array Value} {below : List Frame} {meth : Method} {c : Code} {fr : Nat} {P : wv_R → wv_H → Prop} (X : wv_ok G p R s m args meth c fr "WeaversgateModel" cX4_addClass 2 (Option.some Jvm.ClassFile.FieldType.int) "addClass" []) {v0 : Option Nat} {v1 : Int32} {s0 : Int32} {s1 : Option Nat} {w : wv_W} (hv : vc_X4_addClass_32 G fr P v0 v1 s0 s1 w) : wv_J G p e R s m args below meth c 2 P w 32 [(0, va_rf v0), (1, .int v1)] [.int s0, va_rf s1] := by
  intro H locs cells slots ls S hl
  unfold vc_X4_addClass_32 at hv
  refine wq_pt X S hv tyX4 tyX4_ok nmX4 ccX4 in_X4 (k := 12) (by decide) q1821 rfl rfl rfl rfl dX4_addClass_32 (fun w32 H locs S hv => ?_)
  refine wq_aload_n X dX4_addClass_35 rfl (lv_at hl 0 rfl) ?_
  refine wq_gI X S hv ccX4 in_X4 (k := 12) (by decide) q1821 dX4_addClass_36 (fun x36 hv => ?_)
  refine lv_if_le (tgt := 44) X.hx X.hb dX4_addClass_39 (by decide) (fun c39 => ?_) (fun c39 => ?_)
  · have hv := hv.1 c39
    refine wq_aload_n X dX4_addClass_44 rfl (lv_at hl 0 rfl) ?_
    refine wq_gA X S hv ccX4 in_X4 (k := 1) (by decide) q1801 dX4_addClass_45 (fun x45 hv => ?_)
    refine wq_aload_n X dX4_addClass_48 rfl (lv_at hl 0 rfl) ?_
    refine wq_gI X S hv ccX4 in_X4 (k := 13) (by decide) q1822 dX4_addClass_49 (fun x49 hv => ?_)
    refine lv_iload_n X.hx X.hb dX4_addClass_52 rfl (lv_at hl 1 rfl) ?_
    refine wq_si0 X S hv dX4_addClass_53 (fun w53 H locs S hv => ?_)
    refine wq_aload_n X dX4_addClass_54 rfl (lv_at hl 0 rfl) ?_
    refine lv_dup X.hx X.hb dX4_addClass_55 (wv_rfc _) ?_
    refine wq_gI X S hv ccX4 in_X4 (k := 13) (by decide) q1822 dX4_addClass_56 (fun x56 hv => ?_)
    refine lv_iconst (v := (1 : Int32)) X.hx X.hb dX4_addClass_59 (by decide) ?_
    refine lv_iadd X.hx X.hb dX4_addClass_60 ?_
    refine wq_pt X S hv tyX4 tyX4_ok nmX4 ccX4 in_X4 (k := 13) (by decide) q1822 rfl rfl rfl rfl dX4_addClass_61 (fun w61 H locs S hv => ?_)
    refine wq_aload_n X dX4_addClass_64 rfl (lv_at hl 0 rfl) ?_
    refine wq_gI X S hv ccX4 in_X4 (k := 13) (by decide) q1822 dX4_addClass_65 (fun x65 hv => ?_)
    refine lv_iconst (v := (1 : Int32)) X.hx X.hb dX4_addClass_68 (by decide) ?_
    refine lv_isub X.hx X.hb dX4_addClass_69 ?_
    exact wr_iret X S rfl hv dX4_addClass_70
  · have hv := hv.2 c39
    refine lv_iconst (v := (0 : Int32)) X.hx X.hb dX4_addClass_42 (by decide) ?_
    exact wr_iret X S rfl hv dX4_addClass_43
set_option maxHeartbeats 4000000 in
theorem wk_X4_addClass_18 {G : wv_G} {p : Program} {e : Env} {R : Room} {s : State} {m : MethodId} {args : Array Value} {below : List Frame} {meth : Method} {c : Code} {fr : Nat} {P : wv_R → wv_H → Prop} (X : wv_ok G p R s m args meth c fr "WeaversgateModel" cX4_addClass 2 (Option.some Jvm.ClassFile.FieldType.int) "addClass" []) {v0 : Option Nat} {v1 : Int32} {s0 : Option Nat} {w : wv_W} (hv : vc_X4_addClass_18 G fr P v0 v1 s0 w) : wv_J G p e R s m args below meth c 2 P w 18 [(0, va_rf v0), (1, .int v1)] [va_rf s0] := by
  intro H locs cells slots ls S hl
  unfold vc_X4_addClass_18 at hv
  refine wq_aload_n X dX4_addClass_18 rfl (lv_at hl 0 rfl) ?_
  refine wq_gI X S hv ccX4 in_X4 (k := 13) (by decide) q1822 dX4_addClass_19 (fun x19 hv => ?_)
  refine lv_bipush (v := (6 : Int32)) X.hx X.hb dX4_addClass_22 (by decide) ?_
  refine lv_icmp_ne (tgt := 31) X.hx X.hb dX4_addClass_24 (by decide) (fun c24 => ?_) (fun c24 => ?_)
  · have hv := hv.1 c24
    refine lv_iconst (v := (0 : Int32)) X.hx X.hb dX4_addClass_31 (by decide) ?_
    exact wk_X4_addClass_32 X  hv H locs cells slots ls S (lv_sub hl [0, 1] rfl)
  · have hv := hv.2 c24
    refine lv_iconst (v := (2 : Int32)) X.hx X.hb dX4_addClass_27 (by decide) ?_
    refine lv_goto (tgt := 32) X.hx X.hb dX4_addClass_28 (by decide) ?_
    exact wk_X4_addClass_32 X  hv H locs cells slots ls S (lv_sub hl [0, 1] rfl)
set_option maxHeartbeats 4000000 in
theorem wk_X4_addClass_0 {G : wv_G} {p : Program} {e : Env} {R : Room} {s : State} {m : MethodId} {args : Array Value} {below : List Frame} {meth : Method} {c : Code} {fr : Nat} {P : wv_R → wv_H → Prop} (X : wv_ok G p R s m args meth c fr "WeaversgateModel" cX4_addClass 2 (Option.some Jvm.ClassFile.FieldType.int) "addClass" []) {v0 : Option Nat} {v1 : Int32} {w : wv_W} (hv : vc_X4_addClass_0 G fr P v0 v1 w) : wv_J G p e R s m args below meth c 2 P w 0 [(0, va_rf v0), (1, .int v1)] [] := by
  intro H locs cells slots ls S hl
  unfold vc_X4_addClass_0 at hv
  refine wq_aload_n X dX4_addClass_0 rfl (lv_at hl 0 rfl) ?_
  refine lv_iload_n X.hx X.hb dX4_addClass_1 rfl (lv_at hl 1 rfl) ?_
  refine lv_iconst (v := (-1 : Int32)) X.hx X.hb dX4_addClass_2 (by decide) ?_
  refine lv_icmp_eq (tgt := 18) X.hx X.hb dX4_addClass_3 (by decide) (fun c3 => ?_) (fun c3 => ?_)
  · have hv := hv.1 c3
    exact wk_X4_addClass_18 X  hv H locs cells slots ls S (lv_sub hl [0, 1] rfl)
  · have hv := hv.2 c3
    refine wq_aload_n X dX4_addClass_6 rfl (lv_at hl 0 rfl) ?_
    refine lv_iload_n X.hx X.hb dX4_addClass_7 rfl (lv_at hl 1 rfl) ?_
    refine wq_cV_I X S hv q1871 q1873 qs35 q66 ⟨by decide +kernel, by decide +kernel⟩ (nA := 1) (As := [.int v1]) (by decide +kernel) rfl rfl (by simp [wv_rfc, wv_kI, wv_kJ, wv_kF, wv_kD]) hl.1 dX4_addClass_8 (fun x8 w8 H locs cells slots S hv => ?_) (wq_kx X rfl)
    refine lv_if_ne (tgt := 18) X.hx X.hb dX4_addClass_11 (by decide) (fun c11 => ?_) (fun c11 => ?_)
    · have hv := hv.1 c11
      exact wk_X4_addClass_18 X  hv H locs cells slots ls S (lv_sub hl [0, 1] rfl)
    · have hv := hv.2 c11
      refine lv_iconst (v := (1 : Int32)) X.hx X.hb dX4_addClass_14 (by decide) ?_
      refine lv_goto (tgt := 32) X.hx X.hb dX4_addClass_15 (by decide) ?_
      exact wk_X4_addClass_32 X  hv H locs cells slots ls S (lv_sub hl [0, 1] rfl)
theorem wk_X4_addClass {G : wv_G} (hG : wv_G0 G) {v0 : Option Nat} {v1 : Int32} {h : wv_H} {fr kc ks : Nat} {P : wv_R → wv_H → Prop} (hv : vc_X4_addClass_0 G fr P v0 v1 (h, kc, ks)) : wv_C G yX4_addClass [va_rf v0, .int v1] h fr kc ks P := by
  refine wv_enter (lv := [(0, va_rf v0), (1, .int v1)]) hG (by decide +kernel) q1870 (by decide) (by simp [lg_sl, wv_rfc, wv_kI, wv_kJ, wv_kF, wv_kD]) (by simp [lv_args, wv_rfc, wv_kI, wv_kJ, wv_kF, wv_kD]) ?_
  intro p e R s m args below meth c X H locs cells slots ls S hl
  exact wk_X4_addClass_0 X hv H locs cells slots ls S (lv_sub hl [0, 1] rfl)

def vc_X4_addPattern_50 (G : wv_G) (fr : Nat) (P : wv_R → wv_H → Prop) (v0 : Option Nat) (v1 : Int32) (v2 : Int32) (v3 : Int32) (s0 : Int32) (s1 : Option Nat) (w : wv_W) : Prop :=
  wv_pt w s1 ciX4 12 (.int s0) (fun w50 => wv_gI w50 v0 ciX4 12 (fun x54 => (x54 ≤ 0 → wv_gA w50 v0 ciX4 8 (fun x63 => wv_gI w50 v0 ciX4 14 (fun x67 => wv_si G 1 w50 x63 x67 (vp_nar .char v1) (fun w71 => wv_gA w71 v0 ciX4 2 (fun x73 => wv_gI w71 v0 ciX4 14 (fun x77 => wv_si G 0 w71 x73 x77 v2 (fun w81 => wv_gA w81 v0 ciX4 3 (fun x83 => wv_gI w81 v0 ciX4 14 (fun x87 => wv_si G 0 w81 x83 x87 v3 (fun w91 => wv_gI w91 v0 ciX4 14 (fun x94 => wv_pt w91 v0 ciX4 14 (.int (x94 + (1 : Int32))) (fun w99 => wv_gI w99 v0 ciX4 14 (fun x103 => P (.inl (some (.int (x103 - (1 : Int32))))) w99.1))))))))))))) ∧ (¬ x54 ≤ 0 → P (.inl (some (.int (0 : Int32)))) w50.1)))
def vc_X4_addPattern_0 (G : wv_G) (fr : Nat) (P : wv_R → wv_H → Prop) (v0 : Option Nat) (v1 : Int32) (v2 : Int32) (v3 : Int32) (w : wv_W) : Prop :=
  wv_c0 G fr yX4_isOneOf [va_rf (some (G.2.2.2.2 413)), .int v1] w (wv_rI (fun x4 w4 => (x4 = 0 → vc_X4_addPattern_50 G fr P v0 v1 v2 v3 (1 : Int32) v0 w4) ∧ (¬ x4 = 0 → wv_c0 G fr yX4_isPatternNumber [.int v1, .int v2] w4 (wv_rI (fun x12 w12 => (¬ x12 = 0 → wv_cV G fr yX4_arePatterns v0 [.int v1, .int v2, .int v3] w12 (wv_rI (fun x26 w26 => (¬ x26 = 0 → wv_gI w26 v0 ciX4 14 (fun x37 => (¬ x37 = (24 : Int32) → vc_X4_addPattern_50 G fr P v0 v1 v2 v3 (0 : Int32) v0 w26) ∧ (x37 = (24 : Int32) → vc_X4_addPattern_50 G fr P v0 v1 v2 v3 (3 : Int32) v0 w26))) ∧ (x26 = 0 → vc_X4_addPattern_50 G fr P v0 v1 v2 v3 (2 : Int32) v0 w26)) (wv_pr P))) ∧ (x12 = 0 → vc_X4_addPattern_50 G fr P v0 v1 v2 v3 (1 : Int32) v0 w12)) (wv_pr P)))) (wv_pr P))
set_option maxHeartbeats 4000000 in
theorem wk_X4_addPattern_50 {G : wv_G} {p : Program} {e : Env} {R : Room} {s : State} {m : MethodId} {args : Array Value} {below : List Frame} {meth : Method} {c : Code} {fr : Nat} {P : wv_R → wv_H → Prop} (X : wv_ok G p R s m args meth c fr "WeaversgateModel" cX4_addPattern 4 (Option.some Jvm.ClassFile.FieldType.int) "addPattern" []) {v0 : Option Nat} {v1 : Int32} {v2 : Int32} {v3 : Int32} {s0 : Int32} {s1 : Option Nat} {w : wv_W} (hv : vc_X4_addPattern_50 G fr P v0 v1 v2 v3 s0 s1 w) : wv_J G p e R s m args below meth c 4 P w 50 [(0, va_rf v0), (1, .int v1), (2, .int v2), (3, .int v3)] [.int s0, va_rf s1] := by
  intro H locs cells slots ls S hl
  unfold vc_X4_addPattern_50 at hv
  refine wq_pt X S hv tyX4 tyX4_ok nmX4 ccX4 in_X4 (k := 12) (by decide) q1821 rfl rfl rfl rfl dX4_addPattern_50 (fun w50 H locs S hv => ?_)
  refine wq_aload_n X dX4_addPattern_53 rfl (lv_at hl 0 rfl) ?_
  refine wq_gI X S hv ccX4 in_X4 (k := 12) (by decide) q1821 dX4_addPattern_54 (fun x54 hv => ?_)
  refine lv_if_le (tgt := 62) X.hx X.hb dX4_addPattern_57 (by decide) (fun c57 => ?_) (fun c57 => ?_)
  · have hv := hv.1 c57
    refine wq_aload_n X dX4_addPattern_62 rfl (lv_at hl 0 rfl) ?_
    refine wq_gA X S hv ccX4 in_X4 (k := 8) (by decide) q1814 dX4_addPattern_63 (fun x63 hv => ?_)
    refine wq_aload_n X dX4_addPattern_66 rfl (lv_at hl 0 rfl) ?_
    refine wq_gI X S hv ccX4 in_X4 (k := 14) (by decide) q1823 dX4_addPattern_67 (fun x67 hv => ?_)
    refine lv_iload_n X.hx X.hb dX4_addPattern_70 rfl (lv_at hl 1 rfl) ?_
    refine wq_si1 X S hv dX4_addPattern_71 (fun w71 H locs S hv => ?_)
    refine wq_aload_n X dX4_addPattern_72 rfl (lv_at hl 0 rfl) ?_
    refine wq_gA X S hv ccX4 in_X4 (k := 2) (by decide) q1802 dX4_addPattern_73 (fun x73 hv => ?_)
    refine wq_aload_n X dX4_addPattern_76 rfl (lv_at hl 0 rfl) ?_
    refine wq_gI X S hv ccX4 in_X4 (k := 14) (by decide) q1823 dX4_addPattern_77 (fun x77 hv => ?_)
    refine lv_iload_n X.hx X.hb dX4_addPattern_80 rfl (lv_at hl 2 rfl) ?_
    refine wq_si0 X S hv dX4_addPattern_81 (fun w81 H locs S hv => ?_)
    refine wq_aload_n X dX4_addPattern_82 rfl (lv_at hl 0 rfl) ?_
    refine wq_gA X S hv ccX4 in_X4 (k := 3) (by decide) q1804 dX4_addPattern_83 (fun x83 hv => ?_)
    refine wq_aload_n X dX4_addPattern_86 rfl (lv_at hl 0 rfl) ?_
    refine wq_gI X S hv ccX4 in_X4 (k := 14) (by decide) q1823 dX4_addPattern_87 (fun x87 hv => ?_)
    refine lv_iload_n X.hx X.hb dX4_addPattern_90 rfl (lv_at hl 3 rfl) ?_
    refine wq_si0 X S hv dX4_addPattern_91 (fun w91 H locs S hv => ?_)
    refine wq_aload_n X dX4_addPattern_92 rfl (lv_at hl 0 rfl) ?_
    refine lv_dup X.hx X.hb dX4_addPattern_93 (wv_rfc _) ?_
    refine wq_gI X S hv ccX4 in_X4 (k := 14) (by decide) q1823 dX4_addPattern_94 (fun x94 hv => ?_)
    refine lv_iconst (v := (1 : Int32)) X.hx X.hb dX4_addPattern_97 (by decide) ?_
    refine lv_iadd X.hx X.hb dX4_addPattern_98 ?_
    refine wq_pt X S hv tyX4 tyX4_ok nmX4 ccX4 in_X4 (k := 14) (by decide) q1823 rfl rfl rfl rfl dX4_addPattern_99 (fun w99 H locs S hv => ?_)
    refine wq_aload_n X dX4_addPattern_102 rfl (lv_at hl 0 rfl) ?_
    refine wq_gI X S hv ccX4 in_X4 (k := 14) (by decide) q1823 dX4_addPattern_103 (fun x103 hv => ?_)
    refine lv_iconst (v := (1 : Int32)) X.hx X.hb dX4_addPattern_106 (by decide) ?_
    refine lv_isub X.hx X.hb dX4_addPattern_107 ?_
    exact wr_iret X S rfl hv dX4_addPattern_108
  · have hv := hv.2 c57
    refine lv_iconst (v := (0 : Int32)) X.hx X.hb dX4_addPattern_60 (by decide) ?_
    exact wr_iret X S rfl hv dX4_addPattern_61
set_option maxHeartbeats 4000000 in
theorem wk_X4_addPattern_0 {G : wv_G} {p : Program} {e : Env} {R : Room} {s : State} {m : MethodId} {args : Array Value} {below : List Frame} {meth : Method} {c : Code} {fr : Nat} {P : wv_R → wv_H → Prop} (X : wv_ok G p R s m args meth c fr "WeaversgateModel" cX4_addPattern 4 (Option.some Jvm.ClassFile.FieldType.int) "addPattern" []) {v0 : Option Nat} {v1 : Int32} {v2 : Int32} {v3 : Int32} {w : wv_W} (hv : vc_X4_addPattern_0 G fr P v0 v1 v2 v3 w) : wv_J G p e R s m args below meth c 4 P w 0 [(0, va_rf v0), (1, .int v1), (2, .int v2), (3, .int v3)] [] := by
  intro H locs cells slots ls S hl
  unfold vc_X4_addPattern_0 at hv
  refine wq_aload_n X dX4_addPattern_0 rfl (lv_at hl 0 rfl) ?_
  refine wq_ldcS X S (k := 13) rfl q1939 dX4_addPattern_1 ?_
  refine lv_iload_n X.hx X.hb dX4_addPattern_3 rfl (lv_at hl 1 rfl) ?_
  refine wq_cS_I X S hv q1940 q1941 q66 ⟨by decide +kernel, by decide +kernel⟩ (nA := 2) (As := [va_rf (some (G.2.2.2.2 413)), .int v1]) (by decide +kernel) rfl rfl (by simp [wv_rfc, wv_kI, wv_kJ, wv_kF, wv_kD]) hl.1 dX4_addPattern_4 (fun x4 w4 H locs cells slots S hv => ?_) (wq_kx X rfl)
  refine lv_if_eq (tgt := 18) X.hx X.hb dX4_addPattern_7 (by decide) (fun c7 => ?_) (fun c7 => ?_)
  · have hv := hv.1 c7
    refine lv_iconst (v := (1 : Int32)) X.hx X.hb dX4_addPattern_18 (by decide) ?_
    refine lv_goto (tgt := 50) X.hx X.hb dX4_addPattern_19 (by decide) ?_
    exact wk_X4_addPattern_50 X  hv H locs cells slots ls S (lv_sub hl [0, 1, 2, 3] rfl)
  · have hv := hv.2 c7
    refine lv_iload_n X.hx X.hb dX4_addPattern_10 rfl (lv_at hl 1 rfl) ?_
    refine lv_iload_n X.hx X.hb dX4_addPattern_11 rfl (lv_at hl 2 rfl) ?_
    refine wq_cS_I X S hv q1945 q1946 q66 ⟨by decide +kernel, by decide +kernel⟩ (nA := 2) (As := [.int v1, .int v2]) (by decide +kernel) rfl rfl (by simp [wv_rfc, wv_kI, wv_kJ, wv_kF, wv_kD]) hl.1 dX4_addPattern_12 (fun x12 w12 H locs cells slots S hv => ?_) (wq_kx X rfl)
    refine lv_if_ne (tgt := 22) X.hx X.hb dX4_addPattern_15 (by decide) (fun c15 => ?_) (fun c15 => ?_)
    · have hv := hv.1 c15
      refine wq_aload_n X dX4_addPattern_22 rfl (lv_at hl 0 rfl) ?_
      refine lv_iload_n X.hx X.hb dX4_addPattern_23 rfl (lv_at hl 1 rfl) ?_
      refine lv_iload_n X.hx X.hb dX4_addPattern_24 rfl (lv_at hl 2 rfl) ?_
      refine lv_iload_n X.hx X.hb dX4_addPattern_25 rfl (lv_at hl 3 rfl) ?_
      refine wq_cV_I X S hv q1949 q1951 qs40 q66 ⟨by decide +kernel, by decide +kernel⟩ (nA := 3) (As := [.int v1, .int v2, .int v3]) (by decide +kernel) rfl rfl (by simp [wv_rfc, wv_kI, wv_kJ, wv_kF, wv_kD]) hl.1 dX4_addPattern_26 (fun x26 w26 H locs cells slots S hv => ?_) (wq_kx X rfl)
      refine lv_if_ne (tgt := 36) X.hx X.hb dX4_addPattern_29 (by decide) (fun c29 => ?_) (fun c29 => ?_)
      · have hv := hv.1 c29
        refine wq_aload_n X dX4_addPattern_36 rfl (lv_at hl 0 rfl) ?_
        refine wq_gI X S hv ccX4 in_X4 (k := 14) (by decide) q1823 dX4_addPattern_37 (fun x37 hv => ?_)
        refine lv_bipush (v := (24 : Int32)) X.hx X.hb dX4_addPattern_40 (by decide) ?_
        refine lv_icmp_ne (tgt := 49) X.hx X.hb dX4_addPattern_42 (by decide) (fun c42 => ?_) (fun c42 => ?_)
        · have hv := hv.1 c42
          refine lv_iconst (v := (0 : Int32)) X.hx X.hb dX4_addPattern_49 (by decide) ?_
          exact wk_X4_addPattern_50 X  hv H locs cells slots ls S (lv_sub hl [0, 1, 2, 3] rfl)
        · have hv := hv.2 c42
          refine lv_iconst (v := (3 : Int32)) X.hx X.hb dX4_addPattern_45 (by decide) ?_
          refine lv_goto (tgt := 50) X.hx X.hb dX4_addPattern_46 (by decide) ?_
          exact wk_X4_addPattern_50 X  hv H locs cells slots ls S (lv_sub hl [0, 1, 2, 3] rfl)
      · have hv := hv.2 c29
        refine lv_iconst (v := (2 : Int32)) X.hx X.hb dX4_addPattern_32 (by decide) ?_
        refine lv_goto (tgt := 50) X.hx X.hb dX4_addPattern_33 (by decide) ?_
        exact wk_X4_addPattern_50 X  hv H locs cells slots ls S (lv_sub hl [0, 1, 2, 3] rfl)
    · have hv := hv.2 c15
      refine lv_iconst (v := (1 : Int32)) X.hx X.hb dX4_addPattern_18 (by decide) ?_
      refine lv_goto (tgt := 50) X.hx X.hb dX4_addPattern_19 (by decide) ?_
      exact wk_X4_addPattern_50 X  hv H locs cells slots ls S (lv_sub hl [0, 1, 2, 3] rfl)
theorem wk_X4_addPattern {G : wv_G} (hG : wv_G0 G) {v0 : Option Nat} {v1 : Int32} {v2 : Int32} {v3 : Int32} {h : wv_H} {fr kc ks : Nat} {P : wv_R → wv_H → Prop} (hv : vc_X4_addPattern_0 G fr P v0 v1 v2 v3 (h, kc, ks)) : wv_C G yX4_addPattern [va_rf v0, .int v1, .int v2, .int v3] h fr kc ks P := by
  refine wv_enter (lv := [(0, va_rf v0), (1, .int v1), (2, .int v2), (3, .int v3)]) hG (by decide +kernel) q1938 (by decide) (by simp [lg_sl, wv_rfc, wv_kI, wv_kJ, wv_kF, wv_kD]) (by simp [lv_args, wv_rfc, wv_kI, wv_kJ, wv_kF, wv_kD]) ?_
  intro p e R s m args below meth c X H locs cells slots ls S hl
  exact wk_X4_addPattern_0 X hv H locs cells slots ls S (lv_sub hl [0, 1, 2, 3] rfl)

def vc_X4_addStep_104 (G : wv_G) (fr : Nat) (P : wv_R → wv_H → Prop) (v0 : Option Nat) (v1 : Int32) (v2 : Int32) (v3 : Int32) (v4 : Int32) (v5 : Int32) (v6 : Option Nat) (w : wv_W) : Prop :=
  wv_gA w v0 ciX4 0 (fun x105 => wv_sq G 7 "WeaversgateModel$Body" w x105 (((6 : Int32) * v1) + v2) v6 (fun w116 => wv_gA w116 v6 ciX8 0 (fun x119 => wv_gI w116 v6 ciX8 3 (fun x124 => wv_si G 1 w116 x119 x124 (vp_nar .char v3) (fun w128 => wv_gA w128 v6 ciX8 1 (fun x131 => wv_gI w128 v6 ciX8 3 (fun x136 => wv_si G 0 w128 x131 x136 v4 (fun w141 => wv_gA w141 v6 ciX8 2 (fun x144 => wv_gI w141 v6 ciX8 3 (fun x149 => wv_si G 0 w141 x144 x149 v5 (fun w154 => wv_gI w154 v6 ciX8 3 (fun x158 => wv_pt w154 v6 ciX8 3 (.int (x158 + (1 : Int32))) (fun w163 => wv_gI w163 v6 ciX8 3 (fun x168 => P (.inl (some (.int x168))) w163.1))))))))))))))
def vc_X4_addStep_78 (G : wv_G) (fr : Nat) (P : wv_R → wv_H → Prop) (v0 : Option Nat) (v1 : Int32) (v2 : Int32) (v3 : Int32) (v4 : Int32) (v5 : Int32) (v6 : Option Nat) (s0 : Int32) (s1 : Option Nat) (w : wv_W) : Prop :=
  wv_pt w s1 ciX4 12 (.int s0) (fun w78 => wv_gI w78 v0 ciX4 12 (fun x82 => (x82 ≤ 0 → (¬ v6 = none → vc_X4_addStep_104 G fr P v0 v1 v2 v3 v4 v5 v6 w78) ∧ (v6 = none → wv_no G w78 (wo_o ciX8 [va_rf none, va_rf none, va_rf none, .int 0]) 4 (fun a95 w95 => wv_cI G fr yX8_init (some a95) [] w95 (wv_rV (fun w99 => vc_X4_addStep_104 G fr P v0 v1 v2 v3 v4 v5 (some a95) w99) (wv_pr P))))) ∧ (¬ x82 ≤ 0 → P (.inl (some (.int (0 : Int32)))) w78.1)))
def vc_X4_addStep_37 (G : wv_G) (fr : Nat) (P : wv_R → wv_H → Prop) (v0 : Option Nat) (v1 : Int32) (v2 : Int32) (v3 : Int32) (v4 : Int32) (v5 : Int32) (s0 : Int32) (s1 : Option Nat) (w : wv_W) : Prop :=
  wv_pt w s1 ciX4 12 (.int s0) (fun w37 => wv_gI w37 v0 ciX4 12 (fun x41 => (x41 ≤ 0 → wv_cV G fr yX4_body v0 [.int v1, .int v2] w37 (wv_rA (fun x52 w52 => (x52 = none → vc_X4_addStep_78 G fr P v0 v1 v2 v3 v4 v5 x52 (0 : Int32) v0 w52) ∧ (¬ x52 = none → wv_gI w52 x52 ciX8 3 (fun x65 => (¬ x65 = (8 : Int32) → vc_X4_addStep_78 G fr P v0 v1 v2 v3 v4 v5 x52 (0 : Int32) v0 w52) ∧ (x65 = (8 : Int32) → vc_X4_addStep_78 G fr P v0 v1 v2 v3 v4 v5 x52 (3 : Int32) v0 w52)))) (wv_pr P))) ∧ (¬ x41 ≤ 0 → P (.inl (some (.int (0 : Int32)))) w37.1)))
def vc_X4_addStep_0 (G : wv_G) (fr : Nat) (P : wv_R → wv_H → Prop) (v0 : Option Nat) (v1 : Int32) (v2 : Int32) (v3 : Int32) (v4 : Int32) (v5 : Int32) (w : wv_W) : Prop :=
  wv_cV G fr yX4_isClass v0 [.int v1] w (wv_rI (fun x3 w3 => (¬ x3 = 0 → wv_c0 G fr yX4_isMethod [.int v2] w3 (wv_rI (fun x14 w14 => (x14 = 0 → vc_X4_addStep_37 G fr P v0 v1 v2 v3 v4 v5 (2 : Int32) v0 w14) ∧ (¬ x14 = 0 → wv_cV G fr yX4_isStep v0 [.int v3, .int v4, .int v5] w14 (wv_rI (fun x26 w26 => (¬ x26 = 0 → vc_X4_addStep_37 G fr P v0 v1 v2 v3 v4 v5 (0 : Int32) v0 w26) ∧ (x26 = 0 → vc_X4_addStep_37 G fr P v0 v1 v2 v3 v4 v5 (2 : Int32) v0 w26)) (wv_pr P)))) (wv_pr P))) ∧ (x3 = 0 → vc_X4_addStep_37 G fr P v0 v1 v2 v3 v4 v5 (1 : Int32) v0 w3)) (wv_pr P))
set_option maxHeartbeats 4000000 in
theorem wk_X4_addStep_104 {G : wv_G} {p : Program} {e : Env} {R : Room} {s : State} {m : MethodId} {args : Array Value} {below : List Frame} {meth : Method} {c : Code} {fr : Nat} {P : wv_R → wv_H → Prop} (X : wv_ok G p R s m args meth c fr "WeaversgateModel" cX4_addStep 7 (Option.some Jvm.ClassFile.FieldType.int) "addStep" []) {v0 : Option Nat} {v1 : Int32} {v2 : Int32} {v3 : Int32} {v4 : Int32} {v5 : Int32} {v6 : Option Nat} {w : wv_W} (hv : vc_X4_addStep_104 G fr P v0 v1 v2 v3 v4 v5 v6 w) : wv_J G p e R s m args below meth c 7 P w 104 [(0, va_rf v0), (1, .int v1), (2, .int v2), (3, .int v3), (4, .int v4), (5, .int v5), (6, va_rf v6)] [] := by
  intro H locs cells slots ls S hl
  unfold vc_X4_addStep_104 at hv
  refine wq_aload_n X dX4_addStep_104 rfl (lv_at hl 0 rfl) ?_
  refine wq_gA X S hv ccX4 in_X4 (k := 0) (by decide) q1800 dX4_addStep_105 (fun x105 hv => ?_)
  refine lv_bipush (v := (6 : Int32)) X.hx X.hb dX4_addStep_108 (by decide) ?_
  refine lv_iload_n X.hx X.hb dX4_addStep_110 rfl (lv_at hl 1 rfl) ?_
  refine lv_imul X.hx X.hb dX4_addStep_111 ?_
  refine lv_iload_n X.hx X.hb dX4_addStep_112 rfl (lv_at hl 2 rfl) ?_
  refine lv_iadd X.hx X.hb dX4_addStep_113 ?_
  refine wq_aload X dX4_addStep_114 (lv_at hl 6 rfl) ?_
  refine wq_sq7 X S hv dX4_addStep_116 (fun w116 H locs S hv => ?_)
  refine wq_aload X dX4_addStep_117 (lv_at hl 6 rfl) ?_
  refine wq_gA X S hv ccX8 in_X8 (k := 0) (by decide) q1899 dX4_addStep_119 (fun x119 hv => ?_)
  refine wq_aload X dX4_addStep_122 (lv_at hl 6 rfl) ?_
  refine wq_gI X S hv ccX8 in_X8 (k := 3) (by decide) q1908 dX4_addStep_124 (fun x124 hv => ?_)
  refine lv_iload_n X.hx X.hb dX4_addStep_127 rfl (lv_at hl 3 rfl) ?_
  refine wq_si1 X S hv dX4_addStep_128 (fun w128 H locs S hv => ?_)
  refine wq_aload X dX4_addStep_129 (lv_at hl 6 rfl) ?_
  refine wq_gA X S hv ccX8 in_X8 (k := 1) (by decide) q1902 dX4_addStep_131 (fun x131 hv => ?_)
  refine wq_aload X dX4_addStep_134 (lv_at hl 6 rfl) ?_
  refine wq_gI X S hv ccX8 in_X8 (k := 3) (by decide) q1908 dX4_addStep_136 (fun x136 hv => ?_)
  refine lv_iload X.hx X.hb dX4_addStep_139 (lv_at hl 4 rfl) ?_
  refine wq_si0 X S hv dX4_addStep_141 (fun w141 H locs S hv => ?_)
  refine wq_aload X dX4_addStep_142 (lv_at hl 6 rfl) ?_
  refine wq_gA X S hv ccX8 in_X8 (k := 2) (by decide) q1905 dX4_addStep_144 (fun x144 hv => ?_)
  refine wq_aload X dX4_addStep_147 (lv_at hl 6 rfl) ?_
  refine wq_gI X S hv ccX8 in_X8 (k := 3) (by decide) q1908 dX4_addStep_149 (fun x149 hv => ?_)
  refine lv_iload X.hx X.hb dX4_addStep_152 (lv_at hl 5 rfl) ?_
  refine wq_si0 X S hv dX4_addStep_154 (fun w154 H locs S hv => ?_)
  refine wq_aload X dX4_addStep_155 (lv_at hl 6 rfl) ?_
  refine lv_dup X.hx X.hb dX4_addStep_157 (wv_rfc _) ?_
  refine wq_gI X S hv ccX8 in_X8 (k := 3) (by decide) q1908 dX4_addStep_158 (fun x158 hv => ?_)
  refine lv_iconst (v := (1 : Int32)) X.hx X.hb dX4_addStep_161 (by decide) ?_
  refine lv_iadd X.hx X.hb dX4_addStep_162 ?_
  refine wq_pt X S hv tyX8 tyX8_ok nmX8 ccX8 in_X8 (k := 3) (by decide) q1908 rfl rfl rfl rfl dX4_addStep_163 (fun w163 H locs S hv => ?_)
  refine wq_aload X dX4_addStep_166 (lv_at hl 6 rfl) ?_
  refine wq_gI X S hv ccX8 in_X8 (k := 3) (by decide) q1908 dX4_addStep_168 (fun x168 hv => ?_)
  exact wr_iret X S rfl hv dX4_addStep_171
set_option maxHeartbeats 4000000 in
theorem wk_X4_addStep_78 {G : wv_G} {p : Program} {e : Env} {R : Room} {s : State} {m : MethodId} {args : Array Value} {below : List Frame} {meth : Method} {c : Code} {fr : Nat} {P : wv_R → wv_H → Prop} (X : wv_ok G p R s m args meth c fr "WeaversgateModel" cX4_addStep 7 (Option.some Jvm.ClassFile.FieldType.int) "addStep" []) {v0 : Option Nat} {v1 : Int32} {v2 : Int32} {v3 : Int32} {v4 : Int32} {v5 : Int32} {v6 : Option Nat} {s0 : Int32} {s1 : Option Nat} {w : wv_W} (hv : vc_X4_addStep_78 G fr P v0 v1 v2 v3 v4 v5 v6 s0 s1 w) : wv_J G p e R s m args below meth c 7 P w 78 [(0, va_rf v0), (1, .int v1), (2, .int v2), (3, .int v3), (4, .int v4), (5, .int v5), (6, va_rf v6)] [.int s0, va_rf s1] := by
  intro H locs cells slots ls S hl
  unfold vc_X4_addStep_78 at hv
  refine wq_pt X S hv tyX4 tyX4_ok nmX4 ccX4 in_X4 (k := 12) (by decide) q1821 rfl rfl rfl rfl dX4_addStep_78 (fun w78 H locs S hv => ?_)
  refine wq_aload_n X dX4_addStep_81 rfl (lv_at hl 0 rfl) ?_
  refine wq_gI X S hv ccX4 in_X4 (k := 12) (by decide) q1821 dX4_addStep_82 (fun x82 hv => ?_)
  refine lv_if_le (tgt := 90) X.hx X.hb dX4_addStep_85 (by decide) (fun c85 => ?_) (fun c85 => ?_)
  · have hv := hv.1 c85
    refine wq_aload X dX4_addStep_90 (lv_at hl 6 rfl) ?_
    refine wq_ifnonnull (tgt := 104) X dX4_addStep_92 (by decide) (fun c92 => ?_) (fun c92 => ?_)
    · have hv := hv.1 c92
      exact wk_X4_addStep_104 X  hv H locs cells slots ls S (lv_sub hl [0, 1, 2, 3, 4, 5, 6] rfl)
    · have hv := hv.2 c92
      refine wq_new X S hv tyX8 tyX8_ok ccX8 in_X8 q1764 q1893 q84 (fun j hj => by have hj : j < 4 := hj; rcases (show j = 0 ∨ j = 1 ∨ j = 2 ∨ j = 3 by omega) with rfl | rfl | rfl | rfl <;> rfl) dX4_addStep_95 (fun a95 w95 H cells slots S hv => ?_)
      refine lv_dup X.hx X.hb dX4_addStep_98 (wv_rfc _) ?_
      refine wq_cIN_V X S hv rfl q1894 q1895 q1896 q84 ⟨by decide +kernel, by decide +kernel⟩ (nA := 0) (As := []) (by decide +kernel) rfl rfl (by simp [wv_rfc, wv_kI, wv_kJ, wv_kF, wv_kD]) hl.1 dX4_addStep_99 (fun w99 H locs cells slots S hv => ?_) (wq_kx X rfl)
      refine wq_astore X (i := 6) (lv' := [(6, va_rf (some a95)), (0, va_rf v0), (1, .int v1), (2, .int v2), (3, .int v3), (4, .int v4), (5, .int v5)]) dX4_addStep_102 hl (by decide) (by simp [wv_rfc, wv_kI, wv_kJ, wv_kF, wv_kD]) (fun ls hl => ?_)
      exact wk_X4_addStep_104 X  hv H locs cells slots ls S (lv_sub hl [1, 2, 3, 4, 5, 6, 0] rfl)
  · have hv := hv.2 c85
    refine lv_iconst (v := (0 : Int32)) X.hx X.hb dX4_addStep_88 (by decide) ?_
    exact wr_iret X S rfl hv dX4_addStep_89
set_option maxHeartbeats 4000000 in
theorem wk_X4_addStep_37 {G : wv_G} {p : Program} {e : Env} {R : Room} {s : State} {m : MethodId} {args : Array Value} {below : List Frame} {meth : Method} {c : Code} {fr : Nat} {P : wv_R → wv_H → Prop} (X : wv_ok G p R s m args meth c fr "WeaversgateModel" cX4_addStep 7 (Option.some Jvm.ClassFile.FieldType.int) "addStep" []) {v0 : Option Nat} {v1 : Int32} {v2 : Int32} {v3 : Int32} {v4 : Int32} {v5 : Int32} {s0 : Int32} {s1 : Option Nat} {w : wv_W} (hv : vc_X4_addStep_37 G fr P v0 v1 v2 v3 v4 v5 s0 s1 w) : wv_J G p e R s m args below meth c 7 P w 37 [(0, va_rf v0), (1, .int v1), (2, .int v2), (3, .int v3), (4, .int v4), (5, .int v5)] [.int s0, va_rf s1] := by
  intro H locs cells slots ls S hl
  unfold vc_X4_addStep_37 at hv
  refine wq_pt X S hv tyX4 tyX4_ok nmX4 ccX4 in_X4 (k := 12) (by decide) q1821 rfl rfl rfl rfl dX4_addStep_37 (fun w37 H locs S hv => ?_)
  refine wq_aload_n X dX4_addStep_40 rfl (lv_at hl 0 rfl) ?_
  refine wq_gI X S hv ccX4 in_X4 (k := 12) (by decide) q1821 dX4_addStep_41 (fun x41 hv => ?_)
  refine lv_if_le (tgt := 49) X.hx X.hb dX4_addStep_44 (by decide) (fun c44 => ?_) (fun c44 => ?_)
  · have hv := hv.1 c44
    refine wq_aload_n X dX4_addStep_49 rfl (lv_at hl 0 rfl) ?_
    refine lv_iload_n X.hx X.hb dX4_addStep_50 rfl (lv_at hl 1 rfl) ?_
    refine lv_iload_n X.hx X.hb dX4_addStep_51 rfl (lv_at hl 2 rfl) ?_
    refine wq_cV_A X S hv q1889 q1891 qs37 q66 ⟨by decide +kernel, by decide +kernel⟩ (nA := 2) (As := [.int v1, .int v2]) (by decide +kernel) rfl rfl (by simp [wv_rfc, wv_kI, wv_kJ, wv_kF, wv_kD]) hl.1 dX4_addStep_52 (fun x52 w52 H locs cells slots S hv => ?_) (wq_kx X rfl)
    refine wq_astore X (i := 6) (lv' := [(6, va_rf x52), (0, va_rf v0), (1, .int v1), (2, .int v2), (3, .int v3), (4, .int v4), (5, .int v5)]) dX4_addStep_55 hl (by decide) (by simp [wv_rfc, wv_kI, wv_kJ, wv_kF, wv_kD]) (fun ls hl => ?_)
    refine wq_aload_n X dX4_addStep_57 rfl (lv_at hl 1 rfl) ?_
    refine wq_aload X dX4_addStep_58 (lv_at hl 0 rfl) ?_
    refine wq_ifnull (tgt := 77) X dX4_addStep_60 (by decide) (fun c60 => ?_) (fun c60 => ?_)
    · have hv := hv.1 c60
      refine lv_iconst (v := (0 : Int32)) X.hx X.hb dX4_addStep_77 (by decide) ?_
      exact wk_X4_addStep_78 X  hv H locs cells slots ls S (lv_sub hl [1, 2, 3, 4, 5, 6, 0] rfl)
    · have hv := hv.2 c60
      refine wq_aload X dX4_addStep_63 (lv_at hl 0 rfl) ?_
      refine wq_gI X S hv ccX8 in_X8 (k := 3) (by decide) q1908 dX4_addStep_65 (fun x65 hv => ?_)
      refine lv_bipush (v := (8 : Int32)) X.hx X.hb dX4_addStep_68 (by decide) ?_
      refine lv_icmp_ne (tgt := 77) X.hx X.hb dX4_addStep_70 (by decide) (fun c70 => ?_) (fun c70 => ?_)
      · have hv := hv.1 c70
        refine lv_iconst (v := (0 : Int32)) X.hx X.hb dX4_addStep_77 (by decide) ?_
        exact wk_X4_addStep_78 X  hv H locs cells slots ls S (lv_sub hl [1, 2, 3, 4, 5, 6, 0] rfl)
      · have hv := hv.2 c70
        refine lv_iconst (v := (3 : Int32)) X.hx X.hb dX4_addStep_73 (by decide) ?_
        refine lv_goto (tgt := 78) X.hx X.hb dX4_addStep_74 (by decide) ?_
        exact wk_X4_addStep_78 X  hv H locs cells slots ls S (lv_sub hl [1, 2, 3, 4, 5, 6, 0] rfl)
  · have hv := hv.2 c44
    refine lv_iconst (v := (0 : Int32)) X.hx X.hb dX4_addStep_47 (by decide) ?_
    exact wr_iret X S rfl hv dX4_addStep_48
set_option maxHeartbeats 4000000 in
theorem wk_X4_addStep_0 {G : wv_G} {p : Program} {e : Env} {R : Room} {s : State} {m : MethodId} {args : Array Value} {below : List Frame} {meth : Method} {c : Code} {fr : Nat} {P : wv_R → wv_H → Prop} (X : wv_ok G p R s m args meth c fr "WeaversgateModel" cX4_addStep 7 (Option.some Jvm.ClassFile.FieldType.int) "addStep" []) {v0 : Option Nat} {v1 : Int32} {v2 : Int32} {v3 : Int32} {v4 : Int32} {v5 : Int32} {w : wv_W} (hv : vc_X4_addStep_0 G fr P v0 v1 v2 v3 v4 v5 w) : wv_J G p e R s m args below meth c 7 P w 0 [(0, va_rf v0), (1, .int v1), (2, .int v2), (3, .int v3), (4, .int v4), (5, .int v5)] [] := by
  intro H locs cells slots ls S hl
  unfold vc_X4_addStep_0 at hv
  refine wq_aload_n X dX4_addStep_0 rfl (lv_at hl 0 rfl) ?_
  refine wq_aload_n X dX4_addStep_1 rfl (lv_at hl 0 rfl) ?_
  refine lv_iload_n X.hx X.hb dX4_addStep_2 rfl (lv_at hl 1 rfl) ?_
  refine wq_cV_I X S hv q1871 q1873 qs35 q66 ⟨by decide +kernel, by decide +kernel⟩ (nA := 1) (As := [.int v1]) (by decide +kernel) rfl rfl (by simp [wv_rfc, wv_kI, wv_kJ, wv_kF, wv_kD]) hl.1 dX4_addStep_3 (fun x3 w3 H locs cells slots S hv => ?_) (wq_kx X rfl)
  refine lv_if_ne (tgt := 13) X.hx X.hb dX4_addStep_6 (by decide) (fun c6 => ?_) (fun c6 => ?_)
  · have hv := hv.1 c6
    refine lv_iload_n X.hx X.hb dX4_addStep_13 rfl (lv_at hl 2 rfl) ?_
    refine wq_cS_I X S hv q1882 q1883 q66 ⟨by decide +kernel, by decide +kernel⟩ (nA := 1) (As := [.int v2]) (by decide +kernel) rfl rfl (by simp [wv_rfc, wv_kI, wv_kJ, wv_kF, wv_kD]) hl.1 dX4_addStep_14 (fun x14 w14 H locs cells slots S hv => ?_) (wq_kx X rfl)
    refine lv_if_eq (tgt := 32) X.hx X.hb dX4_addStep_17 (by decide) (fun c17 => ?_) (fun c17 => ?_)
    · have hv := hv.1 c17
      refine lv_iconst (v := (2 : Int32)) X.hx X.hb dX4_addStep_32 (by decide) ?_
      refine lv_goto (tgt := 37) X.hx X.hb dX4_addStep_33 (by decide) ?_
      exact wk_X4_addStep_37 X  hv H locs cells slots ls S (lv_sub hl [0, 1, 2, 3, 4, 5] rfl)
    · have hv := hv.2 c17
      refine wq_aload_n X dX4_addStep_20 rfl (lv_at hl 0 rfl) ?_
      refine lv_iload_n X.hx X.hb dX4_addStep_21 rfl (lv_at hl 3 rfl) ?_
      refine lv_iload X.hx X.hb dX4_addStep_22 (lv_at hl 4 rfl) ?_
      refine lv_iload X.hx X.hb dX4_addStep_24 (lv_at hl 5 rfl) ?_
      refine wq_cV_I X S hv q1885 q1887 qs36 q66 ⟨by decide +kernel, by decide +kernel⟩ (nA := 3) (As := [.int v3, .int v4, .int v5]) (by decide +kernel) rfl rfl (by simp [wv_rfc, wv_kI, wv_kJ, wv_kF, wv_kD]) hl.1 dX4_addStep_26 (fun x26 w26 H locs cells slots S hv => ?_) (wq_kx X rfl)
      refine lv_if_ne (tgt := 36) X.hx X.hb dX4_addStep_29 (by decide) (fun c29 => ?_) (fun c29 => ?_)
      · have hv := hv.1 c29
        refine lv_iconst (v := (0 : Int32)) X.hx X.hb dX4_addStep_36 (by decide) ?_
        exact wk_X4_addStep_37 X  hv H locs cells slots ls S (lv_sub hl [0, 1, 2, 3, 4, 5] rfl)
      · have hv := hv.2 c29
        refine lv_iconst (v := (2 : Int32)) X.hx X.hb dX4_addStep_32 (by decide) ?_
        refine lv_goto (tgt := 37) X.hx X.hb dX4_addStep_33 (by decide) ?_
        exact wk_X4_addStep_37 X  hv H locs cells slots ls S (lv_sub hl [0, 1, 2, 3, 4, 5] rfl)
  · have hv := hv.2 c6
    refine lv_iconst (v := (1 : Int32)) X.hx X.hb dX4_addStep_9 (by decide) ?_
    refine lv_goto (tgt := 37) X.hx X.hb dX4_addStep_10 (by decide) ?_
    exact wk_X4_addStep_37 X  hv H locs cells slots ls S (lv_sub hl [0, 1, 2, 3, 4, 5] rfl)
theorem wk_X4_addStep {G : wv_G} (hG : wv_G0 G) {v0 : Option Nat} {v1 : Int32} {v2 : Int32} {v3 : Int32} {v4 : Int32} {v5 : Int32} {h : wv_H} {fr kc ks : Nat} {P : wv_R → wv_H → Prop} (hv : vc_X4_addStep_0 G fr P v0 v1 v2 v3 v4 v5 (h, kc, ks)) : wv_C G yX4_addStep [va_rf v0, .int v1, .int v2, .int v3, .int v4, .int v5] h fr kc ks P := by
  refine wv_enter (lv := [(0, va_rf v0), (1, .int v1), (2, .int v2), (3, .int v3), (4, .int v4), (5, .int v5)]) hG (by decide +kernel) q1881 (by decide) (by simp [lg_sl, wv_rfc, wv_kI, wv_kJ, wv_kF, wv_kD]) (by simp [lv_args, wv_rfc, wv_kI, wv_kJ, wv_kF, wv_kD]) ?_
  intro p e R s m args below meth c X H locs cells slots ls S hl
  exact wk_X4_addStep_0 X hv H locs cells slots ls S (lv_sub hl [0, 1, 2, 3, 4, 5] rfl)

def vc_X4_arePatterns_17 (G : wv_G) (fr : Nat) (P : wv_R → wv_H → Prop) (v0 : Option Nat) (v1 : Int32) (v3 : Int32) (w : wv_W) : Prop :=
  wv_c0 G fr yX4_isOneOf [va_rf (some (G.2.2.2.2 416)), .int v1] w (wv_rI (fun x20 w20 => (x20 = 0 → narrow .boolean (.int (1 : Int32)) = .int (1 : Int32) ∧ P (.inl (some (.int (1 : Int32)))) w20.1) ∧ (¬ x20 = 0 → wv_cV G fr yX4_isPattern v0 [.int v3] w20 (wv_rI (fun x28 w28 => (x28 = 0 → narrow .boolean (.int (0 : Int32)) = .int (0 : Int32) ∧ P (.inl (some (.int (0 : Int32)))) w28.1) ∧ (¬ x28 = 0 → narrow .boolean (.int (1 : Int32)) = .int (1 : Int32) ∧ P (.inl (some (.int (1 : Int32)))) w28.1)) (wv_pr P)))) (wv_pr P))
def vc_X4_arePatterns_0 (G : wv_G) (fr : Nat) (P : wv_R → wv_H → Prop) (v0 : Option Nat) (v1 : Int32) (v2 : Int32) (v3 : Int32) (w : wv_W) : Prop :=
  wv_c0 G fr yX4_isOneOf [va_rf (some (G.2.2.2.2 415)), .int v1] w (wv_rI (fun x3 w3 => (x3 = 0 → vc_X4_arePatterns_17 G fr P v0 v1 v3 w3) ∧ (¬ x3 = 0 → wv_cV G fr yX4_isPattern v0 [.int v2] w3 (wv_rI (fun x11 w11 => (x11 = 0 → narrow .boolean (.int (0 : Int32)) = .int (0 : Int32) ∧ P (.inl (some (.int (0 : Int32)))) w11.1) ∧ (¬ x11 = 0 → vc_X4_arePatterns_17 G fr P v0 v1 v3 w11)) (wv_pr P)))) (wv_pr P))
set_option maxHeartbeats 4000000 in
theorem wk_X4_arePatterns_17 {G : wv_G} {p : Program} {e : Env} {R : Room} {s : State} {m : MethodId} {args : Array Value} {below : List Frame} {meth : Method} {c : Code} {fr : Nat} {P : wv_R → wv_H → Prop} (X : wv_ok G p R s m args meth c fr "WeaversgateModel" cX4_arePatterns 4 (Option.some Jvm.ClassFile.FieldType.boolean) "arePatterns" []) {v0 : Option Nat} {v1 : Int32} {v3 : Int32} {w : wv_W} (hv : vc_X4_arePatterns_17 G fr P v0 v1 v3 w) : wv_J G p e R s m args below meth c 4 P w 17 [(0, va_rf v0), (1, .int v1), (3, .int v3)] [] := by
  intro H locs cells slots ls S hl
  unfold vc_X4_arePatterns_17 at hv
  refine wq_ldcS X S (k := 16) rfl q1958 dX4_arePatterns_17 ?_
  refine lv_iload_n X.hx X.hb dX4_arePatterns_19 rfl (lv_at hl 1 rfl) ?_
  refine wq_cS_I X S hv q1940 q1941 q66 ⟨by decide +kernel, by decide +kernel⟩ (nA := 2) (As := [va_rf (some (G.2.2.2.2 416)), .int v1]) (by decide +kernel) rfl rfl (by simp [wv_rfc, wv_kI, wv_kJ, wv_kF, wv_kD]) hl.1 dX4_arePatterns_20 (fun x20 w20 H locs cells slots S hv => ?_) (wq_kx X rfl)
  refine lv_if_eq (tgt := 34) X.hx X.hb dX4_arePatterns_23 (by decide) (fun c23 => ?_) (fun c23 => ?_)
  · have hv := hv.1 c23
    refine lv_iconst (v := (1 : Int32)) X.hx X.hb dX4_arePatterns_34 (by decide) ?_
    refine lv_goto (tgt := 39) X.hx X.hb dX4_arePatterns_35 (by decide) ?_
    exact wr_iret X S hv.1 hv.2 dX4_arePatterns_39
  · have hv := hv.2 c23
    refine wq_aload_n X dX4_arePatterns_26 rfl (lv_at hl 0 rfl) ?_
    refine lv_iload_n X.hx X.hb dX4_arePatterns_27 rfl (lv_at hl 2 rfl) ?_
    refine wq_cV_I X S hv q1954 q1956 qs41 q66 ⟨by decide +kernel, by decide +kernel⟩ (nA := 1) (As := [.int v3]) (by decide +kernel) rfl rfl (by simp [wv_rfc, wv_kI, wv_kJ, wv_kF, wv_kD]) hl.1 dX4_arePatterns_28 (fun x28 w28 H locs cells slots S hv => ?_) (wq_kx X rfl)
    refine lv_if_eq (tgt := 38) X.hx X.hb dX4_arePatterns_31 (by decide) (fun c31 => ?_) (fun c31 => ?_)
    · have hv := hv.1 c31
      refine lv_iconst (v := (0 : Int32)) X.hx X.hb dX4_arePatterns_38 (by decide) ?_
      exact wr_iret X S hv.1 hv.2 dX4_arePatterns_39
    · have hv := hv.2 c31
      refine lv_iconst (v := (1 : Int32)) X.hx X.hb dX4_arePatterns_34 (by decide) ?_
      refine lv_goto (tgt := 39) X.hx X.hb dX4_arePatterns_35 (by decide) ?_
      exact wr_iret X S hv.1 hv.2 dX4_arePatterns_39
set_option maxHeartbeats 4000000 in
theorem wk_X4_arePatterns_0 {G : wv_G} {p : Program} {e : Env} {R : Room} {s : State} {m : MethodId} {args : Array Value} {below : List Frame} {meth : Method} {c : Code} {fr : Nat} {P : wv_R → wv_H → Prop} (X : wv_ok G p R s m args meth c fr "WeaversgateModel" cX4_arePatterns 4 (Option.some Jvm.ClassFile.FieldType.boolean) "arePatterns" []) {v0 : Option Nat} {v1 : Int32} {v2 : Int32} {v3 : Int32} {w : wv_W} (hv : vc_X4_arePatterns_0 G fr P v0 v1 v2 v3 w) : wv_J G p e R s m args below meth c 4 P w 0 [(0, va_rf v0), (1, .int v1), (2, .int v2), (3, .int v3)] [] := by
  intro H locs cells slots ls S hl
  unfold vc_X4_arePatterns_0 at hv
  refine wq_ldcS X S (k := 15) rfl q1953 dX4_arePatterns_0 ?_
  refine lv_iload_n X.hx X.hb dX4_arePatterns_2 rfl (lv_at hl 1 rfl) ?_
  refine wq_cS_I X S hv q1940 q1941 q66 ⟨by decide +kernel, by decide +kernel⟩ (nA := 2) (As := [va_rf (some (G.2.2.2.2 415)), .int v1]) (by decide +kernel) rfl rfl (by simp [wv_rfc, wv_kI, wv_kJ, wv_kF, wv_kD]) hl.1 dX4_arePatterns_3 (fun x3 w3 H locs cells slots S hv => ?_) (wq_kx X rfl)
  refine lv_if_eq (tgt := 17) X.hx X.hb dX4_arePatterns_6 (by decide) (fun c6 => ?_) (fun c6 => ?_)
  · have hv := hv.1 c6
    exact wk_X4_arePatterns_17 X  hv H locs cells slots ls S (lv_sub hl [0, 1, 3] rfl)
  · have hv := hv.2 c6
    refine wq_aload_n X dX4_arePatterns_9 rfl (lv_at hl 0 rfl) ?_
    refine lv_iload_n X.hx X.hb dX4_arePatterns_10 rfl (lv_at hl 2 rfl) ?_
    refine wq_cV_I X S hv q1954 q1956 qs41 q66 ⟨by decide +kernel, by decide +kernel⟩ (nA := 1) (As := [.int v2]) (by decide +kernel) rfl rfl (by simp [wv_rfc, wv_kI, wv_kJ, wv_kF, wv_kD]) hl.1 dX4_arePatterns_11 (fun x11 w11 H locs cells slots S hv => ?_) (wq_kx X rfl)
    refine lv_if_eq (tgt := 38) X.hx X.hb dX4_arePatterns_14 (by decide) (fun c14 => ?_) (fun c14 => ?_)
    · have hv := hv.1 c14
      refine lv_iconst (v := (0 : Int32)) X.hx X.hb dX4_arePatterns_38 (by decide) ?_
      exact wr_iret X S hv.1 hv.2 dX4_arePatterns_39
    · have hv := hv.2 c14
      exact wk_X4_arePatterns_17 X  hv H locs cells slots ls S (lv_sub hl [0, 1, 3] rfl)
theorem wk_X4_arePatterns {G : wv_G} (hG : wv_G0 G) {v0 : Option Nat} {v1 : Int32} {v2 : Int32} {v3 : Int32} {h : wv_H} {fr kc ks : Nat} {P : wv_R → wv_H → Prop} (hv : vc_X4_arePatterns_0 G fr P v0 v1 v2 v3 (h, kc, ks)) : wv_C G yX4_arePatterns [va_rf v0, .int v1, .int v2, .int v3] h fr kc ks P := by
  refine wv_enter (lv := [(0, va_rf v0), (1, .int v1), (2, .int v2), (3, .int v3)]) hG (by decide +kernel) q1952 (by decide) (by simp [lg_sl, wv_rfc, wv_kI, wv_kJ, wv_kF, wv_kD]) (by simp [lv_args, wv_rfc, wv_kI, wv_kJ, wv_kF, wv_kD]) ?_
  intro p e R s m args below meth c X H locs cells slots ls S hl
  exact wk_X4_arePatterns_0 X hv H locs cells slots ls S (lv_sub hl [0, 1, 2, 3] rfl)

def vc_X4_asked_0 (G : wv_G) (fr : Nat) (P : wv_R → wv_H → Prop) (v0 : Option Nat) (w : wv_W) : Prop :=
  wv_gA w v0 ciX4 16 (fun x2 => wv_gI w x2 ciX5 4 (fun x5 => wv_cV G fr yX4_plain v0 [.int x5] w (wv_rI (fun x8 w8 => P (.inl (some (.int x8))) w8.1) (wv_pr P))))
set_option maxHeartbeats 4000000 in
theorem wk_X4_asked_0 {G : wv_G} {p : Program} {e : Env} {R : Room} {s : State} {m : MethodId} {args : Array Value} {below : List Frame} {meth : Method} {c : Code} {fr : Nat} {P : wv_R → wv_H → Prop} (X : wv_ok G p R s m args meth c fr "WeaversgateModel" cX4_asked 1 (Option.some Jvm.ClassFile.FieldType.int) "asked" []) {v0 : Option Nat} {w : wv_W} (hv : vc_X4_asked_0 G fr P v0 w) : wv_J G p e R s m args below meth c 1 P w 0 [(0, va_rf v0)] [] := by
  intro H locs cells slots ls S hl
  unfold vc_X4_asked_0 at hv
  refine wq_aload_n X dX4_asked_0 rfl (lv_at hl 0 rfl) ?_
  refine wq_aload_n X dX4_asked_1 rfl (lv_at hl 0 rfl) ?_
  refine wq_gA X S hv ccX4 in_X4 (k := 16) (by decide) q1827 dX4_asked_2 (fun x2 hv => ?_)
  refine wq_gI X S hv ccX5 in_X5 (k := 4) (by decide) q1788 dX4_asked_5 (fun x5 hv => ?_)
  refine wq_cV_I X S hv q2222 q2224 qs52 q66 ⟨by decide +kernel, by decide +kernel⟩ (nA := 1) (As := [.int x5]) (by decide +kernel) rfl rfl (by simp [wv_rfc, wv_kI, wv_kJ, wv_kF, wv_kD]) hl.1 dX4_asked_8 (fun x8 w8 H locs cells slots S hv => ?_) (wq_kx X rfl)
  exact wr_iret X S rfl hv dX4_asked_11
theorem wk_X4_asked {G : wv_G} (hG : wv_G0 G) {v0 : Option Nat} {h : wv_H} {fr kc ks : Nat} {P : wv_R → wv_H → Prop} (hv : vc_X4_asked_0 G fr P v0 (h, kc, ks)) : wv_C G yX4_asked [va_rf v0] h fr kc ks P := by
  refine wv_enter (lv := [(0, va_rf v0)]) hG (by decide +kernel) q2491 (by decide) (by simp [lg_sl, wv_rfc, wv_kI, wv_kJ, wv_kF, wv_kD]) (by simp [lv_args, wv_rfc, wv_kI, wv_kJ, wv_kF, wv_kD]) ?_
  intro p e R s m args below meth c X H locs cells slots ls S hl
  exact wk_X4_asked_0 X hv H locs cells slots ls S (lv_sub hl [0] rfl)

def vc_X4_aspectAt_28 (G : wv_G) (fr : Nat) (P : wv_R → wv_H → Prop) (v0 : Option Nat) (v1 : Int32) (s0 : Int32) (s1 : Option Nat) (w : wv_W) : Prop :=
  wv_pt w s1 ciX4 12 (.int s0) (fun w28 => wv_gI w28 v0 ciX4 12 (fun x32 => (x32 ≤ 0 → wv_cV G fr yX4_order v0 [] w28 (wv_rA (fun x43 w43 => wv_cV G fr yJ2_get x43 [.int v1] w43 (wv_rA (fun x47 w47 => wv_cc G w47 x47 "java/lang/Integer" (wv_cV G fr yJ20_intValue x47 [] w47 (wv_rI (fun x53 w53 => P (.inl (some (.int x53))) w53.1) (wv_pr P)))) (wv_pr P))) (wv_pr P))) ∧ (¬ x32 ≤ 0 → P (.inl (some (.int (0 : Int32)))) w28.1)))
def vc_X4_aspectAt_0 (G : wv_G) (fr : Nat) (P : wv_R → wv_H → Prop) (v0 : Option Nat) (v1 : Int32) (w : wv_W) : Prop :=
  wv_c0 G fr yX4_isAspect [.int v1] w (wv_rI (fun x2 w2 => (¬ x2 = 0 → wv_cV G fr yX4_order v0 [] w2 (wv_rA (fun x13 w13 => wv_cV G fr yJ2_size x13 [] w13 (wv_rI (fun x16 w16 => ((4 : Int32) ≤ x16 → vc_X4_aspectAt_28 G fr P v0 v1 (0 : Int32) v0 w16) ∧ (¬ (4 : Int32) ≤ x16 → vc_X4_aspectAt_28 G fr P v0 v1 (2 : Int32) v0 w16)) (wv_pr P))) (wv_pr P))) ∧ (x2 = 0 → vc_X4_aspectAt_28 G fr P v0 v1 (1 : Int32) v0 w2)) (wv_pr P))
set_option maxHeartbeats 4000000 in
theorem wk_X4_aspectAt_28 {G : wv_G} {p : Program} {e : Env} {R : Room} {s : State} {m : MethodId} {args : Array Value} {below : List Frame} {meth : Method} {c : Code} {fr : Nat} {P : wv_R → wv_H → Prop} (X : wv_ok G p R s m args meth c fr "WeaversgateModel" cX4_aspectAt 2 (Option.some Jvm.ClassFile.FieldType.int) "aspectAt" []) {v0 : Option Nat} {v1 : Int32} {s0 : Int32} {s1 : Option Nat} {w : wv_W} (hv : vc_X4_aspectAt_28 G fr P v0 v1 s0 s1 w) : wv_J G p e R s m args below meth c 2 P w 28 [(0, va_rf v0), (1, .int v1)] [.int s0, va_rf s1] := by
  intro H locs cells slots ls S hl
  unfold vc_X4_aspectAt_28 at hv
  refine wq_pt X S hv tyX4 tyX4_ok nmX4 ccX4 in_X4 (k := 12) (by decide) q1821 rfl rfl rfl rfl dX4_aspectAt_28 (fun w28 H locs S hv => ?_)
  refine wq_aload_n X dX4_aspectAt_31 rfl (lv_at hl 0 rfl) ?_
  refine wq_gI X S hv ccX4 in_X4 (k := 12) (by decide) q1821 dX4_aspectAt_32 (fun x32 hv => ?_)
  refine lv_if_le (tgt := 42) X.hx X.hb dX4_aspectAt_35 (by decide) (fun c35 => ?_) (fun c35 => ?_)
  · have hv := hv.1 c35
    refine wq_aload_n X dX4_aspectAt_42 rfl (lv_at hl 0 rfl) ?_
    refine wq_cV_A X S hv q1987 q1989 qs44 q66 ⟨by decide +kernel, by decide +kernel⟩ (nA := 0) (As := []) (by decide +kernel) rfl rfl (by simp [wv_rfc, wv_kI, wv_kJ, wv_kF, wv_kD]) hl.1 dX4_aspectAt_43 (fun x43 w43 H locs cells slots S hv => ?_) (wq_kx X rfl)
    refine lv_iload_n X.hx X.hb dX4_aspectAt_46 rfl (lv_at hl 1 rfl) ?_
    refine wq_cV_A X S hv q2091 q274 q275 q63 ⟨by decide +kernel, by decide +kernel⟩ (nA := 1) (As := [.int v1]) (by decide +kernel) rfl rfl (by simp [wv_rfc, wv_kI, wv_kJ, wv_kF, wv_kD]) hl.1 dX4_aspectAt_47 (fun x47 w47 H locs cells slots S hv => ?_) (wq_kx X rfl)
    refine wq_cc X S hv q2092 dX4_aspectAt_50 (fun hv => ?_)
    refine wq_cV_I X S hv q2093 q2078 q2079 q100 ⟨by decide +kernel, by decide +kernel⟩ (nA := 0) (As := []) (by decide +kernel) rfl rfl (by simp [wv_rfc, wv_kI, wv_kJ, wv_kF, wv_kD]) hl.1 dX4_aspectAt_53 (fun x53 w53 H locs cells slots S hv => ?_) (wq_kx X rfl)
    exact wr_iret X S rfl hv dX4_aspectAt_56
  · have hv := hv.2 c35
    refine lv_iconst (v := (0 : Int32)) X.hx X.hb dX4_aspectAt_38 (by decide) ?_
    refine lv_goto (tgt := 56) X.hx X.hb dX4_aspectAt_39 (by decide) ?_
    exact wr_iret X S rfl hv dX4_aspectAt_56
set_option maxHeartbeats 4000000 in
theorem wk_X4_aspectAt_0 {G : wv_G} {p : Program} {e : Env} {R : Room} {s : State} {m : MethodId} {args : Array Value} {below : List Frame} {meth : Method} {c : Code} {fr : Nat} {P : wv_R → wv_H → Prop} (X : wv_ok G p R s m args meth c fr "WeaversgateModel" cX4_aspectAt 2 (Option.some Jvm.ClassFile.FieldType.int) "aspectAt" []) {v0 : Option Nat} {v1 : Int32} {w : wv_W} (hv : vc_X4_aspectAt_0 G fr P v0 v1 w) : wv_J G p e R s m args below meth c 2 P w 0 [(0, va_rf v0), (1, .int v1)] [] := by
  intro H locs cells slots ls S hl
  unfold vc_X4_aspectAt_0 at hv
  refine wq_aload_n X dX4_aspectAt_0 rfl (lv_at hl 0 rfl) ?_
  refine lv_iload_n X.hx X.hb dX4_aspectAt_1 rfl (lv_at hl 1 rfl) ?_
  refine wq_cS_I X S hv q1963 q1964 q66 ⟨by decide +kernel, by decide +kernel⟩ (nA := 1) (As := [.int v1]) (by decide +kernel) rfl rfl (by simp [wv_rfc, wv_kI, wv_kJ, wv_kF, wv_kD]) hl.1 dX4_aspectAt_2 (fun x2 w2 H locs cells slots S hv => ?_) (wq_kx X rfl)
  refine lv_if_ne (tgt := 12) X.hx X.hb dX4_aspectAt_5 (by decide) (fun c5 => ?_) (fun c5 => ?_)
  · have hv := hv.1 c5
    refine wq_aload_n X dX4_aspectAt_12 rfl (lv_at hl 0 rfl) ?_
    refine wq_cV_A X S hv q1987 q1989 qs44 q66 ⟨by decide +kernel, by decide +kernel⟩ (nA := 0) (As := []) (by decide +kernel) rfl rfl (by simp [wv_rfc, wv_kI, wv_kJ, wv_kF, wv_kD]) hl.1 dX4_aspectAt_13 (fun x13 w13 H locs cells slots S hv => ?_) (wq_kx X rfl)
    refine wq_cV_I X S hv q2086 q270 q271 q63 ⟨by decide +kernel, by decide +kernel⟩ (nA := 0) (As := []) (by decide +kernel) rfl rfl (by simp [wv_rfc, wv_kI, wv_kJ, wv_kF, wv_kD]) hl.1 dX4_aspectAt_16 (fun x16 w16 H locs cells slots S hv => ?_) (wq_kx X rfl)
    refine lv_iconst (v := (4 : Int32)) X.hx X.hb dX4_aspectAt_19 (by decide) ?_
    refine lv_icmp_ge (tgt := 27) X.hx X.hb dX4_aspectAt_20 (by decide) (fun c20 => ?_) (fun c20 => ?_)
    · have hv := hv.1 c20
      refine lv_iconst (v := (0 : Int32)) X.hx X.hb dX4_aspectAt_27 (by decide) ?_
      exact wk_X4_aspectAt_28 X  hv H locs cells slots ls S (lv_sub hl [0, 1] rfl)
    · have hv := hv.2 c20
      refine lv_iconst (v := (2 : Int32)) X.hx X.hb dX4_aspectAt_23 (by decide) ?_
      refine lv_goto (tgt := 28) X.hx X.hb dX4_aspectAt_24 (by decide) ?_
      exact wk_X4_aspectAt_28 X  hv H locs cells slots ls S (lv_sub hl [0, 1] rfl)
  · have hv := hv.2 c5
    refine lv_iconst (v := (1 : Int32)) X.hx X.hb dX4_aspectAt_8 (by decide) ?_
    refine lv_goto (tgt := 28) X.hx X.hb dX4_aspectAt_9 (by decide) ?_
    exact wk_X4_aspectAt_28 X  hv H locs cells slots ls S (lv_sub hl [0, 1] rfl)
theorem wk_X4_aspectAt {G : wv_G} (hG : wv_G0 G) {v0 : Option Nat} {v1 : Int32} {h : wv_H} {fr kc ks : Nat} {P : wv_R → wv_H → Prop} (hv : vc_X4_aspectAt_0 G fr P v0 v1 (h, kc, ks)) : wv_C G yX4_aspectAt [va_rf v0, .int v1] h fr kc ks P := by
  refine wv_enter (lv := [(0, va_rf v0), (1, .int v1)]) hG (by decide +kernel) q2090 (by decide) (by simp [lg_sl, wv_rfc, wv_kI, wv_kJ, wv_kF, wv_kD]) (by simp [lv_args, wv_rfc, wv_kI, wv_kJ, wv_kF, wv_kD]) ?_
  intro p e R s m args below meth c X H locs cells slots ls S hl
  exact wk_X4_aspectAt_0 X hv H locs cells slots ls S (lv_sub hl [0, 1] rfl)

def vc_X4_body_0 (G : wv_G) (fr : Nat) (P : wv_R → wv_H → Prop) (v0 : Option Nat) (v1 : Int32) (v2 : Int32) (w : wv_W) : Prop :=
  wv_gA w v0 ciX4 0 (fun x1 => wv_lq G 7 w x1 (((6 : Int32) * v1) + v2) (fun x10 => P (.inl (some (va_rf x10))) w.1))
set_option maxHeartbeats 4000000 in
theorem wk_X4_body_0 {G : wv_G} {p : Program} {e : Env} {R : Room} {s : State} {m : MethodId} {args : Array Value} {below : List Frame} {meth : Method} {c : Code} {fr : Nat} {P : wv_R → wv_H → Prop} (X : wv_ok G p R s m args meth c fr "WeaversgateModel" cX4_body 3 (Option.some (Jvm.ClassFile.FieldType.object "WeaversgateModel$Body")) "body" []) {v0 : Option Nat} {v1 : Int32} {v2 : Int32} {w : wv_W} (hv : vc_X4_body_0 G fr P v0 v1 v2 w) : wv_J G p e R s m args below meth c 3 P w 0 [(0, va_rf v0), (1, .int v1), (2, .int v2)] [] := by
  intro H locs cells slots ls S hl
  unfold vc_X4_body_0 at hv
  refine wq_aload_n X dX4_body_0 rfl (lv_at hl 0 rfl) ?_
  refine wq_gA X S hv ccX4 in_X4 (k := 0) (by decide) q1800 dX4_body_1 (fun x1 hv => ?_)
  refine lv_bipush (v := (6 : Int32)) X.hx X.hb dX4_body_4 (by decide) ?_
  refine lv_iload_n X.hx X.hb dX4_body_6 rfl (lv_at hl 1 rfl) ?_
  refine lv_imul X.hx X.hb dX4_body_7 ?_
  refine lv_iload_n X.hx X.hb dX4_body_8 rfl (lv_at hl 2 rfl) ?_
  refine lv_iadd X.hx X.hb dX4_body_9 ?_
  refine wq_lq7 X S hv dX4_body_10 (fun x10 hv => ?_)
  exact wr_aret X S (Or.inl ⟨_, rfl⟩) hv dX4_body_11
theorem wk_X4_body {G : wv_G} (hG : wv_G0 G) {v0 : Option Nat} {v1 : Int32} {v2 : Int32} {h : wv_H} {fr kc ks : Nat} {P : wv_R → wv_H → Prop} (hv : vc_X4_body_0 G fr P v0 v1 v2 (h, kc, ks)) : wv_C G yX4_body [va_rf v0, .int v1, .int v2] h fr kc ks P := by
  refine wv_enter (lv := [(0, va_rf v0), (1, .int v1), (2, .int v2)]) hG (by decide +kernel) q1892 (by decide) (by simp [lg_sl, wv_rfc, wv_kI, wv_kJ, wv_kF, wv_kD]) (by simp [lv_args, wv_rfc, wv_kI, wv_kJ, wv_kF, wv_kD]) ?_
  intro p e R s m args below meth c X H locs cells slots ls S hl
  exact wk_X4_body_0 X hv H locs cells slots ls S (lv_sub hl [0, 1, 2] rfl)

def vc_X4_checked_10 (G : wv_G) (fr : Nat) (P : wv_R → wv_H → Prop) (v0 : Option Nat) (s0 : Int32) (s1 : Option Nat) (w : wv_W) : Prop :=
  wv_pt w s1 ciX4 12 (.int s0) (fun w10 => wv_gI w10 v0 ciX4 12 (fun x14 => P (.inl (some (.int x14))) w10.1))
def vc_X4_checked_0 (G : wv_G) (fr : Nat) (P : wv_R → wv_H → Prop) (v0 : Option Nat) (v1 : Int32) (w : wv_W) : Prop :=
  (v1 = 0 → vc_X4_checked_10 G fr P v0 (1 : Int32) v0 w) ∧ (¬ v1 = 0 → vc_X4_checked_10 G fr P v0 (0 : Int32) v0 w)
set_option maxHeartbeats 4000000 in
theorem wk_X4_checked_10 {G : wv_G} {p : Program} {e : Env} {R : Room} {s : State} {m : MethodId} {args : Array Value} {below : List Frame} {meth : Method} {c : Code} {fr : Nat} {P : wv_R → wv_H → Prop} (X : wv_ok G p R s m args meth c fr "WeaversgateModel" cX4_checked 2 (Option.some Jvm.ClassFile.FieldType.int) "checked" []) {v0 : Option Nat} {s0 : Int32} {s1 : Option Nat} {w : wv_W} (hv : vc_X4_checked_10 G fr P v0 s0 s1 w) : wv_J G p e R s m args below meth c 2 P w 10 [(0, va_rf v0)] [.int s0, va_rf s1] := by
  intro H locs cells slots ls S hl
  unfold vc_X4_checked_10 at hv
  refine wq_pt X S hv tyX4 tyX4_ok nmX4 ccX4 in_X4 (k := 12) (by decide) q1821 rfl rfl rfl rfl dX4_checked_10 (fun w10 H locs S hv => ?_)
  refine wq_aload_n X dX4_checked_13 rfl (lv_at hl 0 rfl) ?_
  refine wq_gI X S hv ccX4 in_X4 (k := 12) (by decide) q1821 dX4_checked_14 (fun x14 hv => ?_)
  exact wr_iret X S rfl hv dX4_checked_17
set_option maxHeartbeats 4000000 in
theorem wk_X4_checked_0 {G : wv_G} {p : Program} {e : Env} {R : Room} {s : State} {m : MethodId} {args : Array Value} {below : List Frame} {meth : Method} {c : Code} {fr : Nat} {P : wv_R → wv_H → Prop} (X : wv_ok G p R s m args meth c fr "WeaversgateModel" cX4_checked 2 (Option.some Jvm.ClassFile.FieldType.int) "checked" []) {v0 : Option Nat} {v1 : Int32} {w : wv_W} (hv : vc_X4_checked_0 G fr P v0 v1 w) : wv_J G p e R s m args below meth c 2 P w 0 [(0, va_rf v0), (1, .int v1)] [] := by
  intro H locs cells slots ls S hl
  unfold vc_X4_checked_0 at hv
  refine wq_aload_n X dX4_checked_0 rfl (lv_at hl 0 rfl) ?_
  refine lv_iload_n X.hx X.hb dX4_checked_1 rfl (lv_at hl 1 rfl) ?_
  refine lv_if_eq (tgt := 9) X.hx X.hb dX4_checked_2 (by decide) (fun c2 => ?_) (fun c2 => ?_)
  · have hv := hv.1 c2
    refine lv_iconst (v := (1 : Int32)) X.hx X.hb dX4_checked_9 (by decide) ?_
    exact wk_X4_checked_10 X  hv H locs cells slots ls S (lv_sub hl [0] rfl)
  · have hv := hv.2 c2
    refine lv_iconst (v := (0 : Int32)) X.hx X.hb dX4_checked_5 (by decide) ?_
    refine lv_goto (tgt := 10) X.hx X.hb dX4_checked_6 (by decide) ?_
    exact wk_X4_checked_10 X  hv H locs cells slots ls S (lv_sub hl [0] rfl)
theorem wk_X4_checked {G : wv_G} (hG : wv_G0 G) {v0 : Option Nat} {v1 : Int32} {h : wv_H} {fr kc ks : Nat} {P : wv_R → wv_H → Prop} (hv : vc_X4_checked_0 G fr P v0 v1 (h, kc, ks)) : wv_C G yX4_checked [va_rf v0, .int v1] h fr kc ks P := by
  refine wv_enter (lv := [(0, va_rf v0), (1, .int v1)]) hG (by decide +kernel) q1978 (by decide) (by simp [lg_sl, wv_rfc, wv_kI, wv_kJ, wv_kF, wv_kD]) (by simp [lv_args, wv_rfc, wv_kI, wv_kJ, wv_kF, wv_kD]) ?_
  intro p e R s m args below meth c X H locs cells slots ls S hl
  exact wk_X4_checked_0 X hv H locs cells slots ls S (lv_sub hl [0, 1] rfl)

def vc_X4_classMatch_95 (G : wv_G) (fr : Nat) (P : wv_R → wv_H → Prop) (K9 : ((Option Nat) × (Option Nat) × Int32 × Int32 × Int32 × Int32 × Int32 × Int32) → wv_W → Prop) (v0 : Option Nat) (v1 : Option Nat) (v2 : Int32) (v3 : Int32) (v4 : Int32) (v5 : Int32) (v6 : Int32) (v7 : Int32) (w : wv_W) : Prop :=
  K9 (v0, v1, v2, v3, v4, v5, v6, (v7 + (1 : Int32))) w
def vc_X4_classMatch_59 (G : wv_G) (fr : Nat) (P : wv_R → wv_H → Prop) (K9 : ((Option Nat) × (Option Nat) × Int32 × Int32 × Int32 × Int32 × Int32 × Int32) → wv_W → Prop) (v0 : Option Nat) (v1 : Option Nat) (v2 : Int32) (v3 : Int32) (v4 : Int32) (v5 : Int32) (v6 : Int32) (v7 : Int32) (s0 : Int32) (w : wv_W) : Prop :=
  (¬ s0 = 0 → wv_cV G fr yX4_isBelow v0 [.int v7, .int v4] w (wv_rI (fun x76 w76 => wv_cV G fr yX4_isBelow v0 [.int v7, .int v4] w76 (wv_rI (fun x89 w89 => vc_X4_classMatch_95 G fr P K9 v0 v1 v2 v3 v4 (v5 &&& x76) (v6 ||| x89) v7 w89) (wv_pr P))) (wv_pr P))) ∧ (s0 = 0 → vc_X4_classMatch_95 G fr P K9 v0 v1 v2 v3 v4 v5 v6 v7 w)
def vc_X4_classMatch_9 (G : wv_G) (fr : Nat) (P : wv_R → wv_H → Prop) (K9 : ((Option Nat) × (Option Nat) × Int32 × Int32 × Int32 × Int32 × Int32 × Int32) → wv_W → Prop) (v0 : Option Nat) (v1 : Option Nat) (v2 : Int32) (v3 : Int32) (v4 : Int32) (v5 : Int32) (v6 : Int32) (v7 : Int32) (w : wv_W) : Prop :=
  wv_gI w v0 ciX4 13 (fun x12 => (x12 ≤ v7 → (¬ v6 = 0 → (v5 = 0 → narrow .char (.int (109 : Int32)) = .int (109 : Int32) ∧ P (.inl (some (.int (109 : Int32)))) w.1) ∧ (¬ v5 = 0 → narrow .char (.int (121 : Int32)) = .int (121 : Int32) ∧ P (.inl (some (.int (121 : Int32)))) w.1)) ∧ (v6 = 0 → narrow .char (.int (110 : Int32)) = .int (110 : Int32) ∧ P (.inl (some (.int (110 : Int32)))) w.1)) ∧ (¬ x12 ≤ v7 → wv_cV G fr yX20_made v1 [] w (wv_rI (fun x19 w19 => (¬ x19 = (-1 : Int32) → wv_cV G fr yX20_made v1 [] w19 (wv_rI (fun x48 w48 => (¬ v7 = x48 → vc_X4_classMatch_59 G fr P K9 v0 v1 v2 v3 v4 v5 v6 v7 (0 : Int32) w48) ∧ (v7 = x48 → vc_X4_classMatch_59 G fr P K9 v0 v1 v2 v3 v4 v5 v6 v7 (1 : Int32) w48)) (wv_pr P))) ∧ (x19 = (-1 : Int32) → wv_cV G fr yX4_found v0 [.int v7, .int v3] w19 (wv_rI (fun x30 w30 => (¬ x30 = v2 → vc_X4_classMatch_59 G fr P K9 v0 v1 v2 v3 v4 v5 v6 v7 (0 : Int32) w30) ∧ (x30 = v2 → vc_X4_classMatch_59 G fr P K9 v0 v1 v2 v3 v4 v5 v6 v7 (1 : Int32) w30)) (wv_pr P)))) (wv_pr P))))
def vc_X4_classMatch_0 (G : wv_G) (fr : Nat) (P : wv_R → wv_H → Prop) (v0 : Option Nat) (v1 : Option Nat) (v2 : Int32) (v3 : Int32) (v4 : Int32) (w : wv_W) : Prop :=
  wv_L (fun K9 a w => vc_X4_classMatch_9 G fr P K9 a.1 a.2.1 a.2.2.1 a.2.2.2.1 a.2.2.2.2.1 a.2.2.2.2.2.1 a.2.2.2.2.2.2.1 a.2.2.2.2.2.2.2 w) (v0, v1, v2, v3, v4, (1 : Int32), (0 : Int32), (0 : Int32)) w
set_option maxHeartbeats 4000000 in
theorem wk_X4_classMatch_95 {G : wv_G} {p : Program} {e : Env} {R : Room} {s : State} {m : MethodId} {args : Array Value} {below : List Frame} {meth : Method} {c : Code} {fr : Nat} {P : wv_R → wv_H → Prop} (X : wv_ok G p R s m args meth c fr "WeaversgateModel" cX4_classMatch 9 (Option.some Jvm.ClassFile.FieldType.char) "classMatch" []) {K9 : ((Option Nat) × (Option Nat) × Int32 × Int32 × Int32 × Int32 × Int32 × Int32) → wv_W → Prop} (hK9 : ∀ a w, K9 a w → wv_J G p e R s m args below meth c 9 P w 9 [(0, va_rf a.1), (1, va_rf a.2.1), (2, .int a.2.2.1), (3, .int a.2.2.2.1), (4, .int a.2.2.2.2.1), (5, .int a.2.2.2.2.2.1), (6, .int a.2.2.2.2.2.2.1), (7, .int a.2.2.2.2.2.2.2)] []) {v0 : Option Nat} {v1 : Option Nat} {v2 : Int32} {v3 : Int32} {v4 : Int32} {v5 : Int32} {v6 : Int32} {v7 : Int32} {w : wv_W} (hv : vc_X4_classMatch_95 G fr P K9 v0 v1 v2 v3 v4 v5 v6 v7 w) : wv_J G p e R s m args below meth c 9 P w 95 [(0, va_rf v0), (1, va_rf v1), (2, .int v2), (3, .int v3), (4, .int v4), (5, .int v5), (6, .int v6), (7, .int v7)] [] := by
  intro H locs cells slots ls S hl
  unfold vc_X4_classMatch_95 at hv
  refine lv_iinc (v := (v7 + (1 : Int32))) (lv' := [(7, .int (v7 + (1 : Int32))), (0, va_rf v0), (1, va_rf v1), (2, .int v2), (3, .int v3), (4, .int v4), (5, .int v5), (6, .int v6)]) X.hx X.hb dX4_classMatch_95 hl (k := 7) rfl (by rfl) (by decide) (by simp [wv_rfc, wv_kI, wv_kJ, wv_kF, wv_kD]) (fun ls hl => ?_)
  refine lv_goto (tgt := 9) X.hx X.hb dX4_classMatch_98 (by decide) ?_
  exact hK9 _ _ hv H locs cells slots ls S (lv_sub hl [1, 2, 3, 4, 5, 6, 7, 0] rfl)
set_option maxHeartbeats 4000000 in
theorem wk_X4_classMatch_59 {G : wv_G} {p : Program} {e : Env} {R : Room} {s : State} {m : MethodId} {args : Array Value} {below : List Frame} {meth : Method} {c : Code} {fr : Nat} {P : wv_R → wv_H → Prop} (X : wv_ok G p R s m args meth c fr "WeaversgateModel" cX4_classMatch 9 (Option.some Jvm.ClassFile.FieldType.char) "classMatch" []) {K9 : ((Option Nat) × (Option Nat) × Int32 × Int32 × Int32 × Int32 × Int32 × Int32) → wv_W → Prop} (hK9 : ∀ a w, K9 a w → wv_J G p e R s m args below meth c 9 P w 9 [(0, va_rf a.1), (1, va_rf a.2.1), (2, .int a.2.2.1), (3, .int a.2.2.2.1), (4, .int a.2.2.2.2.1), (5, .int a.2.2.2.2.2.1), (6, .int a.2.2.2.2.2.2.1), (7, .int a.2.2.2.2.2.2.2)] []) {v0 : Option Nat} {v1 : Option Nat} {v2 : Int32} {v3 : Int32} {v4 : Int32} {v5 : Int32} {v6 : Int32} {v7 : Int32} {s0 : Int32} {w : wv_W} (hv : vc_X4_classMatch_59 G fr P K9 v0 v1 v2 v3 v4 v5 v6 v7 s0 w) : wv_J G p e R s m args below meth c 9 P w 59 [(0, va_rf v0), (1, va_rf v1), (2, .int v2), (3, .int v3), (4, .int v4), (5, .int v5), (6, .int v6), (7, .int v7)] [.int s0] := by
  intro H locs cells slots ls S hl
  unfold vc_X4_classMatch_59 at hv
  refine lv_istore X.hx X.hb (i := 8) (lv' := [(8, .int s0), (0, va_rf v0), (1, va_rf v1), (2, .int v2), (3, .int v3), (4, .int v4), (5, .int v5), (6, .int v6), (7, .int v7)]) dX4_classMatch_59 hl (by decide) (by simp [wv_rfc, wv_kI, wv_kJ, wv_kF, wv_kD]) (fun ls hl => ?_)
  refine lv_iload X.hx X.hb dX4_classMatch_61 (lv_at hl 0 rfl) ?_
  refine lv_if_ne (tgt := 69) X.hx X.hb dX4_classMatch_63 (by decide) (fun c63 => ?_) (fun c63 => ?_)
  · have hv := hv.1 c63
    refine lv_iload X.hx X.hb dX4_classMatch_69 (lv_at hl 6 rfl) ?_
    refine wq_aload_n X dX4_classMatch_71 rfl (lv_at hl 1 rfl) ?_
    refine lv_iload X.hx X.hb dX4_classMatch_72 (lv_at hl 8 rfl) ?_
    refine lv_iload X.hx X.hb dX4_classMatch_74 (lv_at hl 5 rfl) ?_
    refine wq_cV_I X S hv q2156 q2158 qs50 q66 ⟨by decide +kernel, by decide +kernel⟩ (nA := 2) (As := [.int v7, .int v4]) (by decide +kernel) rfl rfl (by simp [wv_rfc, wv_kI, wv_kJ, wv_kF, wv_kD]) hl.1 dX4_classMatch_76 (fun x76 w76 H locs cells slots S hv => ?_) (wq_kx X rfl)
    refine lv_iand X.hx X.hb dX4_classMatch_79 ?_
    refine lv_istore X.hx X.hb (i := 5) (lv' := [(5, .int (v5 &&& x76)), (8, .int s0), (0, va_rf v0), (1, va_rf v1), (2, .int v2), (3, .int v3), (4, .int v4), (6, .int v6), (7, .int v7)]) dX4_classMatch_80 hl (by decide) (by simp [wv_rfc, wv_kI, wv_kJ, wv_kF, wv_kD]) (fun ls hl => ?_)
    refine lv_iload X.hx X.hb dX4_classMatch_82 (lv_at hl 7 rfl) ?_
    refine wq_aload_n X dX4_classMatch_84 rfl (lv_at hl 2 rfl) ?_
    refine lv_iload X.hx X.hb dX4_classMatch_85 (lv_at hl 8 rfl) ?_
    refine lv_iload X.hx X.hb dX4_classMatch_87 (lv_at hl 6 rfl) ?_
    refine wq_cV_I X S hv q2156 q2158 qs50 q66 ⟨by decide +kernel, by decide +kernel⟩ (nA := 2) (As := [.int v7, .int v4]) (by decide +kernel) rfl rfl (by simp [wv_rfc, wv_kI, wv_kJ, wv_kF, wv_kD]) hl.1 dX4_classMatch_89 (fun x89 w89 H locs cells slots S hv => ?_) (wq_kx X rfl)
    refine lv_ior X.hx X.hb dX4_classMatch_92 ?_
    refine lv_istore X.hx X.hb (i := 6) (lv' := [(6, .int (v6 ||| x89)), (5, .int (v5 &&& x76)), (8, .int s0), (0, va_rf v0), (1, va_rf v1), (2, .int v2), (3, .int v3), (4, .int v4), (7, .int v7)]) dX4_classMatch_93 hl (by decide) (by simp [wv_rfc, wv_kI, wv_kJ, wv_kF, wv_kD]) (fun ls hl => ?_)
    exact wk_X4_classMatch_95 X hK9 hv H locs cells slots ls S (lv_sub hl [3, 4, 5, 6, 7, 1, 0, 8] rfl)
  · have hv := hv.2 c63
    refine lv_goto (tgt := 95) X.hx X.hb dX4_classMatch_66 (by decide) ?_
    exact wk_X4_classMatch_95 X hK9 hv H locs cells slots ls S (lv_sub hl [1, 2, 3, 4, 5, 6, 7, 8] rfl)
set_option maxHeartbeats 4000000 in
theorem wk_X4_classMatch_9 {G : wv_G} {p : Program} {e : Env} {R : Room} {s : State} {m : MethodId} {args : Array Value} {below : List Frame} {meth : Method} {c : Code} {fr : Nat} {P : wv_R → wv_H → Prop} (X : wv_ok G p R s m args meth c fr "WeaversgateModel" cX4_classMatch 9 (Option.some Jvm.ClassFile.FieldType.char) "classMatch" []) {K9 : ((Option Nat) × (Option Nat) × Int32 × Int32 × Int32 × Int32 × Int32 × Int32) → wv_W → Prop} (hK9 : ∀ a w, K9 a w → wv_J G p e R s m args below meth c 9 P w 9 [(0, va_rf a.1), (1, va_rf a.2.1), (2, .int a.2.2.1), (3, .int a.2.2.2.1), (4, .int a.2.2.2.2.1), (5, .int a.2.2.2.2.2.1), (6, .int a.2.2.2.2.2.2.1), (7, .int a.2.2.2.2.2.2.2)] []) {v0 : Option Nat} {v1 : Option Nat} {v2 : Int32} {v3 : Int32} {v4 : Int32} {v5 : Int32} {v6 : Int32} {v7 : Int32} {w : wv_W} (hv : vc_X4_classMatch_9 G fr P K9 v0 v1 v2 v3 v4 v5 v6 v7 w) : wv_J G p e R s m args below meth c 9 P w 9 [(0, va_rf v0), (1, va_rf v1), (2, .int v2), (3, .int v3), (4, .int v4), (5, .int v5), (6, .int v6), (7, .int v7)] [] := by
  intro H locs cells slots ls S hl
  unfold vc_X4_classMatch_9 at hv
  refine lv_iload X.hx X.hb dX4_classMatch_9 (lv_at hl 7 rfl) ?_
  refine wq_aload_n X dX4_classMatch_11 rfl (lv_at hl 0 rfl) ?_
  refine wq_gI X S hv ccX4 in_X4 (k := 13) (by decide) q1822 dX4_classMatch_12 (fun x12 hv => ?_)
  refine lv_icmp_ge (tgt := 101) X.hx X.hb dX4_classMatch_15 (by decide) (fun c15 => ?_) (fun c15 => ?_)
  · have hv := hv.1 c15
    refine lv_iload X.hx X.hb dX4_classMatch_101 (lv_at hl 6 rfl) ?_
    refine lv_if_ne (tgt := 111) X.hx X.hb dX4_classMatch_103 (by decide) (fun c103 => ?_) (fun c103 => ?_)
    · have hv := hv.1 c103
      refine lv_iload X.hx X.hb dX4_classMatch_111 (lv_at hl 5 rfl) ?_
      refine lv_if_eq (tgt := 121) X.hx X.hb dX4_classMatch_113 (by decide) (fun c113 => ?_) (fun c113 => ?_)
      · have hv := hv.1 c113
        refine lv_bipush (v := (109 : Int32)) X.hx X.hb dX4_classMatch_121 (by decide) ?_
        exact wr_iret X S hv.1 hv.2 dX4_classMatch_123
      · have hv := hv.2 c113
        refine lv_bipush (v := (121 : Int32)) X.hx X.hb dX4_classMatch_116 (by decide) ?_
        refine lv_goto (tgt := 123) X.hx X.hb dX4_classMatch_118 (by decide) ?_
        exact wr_iret X S hv.1 hv.2 dX4_classMatch_123
    · have hv := hv.2 c103
      refine lv_bipush (v := (110 : Int32)) X.hx X.hb dX4_classMatch_106 (by decide) ?_
      refine lv_goto (tgt := 123) X.hx X.hb dX4_classMatch_108 (by decide) ?_
      exact wr_iret X S hv.1 hv.2 dX4_classMatch_123
  · have hv := hv.2 c15
    refine wq_aload_n X dX4_classMatch_18 rfl (lv_at hl 1 rfl) ?_
    refine wq_cV_I X S hv q2152 q2153 q2154 q105 ⟨by decide +kernel, by decide +kernel⟩ (nA := 0) (As := []) (by decide +kernel) rfl rfl (by simp [wv_rfc, wv_kI, wv_kJ, wv_kF, wv_kD]) hl.1 dX4_classMatch_19 (fun x19 w19 H locs cells slots S hv => ?_) (wq_kx X rfl)
    refine lv_iconst (v := (-1 : Int32)) X.hx X.hb dX4_classMatch_22 (by decide) ?_
    refine lv_icmp_ne (tgt := 45) X.hx X.hb dX4_classMatch_23 (by decide) (fun c23 => ?_) (fun c23 => ?_)
    · have hv := hv.1 c23
      refine lv_iload X.hx X.hb dX4_classMatch_45 (lv_at hl 7 rfl) ?_
      refine wq_aload_n X dX4_classMatch_47 rfl (lv_at hl 1 rfl) ?_
      refine wq_cV_I X S hv q2152 q2153 q2154 q105 ⟨by decide +kernel, by decide +kernel⟩ (nA := 0) (As := []) (by decide +kernel) rfl rfl (by simp [wv_rfc, wv_kI, wv_kJ, wv_kF, wv_kD]) hl.1 dX4_classMatch_48 (fun x48 w48 H locs cells slots S hv => ?_) (wq_kx X rfl)
      refine lv_icmp_ne (tgt := 58) X.hx X.hb dX4_classMatch_51 (by decide) (fun c51 => ?_) (fun c51 => ?_)
      · have hv := hv.1 c51
        refine lv_iconst (v := (0 : Int32)) X.hx X.hb dX4_classMatch_58 (by decide) ?_
        exact wk_X4_classMatch_59 X hK9 hv H locs cells slots ls S (lv_sub hl [0, 1, 2, 3, 4, 5, 6, 7] rfl)
      · have hv := hv.2 c51
        refine lv_iconst (v := (1 : Int32)) X.hx X.hb dX4_classMatch_54 (by decide) ?_
        refine lv_goto (tgt := 59) X.hx X.hb dX4_classMatch_55 (by decide) ?_
        exact wk_X4_classMatch_59 X hK9 hv H locs cells slots ls S (lv_sub hl [0, 1, 2, 3, 4, 5, 6, 7] rfl)
    · have hv := hv.2 c23
      refine wq_aload_n X dX4_classMatch_26 rfl (lv_at hl 0 rfl) ?_
      refine lv_iload X.hx X.hb dX4_classMatch_27 (lv_at hl 7 rfl) ?_
      refine lv_iload_n X.hx X.hb dX4_classMatch_29 rfl (lv_at hl 3 rfl) ?_
      refine wq_cV_I X S hv q1931 q1933 qs39 q66 ⟨by decide +kernel, by decide +kernel⟩ (nA := 2) (As := [.int v7, .int v3]) (by decide +kernel) rfl rfl (by simp [wv_rfc, wv_kI, wv_kJ, wv_kF, wv_kD]) hl.1 dX4_classMatch_30 (fun x30 w30 H locs cells slots S hv => ?_) (wq_kx X rfl)
      refine lv_iload_n X.hx X.hb dX4_classMatch_33 rfl (lv_at hl 2 rfl) ?_
      refine lv_icmp_ne (tgt := 41) X.hx X.hb dX4_classMatch_34 (by decide) (fun c34 => ?_) (fun c34 => ?_)
      · have hv := hv.1 c34
        refine lv_iconst (v := (0 : Int32)) X.hx X.hb dX4_classMatch_41 (by decide) ?_
        refine lv_goto (tgt := 59) X.hx X.hb dX4_classMatch_42 (by decide) ?_
        exact wk_X4_classMatch_59 X hK9 hv H locs cells slots ls S (lv_sub hl [0, 1, 2, 3, 4, 5, 6, 7] rfl)
      · have hv := hv.2 c34
        refine lv_iconst (v := (1 : Int32)) X.hx X.hb dX4_classMatch_37 (by decide) ?_
        refine lv_goto (tgt := 59) X.hx X.hb dX4_classMatch_38 (by decide) ?_
        exact wk_X4_classMatch_59 X hK9 hv H locs cells slots ls S (lv_sub hl [0, 1, 2, 3, 4, 5, 6, 7] rfl)
set_option maxHeartbeats 4000000 in
theorem wk_X4_classMatch_0 {G : wv_G} {p : Program} {e : Env} {R : Room} {s : State} {m : MethodId} {args : Array Value} {below : List Frame} {meth : Method} {c : Code} {fr : Nat} {P : wv_R → wv_H → Prop} (X : wv_ok G p R s m args meth c fr "WeaversgateModel" cX4_classMatch 9 (Option.some Jvm.ClassFile.FieldType.char) "classMatch" []) {v0 : Option Nat} {v1 : Option Nat} {v2 : Int32} {v3 : Int32} {v4 : Int32} {w : wv_W} (hv : vc_X4_classMatch_0 G fr P v0 v1 v2 v3 v4 w) : wv_J G p e R s m args below meth c 9 P w 0 [(0, va_rf v0), (1, va_rf v1), (2, .int v2), (3, .int v3), (4, .int v4)] [] := by
  intro H locs cells slots ls S hl
  unfold vc_X4_classMatch_0 at hv
  refine lv_iconst (v := (1 : Int32)) X.hx X.hb dX4_classMatch_0 (by decide) ?_
  refine lv_istore X.hx X.hb (i := 5) (lv' := [(5, .int (1 : Int32)), (0, va_rf v0), (1, va_rf v1), (2, .int v2), (3, .int v3), (4, .int v4)]) dX4_classMatch_1 hl (by decide) (by simp [wv_rfc, wv_kI, wv_kJ, wv_kF, wv_kD]) (fun ls hl => ?_)
  refine lv_iconst (v := (0 : Int32)) X.hx X.hb dX4_classMatch_3 (by decide) ?_
  refine lv_istore X.hx X.hb (i := 6) (lv' := [(6, .int (0 : Int32)), (5, .int (1 : Int32)), (0, va_rf v0), (1, va_rf v1), (2, .int v2), (3, .int v3), (4, .int v4)]) dX4_classMatch_4 hl (by decide) (by simp [wv_rfc, wv_kI, wv_kJ, wv_kF, wv_kD]) (fun ls hl => ?_)
  refine lv_iconst (v := (0 : Int32)) X.hx X.hb dX4_classMatch_6 (by decide) ?_
  refine lv_istore X.hx X.hb (i := 7) (lv' := [(7, .int (0 : Int32)), (6, .int (0 : Int32)), (5, .int (1 : Int32)), (0, va_rf v0), (1, va_rf v1), (2, .int v2), (3, .int v3), (4, .int v4)]) dX4_classMatch_7 hl (by decide) (by simp [wv_rfc, wv_kI, wv_kJ, wv_kF, wv_kD]) (fun ls hl => ?_)
  exact wv_loop (A := (Option Nat) × (Option Nat) × Int32 × Int32 × Int32 × Int32 × Int32 × Int32) (fun a w => wv_J G p e R s m args below meth c 9 P w 9 [(0, va_rf a.1), (1, va_rf a.2.1), (2, .int a.2.2.1), (3, .int a.2.2.2.1), (4, .int a.2.2.2.2.1), (5, .int a.2.2.2.2.2.1), (6, .int a.2.2.2.2.2.2.1), (7, .int a.2.2.2.2.2.2.2)] []) (fun K9 hK9 a w hv => wk_X4_classMatch_9 X hK9 hv) hv H locs cells slots ls S (lv_sub hl [3, 4, 5, 6, 7, 2, 1, 0] rfl)
theorem wk_X4_classMatch {G : wv_G} (hG : wv_G0 G) {v0 : Option Nat} {v1 : Option Nat} {v2 : Int32} {v3 : Int32} {v4 : Int32} {h : wv_H} {fr kc ks : Nat} {P : wv_R → wv_H → Prop} (hv : vc_X4_classMatch_0 G fr P v0 v1 v2 v3 v4 (h, kc, ks)) : wv_C G yX4_classMatch [va_rf v0, va_rf v1, .int v2, .int v3, .int v4] h fr kc ks P := by
  refine wv_enter (lv := [(0, va_rf v0), (1, va_rf v1), (2, .int v2), (3, .int v3), (4, .int v4)]) hG (by decide +kernel) q2151 (by decide) (by simp [lg_sl, wv_rfc, wv_kI, wv_kJ, wv_kF, wv_kD]) (by simp [lv_args, wv_rfc, wv_kI, wv_kJ, wv_kF, wv_kD]) ?_
  intro p e R s m args below meth c X H locs cells slots ls S hl
  exact wk_X4_classMatch_0 X hv H locs cells slots ls S (lv_sub hl [0, 1, 2, 3, 4] rfl)

def vc_X4_dropBody_0 (G : wv_G) (fr : Nat) (P : wv_R → wv_H → Prop) (v0 : Option Nat) (v1 : Int32) (v2 : Int32) (w : wv_W) : Prop :=
  wv_cV G fr yX4_wrong v0 [.int v1, .int v2] w (wv_rI (fun x4 w4 => wv_pt w4 v0 ciX4 12 (.int x4) (fun w7 => wv_gI w7 v0 ciX4 12 (fun x11 => (x11 ≤ 0 → wv_cV G fr yX4_body v0 [.int v1, .int v2] w7 (wv_rA (fun x22 w22 => wv_gA w22 v0 ciX4 0 (fun x27 => wv_sq G 7 "WeaversgateModel$Body" w22 x27 (((6 : Int32) * v1) + v2) none (fun w37 => (¬ x22 = none → wv_gI w37 x22 ciX8 3 (fun x47 => P (.inl (some (.int x47))) w37.1)) ∧ (x22 = none → P (.inl (some (.int (0 : Int32)))) w37.1)))) (wv_pr P))) ∧ (¬ x11 ≤ 0 → P (.inl (some (.int (0 : Int32)))) w7.1)))) (wv_pr P))
set_option maxHeartbeats 4000000 in
theorem wk_X4_dropBody_0 {G : wv_G} {p : Program} {e : Env} {R : Room} {s : State} {m : MethodId} {args : Array Value} {below : List Frame} {meth : Method} {c : Code} {fr : Nat} {P : wv_R → wv_H → Prop} (X : wv_ok G p R s m args meth c fr "WeaversgateModel" cX4_dropBody 4 (Option.some Jvm.ClassFile.FieldType.int) "dropBody" []) {v0 : Option Nat} {v1 : Int32} {v2 : Int32} {w : wv_W} (hv : vc_X4_dropBody_0 G fr P v0 v1 v2 w) : wv_J G p e R s m args below meth c 4 P w 0 [(0, va_rf v0), (1, .int v1), (2, .int v2)] [] := by
  intro H locs cells slots ls S hl
  unfold vc_X4_dropBody_0 at hv
  refine wq_aload_n X dX4_dropBody_0 rfl (lv_at hl 0 rfl) ?_
  refine wq_aload_n X dX4_dropBody_1 rfl (lv_at hl 0 rfl) ?_
  refine lv_iload_n X.hx X.hb dX4_dropBody_2 rfl (lv_at hl 1 rfl) ?_
  refine lv_iload_n X.hx X.hb dX4_dropBody_3 rfl (lv_at hl 2 rfl) ?_
  refine wq_cV_I X S hv q1923 q1925 qs38 q66 ⟨by decide +kernel, by decide +kernel⟩ (nA := 2) (As := [.int v1, .int v2]) (by decide +kernel) rfl rfl (by simp [wv_rfc, wv_kI, wv_kJ, wv_kF, wv_kD]) hl.1 dX4_dropBody_4 (fun x4 w4 H locs cells slots S hv => ?_) (wq_kx X rfl)
  refine wq_pt X S hv tyX4 tyX4_ok nmX4 ccX4 in_X4 (k := 12) (by decide) q1821 rfl rfl rfl rfl dX4_dropBody_7 (fun w7 H locs S hv => ?_)
  refine wq_aload_n X dX4_dropBody_10 rfl (lv_at hl 0 rfl) ?_
  refine wq_gI X S hv ccX4 in_X4 (k := 12) (by decide) q1821 dX4_dropBody_11 (fun x11 hv => ?_)
  refine lv_if_le (tgt := 19) X.hx X.hb dX4_dropBody_14 (by decide) (fun c14 => ?_) (fun c14 => ?_)
  · have hv := hv.1 c14
    refine wq_aload_n X dX4_dropBody_19 rfl (lv_at hl 0 rfl) ?_
    refine lv_iload_n X.hx X.hb dX4_dropBody_20 rfl (lv_at hl 1 rfl) ?_
    refine lv_iload_n X.hx X.hb dX4_dropBody_21 rfl (lv_at hl 2 rfl) ?_
    refine wq_cV_A X S hv q1889 q1891 qs37 q66 ⟨by decide +kernel, by decide +kernel⟩ (nA := 2) (As := [.int v1, .int v2]) (by decide +kernel) rfl rfl (by simp [wv_rfc, wv_kI, wv_kJ, wv_kF, wv_kD]) hl.1 dX4_dropBody_22 (fun x22 w22 H locs cells slots S hv => ?_) (wq_kx X rfl)
    refine wq_astore_n X (i := 3) (lv' := [(3, va_rf x22), (0, va_rf v0), (1, .int v1), (2, .int v2)]) dX4_dropBody_25 rfl hl (by decide) (by simp [wv_rfc, wv_kI, wv_kJ, wv_kF, wv_kD]) (fun ls hl => ?_)
    refine wq_aload_n X dX4_dropBody_26 rfl (lv_at hl 1 rfl) ?_
    refine wq_gA X S hv ccX4 in_X4 (k := 0) (by decide) q1800 dX4_dropBody_27 (fun x27 hv => ?_)
    refine lv_bipush (v := (6 : Int32)) X.hx X.hb dX4_dropBody_30 (by decide) ?_
    refine lv_iload_n X.hx X.hb dX4_dropBody_32 rfl (lv_at hl 2 rfl) ?_
    refine lv_imul X.hx X.hb dX4_dropBody_33 ?_
    refine lv_iload_n X.hx X.hb dX4_dropBody_34 rfl (lv_at hl 3 rfl) ?_
    refine lv_iadd X.hx X.hb dX4_dropBody_35 ?_
    refine wq_null (k := 0) X S dX4_dropBody_36 ?_
    refine wq_sq7 X S hv dX4_dropBody_37 (fun w37 H locs S hv => ?_)
    refine wq_aload_n X dX4_dropBody_38 rfl (lv_at hl 0 rfl) ?_
    refine wq_ifnonnull (tgt := 46) X dX4_dropBody_39 (by decide) (fun c39 => ?_) (fun c39 => ?_)
    · have hv := hv.1 c39
      refine wq_aload_n X dX4_dropBody_46 rfl (lv_at hl 0 rfl) ?_
      refine wq_gI X S hv ccX8 in_X8 (k := 3) (by decide) q1908 dX4_dropBody_47 (fun x47 hv => ?_)
      exact wr_iret X S rfl hv dX4_dropBody_50
    · have hv := hv.2 c39
      refine lv_iconst (v := (0 : Int32)) X.hx X.hb dX4_dropBody_42 (by decide) ?_
      refine lv_goto (tgt := 50) X.hx X.hb dX4_dropBody_43 (by decide) ?_
      exact wr_iret X S rfl hv dX4_dropBody_50
  · have hv := hv.2 c14
    refine lv_iconst (v := (0 : Int32)) X.hx X.hb dX4_dropBody_17 (by decide) ?_
    exact wr_iret X S rfl hv dX4_dropBody_18
theorem wk_X4_dropBody {G : wv_G} (hG : wv_G0 G) {v0 : Option Nat} {v1 : Int32} {v2 : Int32} {h : wv_H} {fr kc ks : Nat} {P : wv_R → wv_H → Prop} (hv : vc_X4_dropBody_0 G fr P v0 v1 v2 (h, kc, ks)) : wv_C G yX4_dropBody [va_rf v0, .int v1, .int v2] h fr kc ks P := by
  refine wv_enter (lv := [(0, va_rf v0), (1, .int v1), (2, .int v2)]) hG (by decide +kernel) q1922 (by decide) (by simp [lg_sl, wv_rfc, wv_kI, wv_kJ, wv_kF, wv_kD]) (by simp [lv_args, wv_rfc, wv_kI, wv_kJ, wv_kF, wv_kD]) ?_
  intro p e R s m args below meth c X H locs cells slots ls S hl
  exact wk_X4_dropBody_0 X hv H locs cells slots ls S (lv_sub hl [0, 1, 2] rfl)

def vc_X4_finds_0 (G : wv_G) (fr : Nat) (P : wv_R → wv_H → Prop) (v0 : Option Nat) (v1 : Int32) (v2 : Int32) (w : wv_W) : Prop :=
  wv_cV G fr yX4_wrong v0 [.int v1, .int v2] w (wv_rI (fun x4 w4 => wv_pt w4 v0 ciX4 12 (.int x4) (fun w7 => wv_gI w7 v0 ciX4 12 (fun x11 => (x11 ≤ 0 → wv_cV G fr yX4_found v0 [.int v1, .int v2] w7 (wv_rI (fun x24 w24 => P (.inl (some (.int x24))) w24.1) (wv_pr P))) ∧ (¬ x11 ≤ 0 → P (.inl (some (.int (0 : Int32)))) w7.1)))) (wv_pr P))
set_option maxHeartbeats 4000000 in
theorem wk_X4_finds_0 {G : wv_G} {p : Program} {e : Env} {R : Room} {s : State} {m : MethodId} {args : Array Value} {below : List Frame} {meth : Method} {c : Code} {fr : Nat} {P : wv_R → wv_H → Prop} (X : wv_ok G p R s m args meth c fr "WeaversgateModel" cX4_finds 3 (Option.some Jvm.ClassFile.FieldType.int) "finds" []) {v0 : Option Nat} {v1 : Int32} {v2 : Int32} {w : wv_W} (hv : vc_X4_finds_0 G fr P v0 v1 v2 w) : wv_J G p e R s m args below meth c 3 P w 0 [(0, va_rf v0), (1, .int v1), (2, .int v2)] [] := by
  intro H locs cells slots ls S hl
  unfold vc_X4_finds_0 at hv
  refine wq_aload_n X dX4_finds_0 rfl (lv_at hl 0 rfl) ?_
  refine wq_aload_n X dX4_finds_1 rfl (lv_at hl 0 rfl) ?_
  refine lv_iload_n X.hx X.hb dX4_finds_2 rfl (lv_at hl 1 rfl) ?_
  refine lv_iload_n X.hx X.hb dX4_finds_3 rfl (lv_at hl 2 rfl) ?_
  refine wq_cV_I X S hv q1923 q1925 qs38 q66 ⟨by decide +kernel, by decide +kernel⟩ (nA := 2) (As := [.int v1, .int v2]) (by decide +kernel) rfl rfl (by simp [wv_rfc, wv_kI, wv_kJ, wv_kF, wv_kD]) hl.1 dX4_finds_4 (fun x4 w4 H locs cells slots S hv => ?_) (wq_kx X rfl)
  refine wq_pt X S hv tyX4 tyX4_ok nmX4 ccX4 in_X4 (k := 12) (by decide) q1821 rfl rfl rfl rfl dX4_finds_7 (fun w7 H locs S hv => ?_)
  refine wq_aload_n X dX4_finds_10 rfl (lv_at hl 0 rfl) ?_
  refine wq_gI X S hv ccX4 in_X4 (k := 12) (by decide) q1821 dX4_finds_11 (fun x11 hv => ?_)
  refine lv_if_le (tgt := 21) X.hx X.hb dX4_finds_14 (by decide) (fun c14 => ?_) (fun c14 => ?_)
  · have hv := hv.1 c14
    refine wq_aload_n X dX4_finds_21 rfl (lv_at hl 0 rfl) ?_
    refine lv_iload_n X.hx X.hb dX4_finds_22 rfl (lv_at hl 1 rfl) ?_
    refine lv_iload_n X.hx X.hb dX4_finds_23 rfl (lv_at hl 2 rfl) ?_
    refine wq_cV_I X S hv q1931 q1933 qs39 q66 ⟨by decide +kernel, by decide +kernel⟩ (nA := 2) (As := [.int v1, .int v2]) (by decide +kernel) rfl rfl (by simp [wv_rfc, wv_kI, wv_kJ, wv_kF, wv_kD]) hl.1 dX4_finds_24 (fun x24 w24 H locs cells slots S hv => ?_) (wq_kx X rfl)
    exact wr_iret X S rfl hv dX4_finds_27
  · have hv := hv.2 c14
    refine lv_iconst (v := (0 : Int32)) X.hx X.hb dX4_finds_17 (by decide) ?_
    refine lv_goto (tgt := 27) X.hx X.hb dX4_finds_18 (by decide) ?_
    exact wr_iret X S rfl hv dX4_finds_27
theorem wk_X4_finds {G : wv_G} (hG : wv_G0 G) {v0 : Option Nat} {v1 : Int32} {v2 : Int32} {h : wv_H} {fr kc ks : Nat} {P : wv_R → wv_H → Prop} (hv : vc_X4_finds_0 G fr P v0 v1 v2 (h, kc, ks)) : wv_C G yX4_finds [va_rf v0, .int v1, .int v2] h fr kc ks P := by
  refine wv_enter (lv := [(0, va_rf v0), (1, .int v1), (2, .int v2)]) hG (by decide +kernel) q1930 (by decide) (by simp [lg_sl, wv_rfc, wv_kI, wv_kJ, wv_kF, wv_kD]) (by simp [lv_args, wv_rfc, wv_kI, wv_kJ, wv_kF, wv_kD]) ?_
  intro p e R s m args below meth c X H locs cells slots ls S hl
  exact wk_X4_finds_0 X hv H locs cells slots ls S (lv_sub hl [0, 1, 2] rfl)

def vc_X4_found_2 (G : wv_G) (fr : Nat) (P : wv_R → wv_H → Prop) (K2 : ((Option Nat) × Int32 × Int32) → wv_W → Prop) (v0 : Option Nat) (v2 : Int32) (v3 : Int32) (w : wv_W) : Prop :=
  (v3 = (-1 : Int32) → P (.inl (some (.int v3))) w.1) ∧ (¬ v3 = (-1 : Int32) → wv_cV G fr yX4_body v0 [.int v3, .int v2] w (wv_rA (fun x10 w10 => (¬ x10 = none → P (.inl (some (.int v3))) w10.1) ∧ (x10 = none → wv_gA w10 v0 ciX4 1 (fun x17 => wv_li G 0 w10 x17 v3 (fun x21 => K2 (v0, v2, x21) w10)))) (wv_pr P)))
def vc_X4_found_0 (G : wv_G) (fr : Nat) (P : wv_R → wv_H → Prop) (v0 : Option Nat) (v1 : Int32) (v2 : Int32) (w : wv_W) : Prop :=
  wv_L (fun K2 a w => vc_X4_found_2 G fr P K2 a.1 a.2.1 a.2.2 w) (v0, v2, v1) w
set_option maxHeartbeats 4000000 in
theorem wk_X4_found_2 {G : wv_G} {p : Program} {e : Env} {R : Room} {s : State} {m : MethodId} {args : Array Value} {below : List Frame} {meth : Method} {c : Code} {fr : Nat} {P : wv_R → wv_H → Prop} (X : wv_ok G p R s m args meth c fr "WeaversgateModel" cX4_found 4 (Option.some Jvm.ClassFile.FieldType.int) "found" []) {K2 : ((Option Nat) × Int32 × Int32) → wv_W → Prop} (hK2 : ∀ a w, K2 a w → wv_J G p e R s m args below meth c 4 P w 2 [(0, va_rf a.1), (2, .int a.2.1), (3, .int a.2.2)] []) {v0 : Option Nat} {v2 : Int32} {v3 : Int32} {w : wv_W} (hv : vc_X4_found_2 G fr P K2 v0 v2 v3 w) : wv_J G p e R s m args below meth c 4 P w 2 [(0, va_rf v0), (2, .int v2), (3, .int v3)] [] := by
  intro H locs cells slots ls S hl
  unfold vc_X4_found_2 at hv
  refine lv_iload_n X.hx X.hb dX4_found_2 rfl (lv_at hl 2 rfl) ?_
  refine lv_iconst (v := (-1 : Int32)) X.hx X.hb dX4_found_3 (by decide) ?_
  refine lv_icmp_eq (tgt := 26) X.hx X.hb dX4_found_4 (by decide) (fun c4 => ?_) (fun c4 => ?_)
  · have hv := hv.1 c4
    refine lv_iload_n X.hx X.hb dX4_found_26 rfl (lv_at hl 2 rfl) ?_
    exact wr_iret X S rfl hv dX4_found_27
  · have hv := hv.2 c4
    refine wq_aload_n X dX4_found_7 rfl (lv_at hl 0 rfl) ?_
    refine lv_iload_n X.hx X.hb dX4_found_8 rfl (lv_at hl 2 rfl) ?_
    refine lv_iload_n X.hx X.hb dX4_found_9 rfl (lv_at hl 1 rfl) ?_
    refine wq_cV_A X S hv q1889 q1891 qs37 q66 ⟨by decide +kernel, by decide +kernel⟩ (nA := 2) (As := [.int v3, .int v2]) (by decide +kernel) rfl rfl (by simp [wv_rfc, wv_kI, wv_kJ, wv_kF, wv_kD]) hl.1 dX4_found_10 (fun x10 w10 H locs cells slots S hv => ?_) (wq_kx X rfl)
    refine wq_ifnonnull (tgt := 26) X dX4_found_13 (by decide) (fun c13 => ?_) (fun c13 => ?_)
    · have hv := hv.1 c13
      refine lv_iload_n X.hx X.hb dX4_found_26 rfl (lv_at hl 2 rfl) ?_
      exact wr_iret X S rfl hv dX4_found_27
    · have hv := hv.2 c13
      refine wq_aload_n X dX4_found_16 rfl (lv_at hl 0 rfl) ?_
      refine wq_gA X S hv ccX4 in_X4 (k := 1) (by decide) q1801 dX4_found_17 (fun x17 hv => ?_)
      refine lv_iload_n X.hx X.hb dX4_found_20 rfl (lv_at hl 2 rfl) ?_
      refine wq_li0 X S hv dX4_found_21 (fun x21 hv => ?_)
      refine lv_istore_n X.hx X.hb (i := 3) (lv' := [(3, .int x21), (0, va_rf v0), (2, .int v2)]) dX4_found_22 rfl hl (by decide) (by simp [wv_rfc, wv_kI, wv_kJ, wv_kF, wv_kD]) (fun ls hl => ?_)
      refine lv_goto (tgt := 2) X.hx X.hb dX4_found_23 (by decide) ?_
      exact hK2 _ _ hv H locs cells slots ls S (lv_sub hl [1, 2, 0] rfl)
set_option maxHeartbeats 4000000 in
theorem wk_X4_found_0 {G : wv_G} {p : Program} {e : Env} {R : Room} {s : State} {m : MethodId} {args : Array Value} {below : List Frame} {meth : Method} {c : Code} {fr : Nat} {P : wv_R → wv_H → Prop} (X : wv_ok G p R s m args meth c fr "WeaversgateModel" cX4_found 4 (Option.some Jvm.ClassFile.FieldType.int) "found" []) {v0 : Option Nat} {v1 : Int32} {v2 : Int32} {w : wv_W} (hv : vc_X4_found_0 G fr P v0 v1 v2 w) : wv_J G p e R s m args below meth c 4 P w 0 [(0, va_rf v0), (1, .int v1), (2, .int v2)] [] := by
  intro H locs cells slots ls S hl
  unfold vc_X4_found_0 at hv
  refine lv_iload_n X.hx X.hb dX4_found_0 rfl (lv_at hl 1 rfl) ?_
  refine lv_istore_n X.hx X.hb (i := 3) (lv' := [(3, .int v1), (0, va_rf v0), (1, .int v1), (2, .int v2)]) dX4_found_1 rfl hl (by decide) (by simp [wv_rfc, wv_kI, wv_kJ, wv_kF, wv_kD]) (fun ls hl => ?_)
  exact wv_loop (A := (Option Nat) × Int32 × Int32) (fun a w => wv_J G p e R s m args below meth c 4 P w 2 [(0, va_rf a.1), (2, .int a.2.1), (3, .int a.2.2)] []) (fun K2 hK2 a w hv => wk_X4_found_2 X hK2 hv) hv H locs cells slots ls S (lv_sub hl [1, 3, 0] rfl)
theorem wk_X4_found {G : wv_G} (hG : wv_G0 G) {v0 : Option Nat} {v1 : Int32} {v2 : Int32} {h : wv_H} {fr kc ks : Nat} {P : wv_R → wv_H → Prop} (hv : vc_X4_found_0 G fr P v0 v1 v2 (h, kc, ks)) : wv_C G yX4_found [va_rf v0, .int v1, .int v2] h fr kc ks P := by
  refine wv_enter (lv := [(0, va_rf v0), (1, .int v1), (2, .int v2)]) hG (by decide +kernel) q1934 (by decide) (by simp [lg_sl, wv_rfc, wv_kI, wv_kJ, wv_kF, wv_kD]) (by simp [lv_args, wv_rfc, wv_kI, wv_kJ, wv_kF, wv_kD]) ?_
  intro p e R s m args below meth c X H locs cells slots ls S hl
  exact wk_X4_found_0 X hv H locs cells slots ls S (lv_sub hl [0, 1, 2] rfl)

def vc_X4_in_0 (G : wv_G) (fr : Nat) (P : wv_R → wv_H → Prop) (v0 : Int32) (v1 : Int32) (v2 : Int32) (w : wv_W) : Prop :=
  (v0 < v1 → narrow .boolean (.int (0 : Int32)) = .int (0 : Int32) ∧ P (.inl (some (.int (0 : Int32)))) w.1) ∧ (¬ v0 < v1 → (v2 < v0 → narrow .boolean (.int (0 : Int32)) = .int (0 : Int32) ∧ P (.inl (some (.int (0 : Int32)))) w.1) ∧ (¬ v2 < v0 → narrow .boolean (.int (1 : Int32)) = .int (1 : Int32) ∧ P (.inl (some (.int (1 : Int32)))) w.1))
set_option maxHeartbeats 4000000 in
theorem wk_X4_in_0 {G : wv_G} {p : Program} {e : Env} {R : Room} {s : State} {m : MethodId} {args : Array Value} {below : List Frame} {meth : Method} {c : Code} {fr : Nat} {P : wv_R → wv_H → Prop} (X : wv_ok G p R s m args meth c fr "WeaversgateModel" cX4_in 3 (Option.some Jvm.ClassFile.FieldType.boolean) "in" []) {v0 : Int32} {v1 : Int32} {v2 : Int32} {w : wv_W} (hv : vc_X4_in_0 G fr P v0 v1 v2 w) : wv_J G p e R s m args below meth c 3 P w 0 [(0, .int v0), (1, .int v1), (2, .int v2)] [] := by
  intro H locs cells slots ls S hl
  unfold vc_X4_in_0 at hv
  refine lv_iload_n X.hx X.hb dX4_in_0 rfl (lv_at hl 0 rfl) ?_
  refine lv_iload_n X.hx X.hb dX4_in_1 rfl (lv_at hl 1 rfl) ?_
  refine lv_icmp_lt (tgt := 14) X.hx X.hb dX4_in_2 (by decide) (fun c2 => ?_) (fun c2 => ?_)
  · have hv := hv.1 c2
    refine lv_iconst (v := (0 : Int32)) X.hx X.hb dX4_in_14 (by decide) ?_
    exact wr_iret X S hv.1 hv.2 dX4_in_15
  · have hv := hv.2 c2
    refine lv_iload_n X.hx X.hb dX4_in_5 rfl (lv_at hl 0 rfl) ?_
    refine lv_iload_n X.hx X.hb dX4_in_6 rfl (lv_at hl 2 rfl) ?_
    refine lv_icmp_gt (tgt := 14) X.hx X.hb dX4_in_7 (by decide) (fun c7 => ?_) (fun c7 => ?_)
    · have hv := hv.1 c7
      refine lv_iconst (v := (0 : Int32)) X.hx X.hb dX4_in_14 (by decide) ?_
      exact wr_iret X S hv.1 hv.2 dX4_in_15
    · have hv := hv.2 c7
      refine lv_iconst (v := (1 : Int32)) X.hx X.hb dX4_in_10 (by decide) ?_
      refine lv_goto (tgt := 15) X.hx X.hb dX4_in_11 (by decide) ?_
      exact wr_iret X S hv.1 hv.2 dX4_in_15
theorem wk_X4_in {G : wv_G} (hG : wv_G0 G) {v0 : Int32} {v1 : Int32} {v2 : Int32} {h : wv_H} {fr kc ks : Nat} {P : wv_R → wv_H → Prop} (hv : vc_X4_in_0 G fr P v0 v1 v2 (h, kc, ks)) : wv_C G yX4_in [.int v0, .int v1, .int v2] h fr kc ks P := by
  refine wv_enter (lv := [(0, .int v0), (1, .int v1), (2, .int v2)]) hG (by decide +kernel) q1877 (by decide) (by simp [lg_sl, wv_rfc, wv_kI, wv_kJ, wv_kF, wv_kD]) (by simp [lv_args, wv_rfc, wv_kI, wv_kJ, wv_kF, wv_kD]) ?_
  intro p e R s m args below meth c X H locs cells slots ls S hl
  exact wk_X4_in_0 X hv H locs cells slots ls S (lv_sub hl [0, 1, 2] rfl)

def vc_X4_init_0 (G : wv_G) (fr : Nat) (P : wv_R → wv_H → Prop) (v0 : Option Nat) (w : wv_W) : Prop :=
  (∃ a, v0 = some a) ∧ 1 ≤ fr ∧ (wv_na G w (36 : Int32) (fun N => wo_q (wv_A G 7) N (fun _ => none)) (fun a7 w7 => wv_pt w7 v0 ciX4 0 (va_rf (some a7)) (fun w10 => wv_na G w10 (6 : Int32) (fun N => wo_i (wv_A G 0) N (fun _ => 0)) (fun a16 w16 => wv_pt w16 v0 ciX4 1 (va_rf (some a16)) (fun w18 => wv_na G w18 (24 : Int32) (fun N => wo_i (wv_A G 0) N (fun _ => 0)) (fun a24 w24 => wv_pt w24 v0 ciX4 2 (va_rf (some a24)) (fun w26 => wv_na G w26 (24 : Int32) (fun N => wo_i (wv_A G 0) N (fun _ => 0)) (fun a32 w32 => wv_pt w32 v0 ciX4 3 (va_rf (some a32)) (fun w34 => wv_na G w34 (12 : Int32) (fun N => wo_i (wv_A G 0) N (fun _ => 0)) (fun a40 w40 => wv_pt w40 v0 ciX4 4 (va_rf (some a40)) (fun w42 => wv_na G w42 (12 : Int32) (fun N => wo_i (wv_A G 0) N (fun _ => 0)) (fun a48 w48 => wv_pt w48 v0 ciX4 5 (va_rf (some a48)) (fun w50 => wv_na G w50 (12 : Int32) (fun N => wo_i (wv_A G 0) N (fun _ => 0)) (fun a56 w56 => wv_pt w56 v0 ciX4 6 (va_rf (some a56)) (fun w58 => wv_na G w58 (12 : Int32) (fun N => wo_i (wv_A G 0) N (fun _ => 0)) (fun a64 w64 => wv_pt w64 v0 ciX4 7 (va_rf (some a64)) (fun w66 => wv_na G w66 (24 : Int32) (fun N => wo_i (wv_A G 1) N (fun _ => 0)) (fun a72 w72 => wv_pt w72 v0 ciX4 8 (va_rf (some a72)) (fun w74 => wv_na G w74 (12 : Int32) (fun N => wo_i (wv_A G 1) N (fun _ => 0)) (fun a80 w80 => wv_pt w80 v0 ciX4 9 (va_rf (some a80)) (fun w82 => wv_na G w82 (12 : Int32) (fun N => wo_i (wv_A G 2) N (fun _ => 0)) (fun a88 w88 => wv_pt w88 v0 ciX4 10 (va_rf (some a88)) (fun w90 => wv_na G w90 (16 : Int32) (fun N => wo_i (wv_A G 2) N (fun _ => 0)) (fun a96 w96 => wv_pt w96 v0 ciX4 11 (va_rf (some a96)) (fun w98 => wv_pt w98 v0 ciX4 12 (.int (0 : Int32)) (fun w103 => wv_pt w103 v0 ciX4 13 (.int (0 : Int32)) (fun w108 => wv_pt w108 v0 ciX4 14 (.int (0 : Int32)) (fun w113 => wv_pt w113 v0 ciX4 15 (.int (0 : Int32)) (fun w118 => wv_no G w118 (wo_o ciX5 [va_rf none, .int 0, .int 0, .int 0, .int 0]) 5 (fun a122 w122 => wv_cI G fr yX5_init (some a122) [] w122 (wv_rV (fun w126 => wv_pt w126 v0 ciX4 16 (va_rf (some a122)) (fun w129 => P (.inl none) w129.1)) (wv_pr P))))))))))))))))))))))))))))))))
set_option maxHeartbeats 4000000 in
theorem wk_X4_init_0 {G : wv_G} {p : Program} {e : Env} {R : Room} {s : State} {m : MethodId} {args : Array Value} {below : List Frame} {meth : Method} {c : Code} {fr : Nat} {P : wv_R → wv_H → Prop} (X : wv_ok G p R s m args meth c fr "WeaversgateModel" cX4_init 1 (Option.none : Option Jvm.ClassFile.FieldType) "<init>" []) {v0 : Option Nat} {w : wv_W} (hv : vc_X4_init_0 G fr P v0 w) : wv_J G p e R s m args below meth c 1 P w 0 [(0, va_rf v0)] [] := by
  intro H locs cells slots ls S hl
  unfold vc_X4_init_0 at hv
  refine wq_aload_n X dX4_init_0 rfl (lv_at hl 0 rfl) ?_
  obtain ⟨⟨_, hr⟩, h1, hv⟩ := hv
  refine wq_objInit X hr q1763 q125 q126 h1 (by simp [wv_rfc, wv_kI, wv_kJ, wv_kF, wv_kD]) hl.1 dX4_init_1 ?_
  refine wq_aload_n X dX4_init_4 rfl (lv_at hl 0 rfl) ?_
  refine lv_bipush (v := (36 : Int32)) X.hx X.hb dX4_init_5 (by decide) ?_
  refine wq_nwq7 X S hv q1764 q1765 dX4_init_7 (fun a7 w7 H cells slots S hv => ?_)
  refine wq_ptF X S hv tyX4 tyX4_ok nmX4 ccX4 in_X4 (k := 0) (by decide) q1800 rfl rfl rfl (wv_fnA (Or.inr ⟨_, rfl⟩)).1 (wv_fnA (Or.inr ⟨_, rfl⟩)).2 dX4_init_10 (fun w10 H locs S hv => ?_)
  refine wq_aload_n X dX4_init_13 rfl (lv_at hl 0 rfl) ?_
  refine lv_bipush (v := (6 : Int32)) X.hx X.hb dX4_init_14 (by decide) ?_
  refine wq_nwi X S hv q188 dX4_init_16 (fun a16 w16 H cells slots S hv => ?_)
  refine wq_ptF X S hv tyX4 tyX4_ok nmX4 ccX4 in_X4 (k := 1) (by decide) q1801 rfl rfl rfl (wv_fnA (Or.inr ⟨_, rfl⟩)).1 (wv_fnA (Or.inr ⟨_, rfl⟩)).2 dX4_init_18 (fun w18 H locs S hv => ?_)
  refine wq_aload_n X dX4_init_21 rfl (lv_at hl 0 rfl) ?_
  refine lv_bipush (v := (24 : Int32)) X.hx X.hb dX4_init_22 (by decide) ?_
  refine wq_nwi X S hv q188 dX4_init_24 (fun a24 w24 H cells slots S hv => ?_)
  refine wq_ptF X S hv tyX4 tyX4_ok nmX4 ccX4 in_X4 (k := 2) (by decide) q1802 rfl rfl rfl (wv_fnA (Or.inr ⟨_, rfl⟩)).1 (wv_fnA (Or.inr ⟨_, rfl⟩)).2 dX4_init_26 (fun w26 H locs S hv => ?_)
  refine wq_aload_n X dX4_init_29 rfl (lv_at hl 0 rfl) ?_
  refine lv_bipush (v := (24 : Int32)) X.hx X.hb dX4_init_30 (by decide) ?_
  refine wq_nwi X S hv q188 dX4_init_32 (fun a32 w32 H cells slots S hv => ?_)
  refine wq_ptF X S hv tyX4 tyX4_ok nmX4 ccX4 in_X4 (k := 3) (by decide) q1804 rfl rfl rfl (wv_fnA (Or.inr ⟨_, rfl⟩)).1 (wv_fnA (Or.inr ⟨_, rfl⟩)).2 dX4_init_34 (fun w34 H locs S hv => ?_)
  refine wq_aload_n X dX4_init_37 rfl (lv_at hl 0 rfl) ?_
  refine lv_bipush (v := (12 : Int32)) X.hx X.hb dX4_init_38 (by decide) ?_
  refine wq_nwi X S hv q188 dX4_init_40 (fun a40 w40 H cells slots S hv => ?_)
  refine wq_ptF X S hv tyX4 tyX4_ok nmX4 ccX4 in_X4 (k := 4) (by decide) q1806 rfl rfl rfl (wv_fnA (Or.inr ⟨_, rfl⟩)).1 (wv_fnA (Or.inr ⟨_, rfl⟩)).2 dX4_init_42 (fun w42 H locs S hv => ?_)
  refine wq_aload_n X dX4_init_45 rfl (lv_at hl 0 rfl) ?_
  refine lv_bipush (v := (12 : Int32)) X.hx X.hb dX4_init_46 (by decide) ?_
  refine wq_nwi X S hv q188 dX4_init_48 (fun a48 w48 H cells slots S hv => ?_)
  refine wq_ptF X S hv tyX4 tyX4_ok nmX4 ccX4 in_X4 (k := 5) (by decide) q1808 rfl rfl rfl (wv_fnA (Or.inr ⟨_, rfl⟩)).1 (wv_fnA (Or.inr ⟨_, rfl⟩)).2 dX4_init_50 (fun w50 H locs S hv => ?_)
  refine wq_aload_n X dX4_init_53 rfl (lv_at hl 0 rfl) ?_
  refine lv_bipush (v := (12 : Int32)) X.hx X.hb dX4_init_54 (by decide) ?_
  refine wq_nwi X S hv q188 dX4_init_56 (fun a56 w56 H cells slots S hv => ?_)
  refine wq_ptF X S hv tyX4 tyX4_ok nmX4 ccX4 in_X4 (k := 6) (by decide) q1810 rfl rfl rfl (wv_fnA (Or.inr ⟨_, rfl⟩)).1 (wv_fnA (Or.inr ⟨_, rfl⟩)).2 dX4_init_58 (fun w58 H locs S hv => ?_)
  refine wq_aload_n X dX4_init_61 rfl (lv_at hl 0 rfl) ?_
  refine lv_bipush (v := (12 : Int32)) X.hx X.hb dX4_init_62 (by decide) ?_
  refine wq_nwi X S hv q188 dX4_init_64 (fun a64 w64 H cells slots S hv => ?_)
  refine wq_ptF X S hv tyX4 tyX4_ok nmX4 ccX4 in_X4 (k := 7) (by decide) q1812 rfl rfl rfl (wv_fnA (Or.inr ⟨_, rfl⟩)).1 (wv_fnA (Or.inr ⟨_, rfl⟩)).2 dX4_init_66 (fun w66 H locs S hv => ?_)
  refine wq_aload_n X dX4_init_69 rfl (lv_at hl 0 rfl) ?_
  refine lv_bipush (v := (24 : Int32)) X.hx X.hb dX4_init_70 (by decide) ?_
  refine wq_nwc X S hv q187 dX4_init_72 (fun a72 w72 H cells slots S hv => ?_)
  refine wq_ptF X S hv tyX4 tyX4_ok nmX4 ccX4 in_X4 (k := 8) (by decide) q1814 rfl rfl rfl (wv_fnA (Or.inr ⟨_, rfl⟩)).1 (wv_fnA (Or.inr ⟨_, rfl⟩)).2 dX4_init_74 (fun w74 H locs S hv => ?_)
  refine wq_aload_n X dX4_init_77 rfl (lv_at hl 0 rfl) ?_
  refine lv_bipush (v := (12 : Int32)) X.hx X.hb dX4_init_78 (by decide) ?_
  refine wq_nwc X S hv q187 dX4_init_80 (fun a80 w80 H cells slots S hv => ?_)
  refine wq_ptF X S hv tyX4 tyX4_ok nmX4 ccX4 in_X4 (k := 9) (by decide) q1816 rfl rfl rfl (wv_fnA (Or.inr ⟨_, rfl⟩)).1 (wv_fnA (Or.inr ⟨_, rfl⟩)).2 dX4_init_82 (fun w82 H locs S hv => ?_)
  refine wq_aload_n X dX4_init_85 rfl (lv_at hl 0 rfl) ?_
  refine lv_bipush (v := (12 : Int32)) X.hx X.hb dX4_init_86 (by decide) ?_
  refine wq_nwz X S hv q186 dX4_init_88 (fun a88 w88 H cells slots S hv => ?_)
  refine wq_ptF X S hv tyX4 tyX4_ok nmX4 ccX4 in_X4 (k := 10) (by decide) q1818 rfl rfl rfl (wv_fnA (Or.inr ⟨_, rfl⟩)).1 (wv_fnA (Or.inr ⟨_, rfl⟩)).2 dX4_init_90 (fun w90 H locs S hv => ?_)
  refine wq_aload_n X dX4_init_93 rfl (lv_at hl 0 rfl) ?_
  refine lv_bipush (v := (16 : Int32)) X.hx X.hb dX4_init_94 (by decide) ?_
  refine wq_nwz X S hv q186 dX4_init_96 (fun a96 w96 H cells slots S hv => ?_)
  refine wq_ptF X S hv tyX4 tyX4_ok nmX4 ccX4 in_X4 (k := 11) (by decide) q1820 rfl rfl rfl (wv_fnA (Or.inr ⟨_, rfl⟩)).1 (wv_fnA (Or.inr ⟨_, rfl⟩)).2 dX4_init_98 (fun w98 H locs S hv => ?_)
  refine wq_aload_n X dX4_init_101 rfl (lv_at hl 0 rfl) ?_
  refine lv_iconst (v := (0 : Int32)) X.hx X.hb dX4_init_102 (by decide) ?_
  refine wq_pt X S hv tyX4 tyX4_ok nmX4 ccX4 in_X4 (k := 12) (by decide) q1821 rfl rfl rfl rfl dX4_init_103 (fun w103 H locs S hv => ?_)
  refine wq_aload_n X dX4_init_106 rfl (lv_at hl 0 rfl) ?_
  refine lv_iconst (v := (0 : Int32)) X.hx X.hb dX4_init_107 (by decide) ?_
  refine wq_pt X S hv tyX4 tyX4_ok nmX4 ccX4 in_X4 (k := 13) (by decide) q1822 rfl rfl rfl rfl dX4_init_108 (fun w108 H locs S hv => ?_)
  refine wq_aload_n X dX4_init_111 rfl (lv_at hl 0 rfl) ?_
  refine lv_iconst (v := (0 : Int32)) X.hx X.hb dX4_init_112 (by decide) ?_
  refine wq_pt X S hv tyX4 tyX4_ok nmX4 ccX4 in_X4 (k := 14) (by decide) q1823 rfl rfl rfl rfl dX4_init_113 (fun w113 H locs S hv => ?_)
  refine wq_aload_n X dX4_init_116 rfl (lv_at hl 0 rfl) ?_
  refine lv_iconst (v := (0 : Int32)) X.hx X.hb dX4_init_117 (by decide) ?_
  refine wq_pt X S hv tyX4 tyX4_ok nmX4 ccX4 in_X4 (k := 15) (by decide) q1825 rfl rfl rfl rfl dX4_init_118 (fun w118 H locs S hv => ?_)
  refine wq_aload_n X dX4_init_121 rfl (lv_at hl 0 rfl) ?_
  refine wq_new X S hv tyX5 tyX5_ok ccX5 in_X5 q1766 q1767 q67 (fun j hj => by have hj : j < 5 := hj; rcases (show j = 0 ∨ j = 1 ∨ j = 2 ∨ j = 3 ∨ j = 4 by omega) with rfl | rfl | rfl | rfl | rfl <;> rfl) dX4_init_122 (fun a122 w122 H cells slots S hv => ?_)
  refine lv_dup X.hx X.hb dX4_init_125 (wv_rfc _) ?_
  refine wq_cIN_V X S hv rfl q1768 q1769 q1770 q67 ⟨by decide +kernel, by decide +kernel⟩ (nA := 0) (As := []) (by decide +kernel) rfl rfl (by simp [wv_rfc, wv_kI, wv_kJ, wv_kF, wv_kD]) hl.1 dX4_init_126 (fun w126 H locs cells slots S hv => ?_) (wq_kx X rfl)
  refine wq_pt X S hv tyX4 tyX4_ok nmX4 ccX4 in_X4 (k := 16) (by decide) q1827 rfl rfl (wv_fnA (Or.inl ⟨_, rfl⟩)).1 (wv_fnA (Or.inl ⟨_, rfl⟩)).2 dX4_init_129 (fun w129 H locs S hv => ?_)
  exact wr_vret X S hv dX4_init_132
theorem wk_X4_init {G : wv_G} (hG : wv_G0 G) {v0 : Option Nat} {h : wv_H} {fr kc ks : Nat} {P : wv_R → wv_H → Prop} (hv : vc_X4_init_0 G fr P v0 (h, kc, ks)) : wv_C G yX4_init [va_rf v0] h fr kc ks P := by
  refine wv_enter (lv := [(0, va_rf v0)]) hG (by decide +kernel) q1762 (by decide) (by simp [lg_sl, wv_rfc, wv_kI, wv_kJ, wv_kF, wv_kD]) (by simp [lv_args, wv_rfc, wv_kI, wv_kJ, wv_kF, wv_kD]) ?_
  intro p e R s m args below meth c X H locs cells slots ls S hl
  exact wk_X4_init_0 X hv H locs cells slots ls S (lv_sub hl [0] rfl)

def vc_X4_isAdvice_0 (G : wv_G) (fr : Nat) (P : wv_R → wv_H → Prop) (v0 : Option Nat) (v1 : Int32) (w : wv_W) : Prop :=
  wv_gI w v0 ciX4 15 (fun x3 => wv_c0 G fr yX4_in [.int v1, .int (0 : Int32), .int (x3 - (1 : Int32))] w (wv_rI (fun x8 w8 => narrow .boolean (.int x8) = .int x8 ∧ P (.inl (some (.int x8))) w8.1) (wv_pr P)))
set_option maxHeartbeats 4000000 in
theorem wk_X4_isAdvice_0 {G : wv_G} {p : Program} {e : Env} {R : Room} {s : State} {m : MethodId} {args : Array Value} {below : List Frame} {meth : Method} {c : Code} {fr : Nat} {P : wv_R → wv_H → Prop} (X : wv_ok G p R s m args meth c fr "WeaversgateModel" cX4_isAdvice 2 (Option.some Jvm.ClassFile.FieldType.boolean) "isAdvice" []) {v0 : Option Nat} {v1 : Int32} {w : wv_W} (hv : vc_X4_isAdvice_0 G fr P v0 v1 w) : wv_J G p e R s m args below meth c 2 P w 0 [(0, va_rf v0), (1, .int v1)] [] := by
  intro H locs cells slots ls S hl
  unfold vc_X4_isAdvice_0 at hv
  refine lv_iload_n X.hx X.hb dX4_isAdvice_0 rfl (lv_at hl 1 rfl) ?_
  refine lv_iconst (v := (0 : Int32)) X.hx X.hb dX4_isAdvice_1 (by decide) ?_
  refine wq_aload_n X dX4_isAdvice_2 rfl (lv_at hl 0 rfl) ?_
  refine wq_gI X S hv ccX4 in_X4 (k := 15) (by decide) q1825 dX4_isAdvice_3 (fun x3 hv => ?_)
  refine lv_iconst (v := (1 : Int32)) X.hx X.hb dX4_isAdvice_6 (by decide) ?_
  refine lv_isub X.hx X.hb dX4_isAdvice_7 ?_
  refine wq_cS_I X S hv q1875 q1876 q66 ⟨by decide +kernel, by decide +kernel⟩ (nA := 3) (As := [.int v1, .int (0 : Int32), .int (x3 - (1 : Int32))]) (by decide +kernel) rfl rfl (by simp [wv_rfc, wv_kI, wv_kJ, wv_kF, wv_kD]) hl.1 dX4_isAdvice_8 (fun x8 w8 H locs cells slots S hv => ?_) (wq_kx X rfl)
  exact wr_iret X S hv.1 hv.2 dX4_isAdvice_11
theorem wk_X4_isAdvice {G : wv_G} (hG : wv_G0 G) {v0 : Option Nat} {v1 : Int32} {h : wv_H} {fr kc ks : Nat} {P : wv_R → wv_H → Prop} (hv : vc_X4_isAdvice_0 G fr P v0 v1 (h, kc, ks)) : wv_C G yX4_isAdvice [va_rf v0, .int v1] h fr kc ks P := by
  refine wv_enter (lv := [(0, va_rf v0), (1, .int v1)]) hG (by decide +kernel) q1974 (by decide) (by simp [lg_sl, wv_rfc, wv_kI, wv_kJ, wv_kF, wv_kD]) (by simp [lv_args, wv_rfc, wv_kI, wv_kJ, wv_kF, wv_kD]) ?_
  intro p e R s m args below meth c X H locs cells slots ls S hl
  exact wk_X4_isAdvice_0 X hv H locs cells slots ls S (lv_sub hl [0, 1] rfl)

def vc_X4_isAspect_0 (G : wv_G) (fr : Nat) (P : wv_R → wv_H → Prop) (v0 : Int32) (w : wv_W) : Prop :=
  wv_c0 G fr yX4_in [.int v0, .int (0 : Int32), .int (3 : Int32)] w (wv_rI (fun x3 w3 => narrow .boolean (.int x3) = .int x3 ∧ P (.inl (some (.int x3))) w3.1) (wv_pr P))
set_option maxHeartbeats 4000000 in
theorem wk_X4_isAspect_0 {G : wv_G} {p : Program} {e : Env} {R : Room} {s : State} {m : MethodId} {args : Array Value} {below : List Frame} {meth : Method} {c : Code} {fr : Nat} {P : wv_R → wv_H → Prop} (X : wv_ok G p R s m args meth c fr "WeaversgateModel" cX4_isAspect 1 (Option.some Jvm.ClassFile.FieldType.boolean) "isAspect" []) {v0 : Int32} {w : wv_W} (hv : vc_X4_isAspect_0 G fr P v0 w) : wv_J G p e R s m args below meth c 1 P w 0 [(0, .int v0)] [] := by
  intro H locs cells slots ls S hl
  unfold vc_X4_isAspect_0 at hv
  refine lv_iload_n X.hx X.hb dX4_isAspect_0 rfl (lv_at hl 0 rfl) ?_
  refine lv_iconst (v := (0 : Int32)) X.hx X.hb dX4_isAspect_1 (by decide) ?_
  refine lv_iconst (v := (3 : Int32)) X.hx X.hb dX4_isAspect_2 (by decide) ?_
  refine wq_cS_I X S hv q1875 q1876 q66 ⟨by decide +kernel, by decide +kernel⟩ (nA := 3) (As := [.int v0, .int (0 : Int32), .int (3 : Int32)]) (by decide +kernel) rfl rfl (by simp [wv_rfc, wv_kI, wv_kJ, wv_kF, wv_kD]) hl.1 dX4_isAspect_3 (fun x3 w3 H locs cells slots S hv => ?_) (wq_kx X rfl)
  exact wr_iret X S hv.1 hv.2 dX4_isAspect_6
theorem wk_X4_isAspect {G : wv_G} (hG : wv_G0 G) {v0 : Int32} {h : wv_H} {fr kc ks : Nat} {P : wv_R → wv_H → Prop} (hv : vc_X4_isAspect_0 G fr P v0 (h, kc, ks)) : wv_C G yX4_isAspect [.int v0] h fr kc ks P := by
  refine wv_enter (lv := [(0, .int v0)]) hG (by decide +kernel) q1965 (by decide) (by simp [lg_sl, wv_rfc, wv_kI, wv_kJ, wv_kF, wv_kD]) (by simp [lv_args, wv_rfc, wv_kI, wv_kJ, wv_kF, wv_kD]) ?_
  intro p e R s m args below meth c X H locs cells slots ls S hl
  exact wk_X4_isAspect_0 X hv H locs cells slots ls S (lv_sub hl [0] rfl)

def vc_X4_isBelow_22 (G : wv_G) (fr : Nat) (P : wv_R → wv_H → Prop) (v2 : Int32) (v3 : Int32) (w : wv_W) : Prop :=
  (¬ v3 = v2 → narrow .boolean (.int (0 : Int32)) = .int (0 : Int32) ∧ P (.inl (some (.int (0 : Int32)))) w.1) ∧ (v3 = v2 → narrow .boolean (.int (1 : Int32)) = .int (1 : Int32) ∧ P (.inl (some (.int (1 : Int32)))) w.1)
def vc_X4_isBelow_2 (G : wv_G) (fr : Nat) (P : wv_R → wv_H → Prop) (K2 : ((Option Nat) × Int32 × Int32) → wv_W → Prop) (v0 : Option Nat) (v2 : Int32) (v3 : Int32) (w : wv_W) : Prop :=
  (v3 = (-1 : Int32) → vc_X4_isBelow_22 G fr P v2 v3 w) ∧ (¬ v3 = (-1 : Int32) → (v3 = v2 → vc_X4_isBelow_22 G fr P v2 v3 w) ∧ (¬ v3 = v2 → wv_gA w v0 ciX4 1 (fun x13 => wv_li G 0 w x13 v3 (fun x17 => K2 (v0, v2, x17) w))))
def vc_X4_isBelow_0 (G : wv_G) (fr : Nat) (P : wv_R → wv_H → Prop) (v0 : Option Nat) (v1 : Int32) (v2 : Int32) (w : wv_W) : Prop :=
  wv_L (fun K2 a w => vc_X4_isBelow_2 G fr P K2 a.1 a.2.1 a.2.2 w) (v0, v2, v1) w
set_option maxHeartbeats 4000000 in
theorem wk_X4_isBelow_22 {G : wv_G} {p : Program} {e : Env} {R : Room} {s : State} {m : MethodId} {args : Array Value} {below : List Frame} {meth : Method} {c : Code} {fr : Nat} {P : wv_R → wv_H → Prop} (X : wv_ok G p R s m args meth c fr "WeaversgateModel" cX4_isBelow 4 (Option.some Jvm.ClassFile.FieldType.boolean) "isBelow" []) {v2 : Int32} {v3 : Int32} {w : wv_W} (hv : vc_X4_isBelow_22 G fr P v2 v3 w) : wv_J G p e R s m args below meth c 4 P w 22 [(2, .int v2), (3, .int v3)] [] := by
  intro H locs cells slots ls S hl
  unfold vc_X4_isBelow_22 at hv
  refine lv_iload_n X.hx X.hb dX4_isBelow_22 rfl (lv_at hl 1 rfl) ?_
  refine lv_iload_n X.hx X.hb dX4_isBelow_23 rfl (lv_at hl 0 rfl) ?_
  refine lv_icmp_ne (tgt := 31) X.hx X.hb dX4_isBelow_24 (by decide) (fun c24 => ?_) (fun c24 => ?_)
  · have hv := hv.1 c24
    refine lv_iconst (v := (0 : Int32)) X.hx X.hb dX4_isBelow_31 (by decide) ?_
    exact wr_iret X S hv.1 hv.2 dX4_isBelow_32
  · have hv := hv.2 c24
    refine lv_iconst (v := (1 : Int32)) X.hx X.hb dX4_isBelow_27 (by decide) ?_
    refine lv_goto (tgt := 32) X.hx X.hb dX4_isBelow_28 (by decide) ?_
    exact wr_iret X S hv.1 hv.2 dX4_isBelow_32
set_option maxHeartbeats 4000000 in
theorem wk_X4_isBelow_2 {G : wv_G} {p : Program} {e : Env} {R : Room} {s : State} {m : MethodId} {args : Array Value} {below : List Frame} {meth : Method} {c : Code} {fr : Nat} {P : wv_R → wv_H → Prop} (X : wv_ok G p R s m args meth c fr "WeaversgateModel" cX4_isBelow 4 (Option.some Jvm.ClassFile.FieldType.boolean) "isBelow" []) {K2 : ((Option Nat) × Int32 × Int32) → wv_W → Prop} (hK2 : ∀ a w, K2 a w → wv_J G p e R s m args below meth c 4 P w 2 [(0, va_rf a.1), (2, .int a.2.1), (3, .int a.2.2)] []) {v0 : Option Nat} {v2 : Int32} {v3 : Int32} {w : wv_W} (hv : vc_X4_isBelow_2 G fr P K2 v0 v2 v3 w) : wv_J G p e R s m args below meth c 4 P w 2 [(0, va_rf v0), (2, .int v2), (3, .int v3)] [] := by
  intro H locs cells slots ls S hl
  unfold vc_X4_isBelow_2 at hv
  refine lv_iload_n X.hx X.hb dX4_isBelow_2 rfl (lv_at hl 2 rfl) ?_
  refine lv_iconst (v := (-1 : Int32)) X.hx X.hb dX4_isBelow_3 (by decide) ?_
  refine lv_icmp_eq (tgt := 22) X.hx X.hb dX4_isBelow_4 (by decide) (fun c4 => ?_) (fun c4 => ?_)
  · have hv := hv.1 c4
    exact wk_X4_isBelow_22 X  hv H locs cells slots ls S (lv_sub hl [1, 2] rfl)
  · have hv := hv.2 c4
    refine lv_iload_n X.hx X.hb dX4_isBelow_7 rfl (lv_at hl 2 rfl) ?_
    refine lv_iload_n X.hx X.hb dX4_isBelow_8 rfl (lv_at hl 1 rfl) ?_
    refine lv_icmp_eq (tgt := 22) X.hx X.hb dX4_isBelow_9 (by decide) (fun c9 => ?_) (fun c9 => ?_)
    · have hv := hv.1 c9
      exact wk_X4_isBelow_22 X  hv H locs cells slots ls S (lv_sub hl [1, 2] rfl)
    · have hv := hv.2 c9
      refine wq_aload_n X dX4_isBelow_12 rfl (lv_at hl 0 rfl) ?_
      refine wq_gA X S hv ccX4 in_X4 (k := 1) (by decide) q1801 dX4_isBelow_13 (fun x13 hv => ?_)
      refine lv_iload_n X.hx X.hb dX4_isBelow_16 rfl (lv_at hl 2 rfl) ?_
      refine wq_li0 X S hv dX4_isBelow_17 (fun x17 hv => ?_)
      refine lv_istore_n X.hx X.hb (i := 3) (lv' := [(3, .int x17), (0, va_rf v0), (2, .int v2)]) dX4_isBelow_18 rfl hl (by decide) (by simp [wv_rfc, wv_kI, wv_kJ, wv_kF, wv_kD]) (fun ls hl => ?_)
      refine lv_goto (tgt := 2) X.hx X.hb dX4_isBelow_19 (by decide) ?_
      exact hK2 _ _ hv H locs cells slots ls S (lv_sub hl [1, 2, 0] rfl)
set_option maxHeartbeats 4000000 in
theorem wk_X4_isBelow_0 {G : wv_G} {p : Program} {e : Env} {R : Room} {s : State} {m : MethodId} {args : Array Value} {below : List Frame} {meth : Method} {c : Code} {fr : Nat} {P : wv_R → wv_H → Prop} (X : wv_ok G p R s m args meth c fr "WeaversgateModel" cX4_isBelow 4 (Option.some Jvm.ClassFile.FieldType.boolean) "isBelow" []) {v0 : Option Nat} {v1 : Int32} {v2 : Int32} {w : wv_W} (hv : vc_X4_isBelow_0 G fr P v0 v1 v2 w) : wv_J G p e R s m args below meth c 4 P w 0 [(0, va_rf v0), (1, .int v1), (2, .int v2)] [] := by
  intro H locs cells slots ls S hl
  unfold vc_X4_isBelow_0 at hv
  refine lv_iload_n X.hx X.hb dX4_isBelow_0 rfl (lv_at hl 1 rfl) ?_
  refine lv_istore_n X.hx X.hb (i := 3) (lv' := [(3, .int v1), (0, va_rf v0), (1, .int v1), (2, .int v2)]) dX4_isBelow_1 rfl hl (by decide) (by simp [wv_rfc, wv_kI, wv_kJ, wv_kF, wv_kD]) (fun ls hl => ?_)
  exact wv_loop (A := (Option Nat) × Int32 × Int32) (fun a w => wv_J G p e R s m args below meth c 4 P w 2 [(0, va_rf a.1), (2, .int a.2.1), (3, .int a.2.2)] []) (fun K2 hK2 a w hv => wk_X4_isBelow_2 X hK2 hv) hv H locs cells slots ls S (lv_sub hl [1, 3, 0] rfl)
theorem wk_X4_isBelow {G : wv_G} (hG : wv_G0 G) {v0 : Option Nat} {v1 : Int32} {v2 : Int32} {h : wv_H} {fr kc ks : Nat} {P : wv_R → wv_H → Prop} (hv : vc_X4_isBelow_0 G fr P v0 v1 v2 (h, kc, ks)) : wv_C G yX4_isBelow [va_rf v0, .int v1, .int v2] h fr kc ks P := by
  refine wv_enter (lv := [(0, va_rf v0), (1, .int v1), (2, .int v2)]) hG (by decide +kernel) q2159 (by decide) (by simp [lg_sl, wv_rfc, wv_kI, wv_kJ, wv_kF, wv_kD]) (by simp [lv_args, wv_rfc, wv_kI, wv_kJ, wv_kF, wv_kD]) ?_
  intro p e R s m args below meth c X H locs cells slots ls S hl
  exact wk_X4_isBelow_0 X hv H locs cells slots ls S (lv_sub hl [0, 1, 2] rfl)

def vc_X4_isClass_0 (G : wv_G) (fr : Nat) (P : wv_R → wv_H → Prop) (v0 : Option Nat) (v1 : Int32) (w : wv_W) : Prop :=
  wv_gI w v0 ciX4 13 (fun x3 => wv_c0 G fr yX4_in [.int v1, .int (0 : Int32), .int (x3 - (1 : Int32))] w (wv_rI (fun x8 w8 => narrow .boolean (.int x8) = .int x8 ∧ P (.inl (some (.int x8))) w8.1) (wv_pr P)))
set_option maxHeartbeats 4000000 in
theorem wk_X4_isClass_0 {G : wv_G} {p : Program} {e : Env} {R : Room} {s : State} {m : MethodId} {args : Array Value} {below : List Frame} {meth : Method} {c : Code} {fr : Nat} {P : wv_R → wv_H → Prop} (X : wv_ok G p R s m args meth c fr "WeaversgateModel" cX4_isClass 2 (Option.some Jvm.ClassFile.FieldType.boolean) "isClass" []) {v0 : Option Nat} {v1 : Int32} {w : wv_W} (hv : vc_X4_isClass_0 G fr P v0 v1 w) : wv_J G p e R s m args below meth c 2 P w 0 [(0, va_rf v0), (1, .int v1)] [] := by
  intro H locs cells slots ls S hl
  unfold vc_X4_isClass_0 at hv
  refine lv_iload_n X.hx X.hb dX4_isClass_0 rfl (lv_at hl 1 rfl) ?_
  refine lv_iconst (v := (0 : Int32)) X.hx X.hb dX4_isClass_1 (by decide) ?_
  refine wq_aload_n X dX4_isClass_2 rfl (lv_at hl 0 rfl) ?_
  refine wq_gI X S hv ccX4 in_X4 (k := 13) (by decide) q1822 dX4_isClass_3 (fun x3 hv => ?_)
  refine lv_iconst (v := (1 : Int32)) X.hx X.hb dX4_isClass_6 (by decide) ?_
  refine lv_isub X.hx X.hb dX4_isClass_7 ?_
  refine wq_cS_I X S hv q1875 q1876 q66 ⟨by decide +kernel, by decide +kernel⟩ (nA := 3) (As := [.int v1, .int (0 : Int32), .int (x3 - (1 : Int32))]) (by decide +kernel) rfl rfl (by simp [wv_rfc, wv_kI, wv_kJ, wv_kF, wv_kD]) hl.1 dX4_isClass_8 (fun x8 w8 H locs cells slots S hv => ?_) (wq_kx X rfl)
  exact wr_iret X S hv.1 hv.2 dX4_isClass_11
theorem wk_X4_isClass {G : wv_G} (hG : wv_G0 G) {v0 : Option Nat} {v1 : Int32} {h : wv_H} {fr kc ks : Nat} {P : wv_R → wv_H → Prop} (hv : vc_X4_isClass_0 G fr P v0 v1 (h, kc, ks)) : wv_C G yX4_isClass [va_rf v0, .int v1] h fr kc ks P := by
  refine wv_enter (lv := [(0, va_rf v0), (1, .int v1)]) hG (by decide +kernel) q1874 (by decide) (by simp [lg_sl, wv_rfc, wv_kI, wv_kJ, wv_kF, wv_kD]) (by simp [lv_args, wv_rfc, wv_kI, wv_kJ, wv_kF, wv_kD]) ?_
  intro p e R s m args below meth c X H locs cells slots ls S hl
  exact wk_X4_isClass_0 X hv H locs cells slots ls S (lv_sub hl [0, 1] rfl)

def vc_X4_isMethod_0 (G : wv_G) (fr : Nat) (P : wv_R → wv_H → Prop) (v0 : Int32) (w : wv_W) : Prop :=
  wv_c0 G fr yX4_in [.int v0, .int (0 : Int32), .int (5 : Int32)] w (wv_rI (fun x3 w3 => narrow .boolean (.int x3) = .int x3 ∧ P (.inl (some (.int x3))) w3.1) (wv_pr P))
set_option maxHeartbeats 4000000 in
theorem wk_X4_isMethod_0 {G : wv_G} {p : Program} {e : Env} {R : Room} {s : State} {m : MethodId} {args : Array Value} {below : List Frame} {meth : Method} {c : Code} {fr : Nat} {P : wv_R → wv_H → Prop} (X : wv_ok G p R s m args meth c fr "WeaversgateModel" cX4_isMethod 1 (Option.some Jvm.ClassFile.FieldType.boolean) "isMethod" []) {v0 : Int32} {w : wv_W} (hv : vc_X4_isMethod_0 G fr P v0 w) : wv_J G p e R s m args below meth c 1 P w 0 [(0, .int v0)] [] := by
  intro H locs cells slots ls S hl
  unfold vc_X4_isMethod_0 at hv
  refine lv_iload_n X.hx X.hb dX4_isMethod_0 rfl (lv_at hl 0 rfl) ?_
  refine lv_iconst (v := (0 : Int32)) X.hx X.hb dX4_isMethod_1 (by decide) ?_
  refine lv_iconst (v := (5 : Int32)) X.hx X.hb dX4_isMethod_2 (by decide) ?_
  refine wq_cS_I X S hv q1875 q1876 q66 ⟨by decide +kernel, by decide +kernel⟩ (nA := 3) (As := [.int v0, .int (0 : Int32), .int (5 : Int32)]) (by decide +kernel) rfl rfl (by simp [wv_rfc, wv_kI, wv_kJ, wv_kF, wv_kD]) hl.1 dX4_isMethod_3 (fun x3 w3 H locs cells slots S hv => ?_) (wq_kx X rfl)
  exact wr_iret X S hv.1 hv.2 dX4_isMethod_6
theorem wk_X4_isMethod {G : wv_G} (hG : wv_G0 G) {v0 : Int32} {h : wv_H} {fr kc ks : Nat} {P : wv_R → wv_H → Prop} (hv : vc_X4_isMethod_0 G fr P v0 (h, kc, ks)) : wv_C G yX4_isMethod [.int v0] h fr kc ks P := by
  refine wv_enter (lv := [(0, .int v0)]) hG (by decide +kernel) q1884 (by decide) (by simp [lg_sl, wv_rfc, wv_kI, wv_kJ, wv_kF, wv_kD]) (by simp [lv_args, wv_rfc, wv_kI, wv_kJ, wv_kF, wv_kD]) ?_
  intro p e R s m args below meth c X H locs cells slots ls S hl
  exact wk_X4_isMethod_0 X hv H locs cells slots ls S (lv_sub hl [0] rfl)

def vc_X4_isNext_46 (G : wv_G) (fr : Nat) (P : wv_R → wv_H → Prop) (K15 : ((Option Nat) × Int32 × (Option Nat) × Int32) → wv_W → Prop) (v0 : Option Nat) (v1 : Int32) (v2 : Option Nat) (v3 : Int32) (w : wv_W) : Prop :=
  K15 (v0, v1, v2, (v3 + (1 : Int32))) w
def vc_X4_isNext_15 (G : wv_G) (fr : Nat) (P : wv_R → wv_H → Prop) (K15 : ((Option Nat) × Int32 × (Option Nat) × Int32) → wv_W → Prop) (v0 : Option Nat) (v1 : Int32) (v2 : Option Nat) (v3 : Int32) (w : wv_W) : Prop :=
  ((4 : Int32) ≤ v3 → narrow .boolean (.int (1 : Int32)) = .int (1 : Int32) ∧ P (.inl (some (.int (1 : Int32)))) w.1) ∧ (¬ (4 : Int32) ≤ v3 → wv_gA w v0 ciX4 11 (fun x21 => wv_li G 2 w x21 (((4 : Int32) * v3) + v1) (fun x29 => (x29 = 0 → vc_X4_isNext_46 G fr P K15 v0 v1 v2 v3 w) ∧ (¬ x29 = 0 → wv_c0 G fr yJ20_valueOf [.int v3] w (wv_rA (fun x35 w35 => wv_cV G fr yJ2_contains v2 [va_rf x35] w35 (wv_rI (fun x38 w38 => (¬ x38 = 0 → vc_X4_isNext_46 G fr P K15 v0 v1 v2 v3 w38) ∧ (x38 = 0 → narrow .boolean (.int (0 : Int32)) = .int (0 : Int32) ∧ P (.inl (some (.int (0 : Int32)))) w38.1)) (wv_pr P))) (wv_pr P))))))
def vc_X4_isNext_0 (G : wv_G) (fr : Nat) (P : wv_R → wv_H → Prop) (v0 : Option Nat) (v1 : Int32) (v2 : Option Nat) (w : wv_W) : Prop :=
  wv_c0 G fr yJ20_valueOf [.int v1] w (wv_rA (fun x2 w2 => wv_cV G fr yJ2_contains v2 [va_rf x2] w2 (wv_rI (fun x5 w5 => (x5 = 0 → wv_L (fun K15 a w => vc_X4_isNext_15 G fr P K15 a.1 a.2.1 a.2.2.1 a.2.2.2 w) (v0, v1, v2, (0 : Int32)) w5) ∧ (¬ x5 = 0 → narrow .boolean (.int (0 : Int32)) = .int (0 : Int32) ∧ P (.inl (some (.int (0 : Int32)))) w5.1)) (wv_pr P))) (wv_pr P))
set_option maxHeartbeats 4000000 in
theorem wk_X4_isNext_46 {G : wv_G} {p : Program} {e : Env} {R : Room} {s : State} {m : MethodId} {args : Array Value} {below : List Frame} {meth : Method} {c : Code} {fr : Nat} {P : wv_R → wv_H → Prop} (X : wv_ok G p R s m args meth c fr "WeaversgateModel" cX4_isNext 4 (Option.some Jvm.ClassFile.FieldType.boolean) "isNext" []) {K15 : ((Option Nat) × Int32 × (Option Nat) × Int32) → wv_W → Prop} (hK15 : ∀ a w, K15 a w → wv_J G p e R s m args below meth c 4 P w 15 [(0, va_rf a.1), (1, .int a.2.1), (2, va_rf a.2.2.1), (3, .int a.2.2.2)] []) {v0 : Option Nat} {v1 : Int32} {v2 : Option Nat} {v3 : Int32} {w : wv_W} (hv : vc_X4_isNext_46 G fr P K15 v0 v1 v2 v3 w) : wv_J G p e R s m args below meth c 4 P w 46 [(0, va_rf v0), (1, .int v1), (2, va_rf v2), (3, .int v3)] [] := by
  intro H locs cells slots ls S hl
  unfold vc_X4_isNext_46 at hv
  refine lv_iinc (v := (v3 + (1 : Int32))) (lv' := [(3, .int (v3 + (1 : Int32))), (0, va_rf v0), (1, .int v1), (2, va_rf v2)]) X.hx X.hb dX4_isNext_46 hl (k := 3) rfl (by rfl) (by decide) (by simp [wv_rfc, wv_kI, wv_kJ, wv_kF, wv_kD]) (fun ls hl => ?_)
  refine lv_goto (tgt := 15) X.hx X.hb dX4_isNext_49 (by decide) ?_
  exact hK15 _ _ hv H locs cells slots ls S (lv_sub hl [1, 2, 3, 0] rfl)
set_option maxHeartbeats 4000000 in
theorem wk_X4_isNext_15 {G : wv_G} {p : Program} {e : Env} {R : Room} {s : State} {m : MethodId} {args : Array Value} {below : List Frame} {meth : Method} {c : Code} {fr : Nat} {P : wv_R → wv_H → Prop} (X : wv_ok G p R s m args meth c fr "WeaversgateModel" cX4_isNext 4 (Option.some Jvm.ClassFile.FieldType.boolean) "isNext" []) {K15 : ((Option Nat) × Int32 × (Option Nat) × Int32) → wv_W → Prop} (hK15 : ∀ a w, K15 a w → wv_J G p e R s m args below meth c 4 P w 15 [(0, va_rf a.1), (1, .int a.2.1), (2, va_rf a.2.2.1), (3, .int a.2.2.2)] []) {v0 : Option Nat} {v1 : Int32} {v2 : Option Nat} {v3 : Int32} {w : wv_W} (hv : vc_X4_isNext_15 G fr P K15 v0 v1 v2 v3 w) : wv_J G p e R s m args below meth c 4 P w 15 [(0, va_rf v0), (1, .int v1), (2, va_rf v2), (3, .int v3)] [] := by
  intro H locs cells slots ls S hl
  unfold vc_X4_isNext_15 at hv
  refine lv_iload_n X.hx X.hb dX4_isNext_15 rfl (lv_at hl 3 rfl) ?_
  refine lv_iconst (v := (4 : Int32)) X.hx X.hb dX4_isNext_16 (by decide) ?_
  refine lv_icmp_ge (tgt := 52) X.hx X.hb dX4_isNext_17 (by decide) (fun c17 => ?_) (fun c17 => ?_)
  · have hv := hv.1 c17
    refine lv_iconst (v := (1 : Int32)) X.hx X.hb dX4_isNext_52 (by decide) ?_
    exact wr_iret X S hv.1 hv.2 dX4_isNext_53
  · have hv := hv.2 c17
    refine wq_aload_n X dX4_isNext_20 rfl (lv_at hl 0 rfl) ?_
    refine wq_gA X S hv ccX4 in_X4 (k := 11) (by decide) q1820 dX4_isNext_21 (fun x21 hv => ?_)
    refine lv_iconst (v := (4 : Int32)) X.hx X.hb dX4_isNext_24 (by decide) ?_
    refine lv_iload_n X.hx X.hb dX4_isNext_25 rfl (lv_at hl 3 rfl) ?_
    refine lv_imul X.hx X.hb dX4_isNext_26 ?_
    refine lv_iload_n X.hx X.hb dX4_isNext_27 rfl (lv_at hl 1 rfl) ?_
    refine lv_iadd X.hx X.hb dX4_isNext_28 ?_
    refine wq_li2 X S hv dX4_isNext_29 (fun x29 hv => ?_)
    refine lv_if_eq (tgt := 46) X.hx X.hb dX4_isNext_30 (by decide) (fun c30 => ?_) (fun c30 => ?_)
    · have hv := hv.1 c30
      exact wk_X4_isNext_46 X hK15 hv H locs cells slots ls S (lv_sub hl [0, 1, 2, 3] rfl)
    · have hv := hv.2 c30
      refine wq_aload_n X dX4_isNext_33 rfl (lv_at hl 2 rfl) ?_
      refine lv_iload_n X.hx X.hb dX4_isNext_34 rfl (lv_at hl 3 rfl) ?_
      refine wq_cS_A X S hv q1997 q1998 q100 ⟨by decide +kernel, by decide +kernel⟩ (nA := 1) (As := [.int v3]) (by decide +kernel) rfl rfl (by simp [wv_rfc, wv_kI, wv_kJ, wv_kF, wv_kD]) hl.1 dX4_isNext_35 (fun x35 w35 H locs cells slots S hv => ?_) (wq_kx X rfl)
      refine wq_cV_I X S hv q2017 q2018 q2019 q63 ⟨by decide +kernel, by decide +kernel⟩ (nA := 1) (As := [va_rf x35]) (by decide +kernel) rfl rfl (by simp [wv_rfc, wv_kI, wv_kJ, wv_kF, wv_kD]) hl.1 dX4_isNext_38 (fun x38 w38 H locs cells slots S hv => ?_) (wq_kx X rfl)
      refine lv_if_ne (tgt := 46) X.hx X.hb dX4_isNext_41 (by decide) (fun c41 => ?_) (fun c41 => ?_)
      · have hv := hv.1 c41
        exact wk_X4_isNext_46 X hK15 hv H locs cells slots ls S (lv_sub hl [0, 1, 2, 3] rfl)
      · have hv := hv.2 c41
        refine lv_iconst (v := (0 : Int32)) X.hx X.hb dX4_isNext_44 (by decide) ?_
        exact wr_iret X S hv.1 hv.2 dX4_isNext_45
set_option maxHeartbeats 4000000 in
theorem wk_X4_isNext_0 {G : wv_G} {p : Program} {e : Env} {R : Room} {s : State} {m : MethodId} {args : Array Value} {below : List Frame} {meth : Method} {c : Code} {fr : Nat} {P : wv_R → wv_H → Prop} (X : wv_ok G p R s m args meth c fr "WeaversgateModel" cX4_isNext 4 (Option.some Jvm.ClassFile.FieldType.boolean) "isNext" []) {v0 : Option Nat} {v1 : Int32} {v2 : Option Nat} {w : wv_W} (hv : vc_X4_isNext_0 G fr P v0 v1 v2 w) : wv_J G p e R s m args below meth c 4 P w 0 [(0, va_rf v0), (1, .int v1), (2, va_rf v2)] [] := by
  intro H locs cells slots ls S hl
  unfold vc_X4_isNext_0 at hv
  refine wq_aload_n X dX4_isNext_0 rfl (lv_at hl 2 rfl) ?_
  refine lv_iload_n X.hx X.hb dX4_isNext_1 rfl (lv_at hl 1 rfl) ?_
  refine wq_cS_A X S hv q1997 q1998 q100 ⟨by decide +kernel, by decide +kernel⟩ (nA := 1) (As := [.int v1]) (by decide +kernel) rfl rfl (by simp [wv_rfc, wv_kI, wv_kJ, wv_kF, wv_kD]) hl.1 dX4_isNext_2 (fun x2 w2 H locs cells slots S hv => ?_) (wq_kx X rfl)
  refine wq_cV_I X S hv q2017 q2018 q2019 q63 ⟨by decide +kernel, by decide +kernel⟩ (nA := 1) (As := [va_rf x2]) (by decide +kernel) rfl rfl (by simp [wv_rfc, wv_kI, wv_kJ, wv_kF, wv_kD]) hl.1 dX4_isNext_5 (fun x5 w5 H locs cells slots S hv => ?_) (wq_kx X rfl)
  refine lv_if_eq (tgt := 13) X.hx X.hb dX4_isNext_8 (by decide) (fun c8 => ?_) (fun c8 => ?_)
  · have hv := hv.1 c8
    refine lv_iconst (v := (0 : Int32)) X.hx X.hb dX4_isNext_13 (by decide) ?_
    refine lv_istore_n X.hx X.hb (i := 3) (lv' := [(3, .int (0 : Int32)), (0, va_rf v0), (1, .int v1), (2, va_rf v2)]) dX4_isNext_14 rfl hl (by decide) (by simp [wv_rfc, wv_kI, wv_kJ, wv_kF, wv_kD]) (fun ls hl => ?_)
    exact wv_loop (A := (Option Nat) × Int32 × (Option Nat) × Int32) (fun a w => wv_J G p e R s m args below meth c 4 P w 15 [(0, va_rf a.1), (1, .int a.2.1), (2, va_rf a.2.2.1), (3, .int a.2.2.2)] []) (fun K15 hK15 a w hv => wk_X4_isNext_15 X hK15 hv) hv H locs cells slots ls S (lv_sub hl [1, 2, 3, 0] rfl)
  · have hv := hv.2 c8
    refine lv_iconst (v := (0 : Int32)) X.hx X.hb dX4_isNext_11 (by decide) ?_
    exact wr_iret X S hv.1 hv.2 dX4_isNext_12
theorem wk_X4_isNext {G : wv_G} (hG : wv_G0 G) {v0 : Option Nat} {v1 : Int32} {v2 : Option Nat} {h : wv_H} {fr kc ks : Nat} {P : wv_R → wv_H → Prop} (hv : vc_X4_isNext_0 G fr P v0 v1 v2 (h, kc, ks)) : wv_C G yX4_isNext [va_rf v0, .int v1, va_rf v2] h fr kc ks P := by
  refine wv_enter (lv := [(0, va_rf v0), (1, .int v1), (2, va_rf v2)]) hG (by decide +kernel) q1996 (by decide) (by simp [lg_sl, wv_rfc, wv_kI, wv_kJ, wv_kF, wv_kD]) (by simp [lv_args, wv_rfc, wv_kI, wv_kJ, wv_kF, wv_kD]) ?_
  intro p e R s m args below meth c X H locs cells slots ls S hl
  exact wk_X4_isNext_0 X hv H locs cells slots ls S (lv_sub hl [0, 1, 2] rfl)

def vc_X4_isOneOf_2 (G : wv_G) (fr : Nat) (P : wv_R → wv_H → Prop) (K2 : ((Option Nat) × Int32 × Int32) → wv_W → Prop) (v0 : Option Nat) (v1 : Int32) (v2 : Int32) (w : wv_W) : Prop :=
  wv_cV G fr yJ8_length v0 [] w (wv_rI (fun x4 w4 => (x4 ≤ v2 → narrow .boolean (.int (0 : Int32)) = .int (0 : Int32) ∧ P (.inl (some (.int (0 : Int32)))) w4.1) ∧ (¬ x4 ≤ v2 → wv_cV G fr yJ8_charAt v0 [.int v2] w4 (wv_rI (fun x12 w12 => (¬ x12 = v1 → K2 (v0, v1, (v2 + (1 : Int32))) w12) ∧ (x12 = v1 → narrow .boolean (.int (1 : Int32)) = .int (1 : Int32) ∧ P (.inl (some (.int (1 : Int32)))) w12.1)) (wv_pr P)))) (wv_pr P))
def vc_X4_isOneOf_0 (G : wv_G) (fr : Nat) (P : wv_R → wv_H → Prop) (v0 : Option Nat) (v1 : Int32) (w : wv_W) : Prop :=
  wv_L (fun K2 a w => vc_X4_isOneOf_2 G fr P K2 a.1 a.2.1 a.2.2 w) (v0, v1, (0 : Int32)) w
set_option maxHeartbeats 4000000 in
theorem wk_X4_isOneOf_2 {G : wv_G} {p : Program} {e : Env} {R : Room} {s : State} {m : MethodId} {args : Array Value} {below : List Frame} {meth : Method} {c : Code} {fr : Nat} {P : wv_R → wv_H → Prop} (X : wv_ok G p R s m args meth c fr "WeaversgateModel" cX4_isOneOf 3 (Option.some Jvm.ClassFile.FieldType.boolean) "isOneOf" []) {K2 : ((Option Nat) × Int32 × Int32) → wv_W → Prop} (hK2 : ∀ a w, K2 a w → wv_J G p e R s m args below meth c 3 P w 2 [(0, va_rf a.1), (1, .int a.2.1), (2, .int a.2.2)] []) {v0 : Option Nat} {v1 : Int32} {v2 : Int32} {w : wv_W} (hv : vc_X4_isOneOf_2 G fr P K2 v0 v1 v2 w) : wv_J G p e R s m args below meth c 3 P w 2 [(0, va_rf v0), (1, .int v1), (2, .int v2)] [] := by
  intro H locs cells slots ls S hl
  unfold vc_X4_isOneOf_2 at hv
  refine lv_iload_n X.hx X.hb dX4_isOneOf_2 rfl (lv_at hl 2 rfl) ?_
  refine wq_aload_n X dX4_isOneOf_3 rfl (lv_at hl 0 rfl) ?_
  refine wq_cV_I X S hv q1943 q529 q530 q73 ⟨by decide +kernel, by decide +kernel⟩ (nA := 0) (As := []) (by decide +kernel) rfl rfl (by simp [wv_rfc, wv_kI, wv_kJ, wv_kF, wv_kD]) hl.1 dX4_isOneOf_4 (fun x4 w4 H locs cells slots S hv => ?_) (wq_kx X rfl)
  refine lv_icmp_ge (tgt := 27) X.hx X.hb dX4_isOneOf_7 (by decide) (fun c7 => ?_) (fun c7 => ?_)
  · have hv := hv.1 c7
    refine lv_iconst (v := (0 : Int32)) X.hx X.hb dX4_isOneOf_27 (by decide) ?_
    exact wr_iret X S hv.1 hv.2 dX4_isOneOf_28
  · have hv := hv.2 c7
    refine wq_aload_n X dX4_isOneOf_10 rfl (lv_at hl 0 rfl) ?_
    refine lv_iload_n X.hx X.hb dX4_isOneOf_11 rfl (lv_at hl 2 rfl) ?_
    refine wq_cV_I X S hv q1944 q1697 q2597 q73 ⟨by decide +kernel, by decide +kernel⟩ (nA := 1) (As := [.int v2]) (by decide +kernel) rfl rfl (by simp [wv_rfc, wv_kI, wv_kJ, wv_kF, wv_kD]) hl.1 dX4_isOneOf_12 (fun x12 w12 H locs cells slots S hv => ?_) (wq_kx X rfl)
    refine lv_iload_n X.hx X.hb dX4_isOneOf_15 rfl (lv_at hl 1 rfl) ?_
    refine lv_icmp_ne (tgt := 21) X.hx X.hb dX4_isOneOf_16 (by decide) (fun c16 => ?_) (fun c16 => ?_)
    · have hv := hv.1 c16
      refine lv_iinc (v := (v2 + (1 : Int32))) (lv' := [(2, .int (v2 + (1 : Int32))), (0, va_rf v0), (1, .int v1)]) X.hx X.hb dX4_isOneOf_21 hl (k := 2) rfl (by rfl) (by decide) (by simp [wv_rfc, wv_kI, wv_kJ, wv_kF, wv_kD]) (fun ls hl => ?_)
      refine lv_goto (tgt := 2) X.hx X.hb dX4_isOneOf_24 (by decide) ?_
      exact hK2 _ _ hv H locs cells slots ls S (lv_sub hl [1, 2, 0] rfl)
    · have hv := hv.2 c16
      refine lv_iconst (v := (1 : Int32)) X.hx X.hb dX4_isOneOf_19 (by decide) ?_
      exact wr_iret X S hv.1 hv.2 dX4_isOneOf_20
set_option maxHeartbeats 4000000 in
theorem wk_X4_isOneOf_0 {G : wv_G} {p : Program} {e : Env} {R : Room} {s : State} {m : MethodId} {args : Array Value} {below : List Frame} {meth : Method} {c : Code} {fr : Nat} {P : wv_R → wv_H → Prop} (X : wv_ok G p R s m args meth c fr "WeaversgateModel" cX4_isOneOf 3 (Option.some Jvm.ClassFile.FieldType.boolean) "isOneOf" []) {v0 : Option Nat} {v1 : Int32} {w : wv_W} (hv : vc_X4_isOneOf_0 G fr P v0 v1 w) : wv_J G p e R s m args below meth c 3 P w 0 [(0, va_rf v0), (1, .int v1)] [] := by
  intro H locs cells slots ls S hl
  unfold vc_X4_isOneOf_0 at hv
  refine lv_iconst (v := (0 : Int32)) X.hx X.hb dX4_isOneOf_0 (by decide) ?_
  refine lv_istore_n X.hx X.hb (i := 2) (lv' := [(2, .int (0 : Int32)), (0, va_rf v0), (1, .int v1)]) dX4_isOneOf_1 rfl hl (by decide) (by simp [wv_rfc, wv_kI, wv_kJ, wv_kF, wv_kD]) (fun ls hl => ?_)
  exact wv_loop (A := (Option Nat) × Int32 × Int32) (fun a w => wv_J G p e R s m args below meth c 3 P w 2 [(0, va_rf a.1), (1, .int a.2.1), (2, .int a.2.2)] []) (fun K2 hK2 a w hv => wk_X4_isOneOf_2 X hK2 hv) hv H locs cells slots ls S (lv_sub hl [1, 2, 0] rfl)
theorem wk_X4_isOneOf {G : wv_G} (hG : wv_G0 G) {v0 : Option Nat} {v1 : Int32} {h : wv_H} {fr kc ks : Nat} {P : wv_R → wv_H → Prop} (hv : vc_X4_isOneOf_0 G fr P v0 v1 (h, kc, ks)) : wv_C G yX4_isOneOf [va_rf v0, .int v1] h fr kc ks P := by
  refine wv_enter (lv := [(0, va_rf v0), (1, .int v1)]) hG (by decide +kernel) q1942 (by decide) (by simp [lg_sl, wv_rfc, wv_kI, wv_kJ, wv_kF, wv_kD]) (by simp [lv_args, wv_rfc, wv_kI, wv_kJ, wv_kF, wv_kD]) ?_
  intro p e R s m args below meth c X H locs cells slots ls S hl
  exact wk_X4_isOneOf_0 X hv H locs cells slots ls S (lv_sub hl [0, 1] rfl)

def vc_X4_isPattern_0 (G : wv_G) (fr : Nat) (P : wv_R → wv_H → Prop) (v0 : Option Nat) (v1 : Int32) (w : wv_W) : Prop :=
  wv_gI w v0 ciX4 14 (fun x3 => wv_c0 G fr yX4_in [.int v1, .int (0 : Int32), .int (x3 - (1 : Int32))] w (wv_rI (fun x8 w8 => narrow .boolean (.int x8) = .int x8 ∧ P (.inl (some (.int x8))) w8.1) (wv_pr P)))
set_option maxHeartbeats 4000000 in
theorem wk_X4_isPattern_0 {G : wv_G} {p : Program} {e : Env} {R : Room} {s : State} {m : MethodId} {args : Array Value} {below : List Frame} {meth : Method} {c : Code} {fr : Nat} {P : wv_R → wv_H → Prop} (X : wv_ok G p R s m args meth c fr "WeaversgateModel" cX4_isPattern 2 (Option.some Jvm.ClassFile.FieldType.boolean) "isPattern" []) {v0 : Option Nat} {v1 : Int32} {w : wv_W} (hv : vc_X4_isPattern_0 G fr P v0 v1 w) : wv_J G p e R s m args below meth c 2 P w 0 [(0, va_rf v0), (1, .int v1)] [] := by
  intro H locs cells slots ls S hl
  unfold vc_X4_isPattern_0 at hv
  refine lv_iload_n X.hx X.hb dX4_isPattern_0 rfl (lv_at hl 1 rfl) ?_
  refine lv_iconst (v := (0 : Int32)) X.hx X.hb dX4_isPattern_1 (by decide) ?_
  refine wq_aload_n X dX4_isPattern_2 rfl (lv_at hl 0 rfl) ?_
  refine wq_gI X S hv ccX4 in_X4 (k := 14) (by decide) q1823 dX4_isPattern_3 (fun x3 hv => ?_)
  refine lv_iconst (v := (1 : Int32)) X.hx X.hb dX4_isPattern_6 (by decide) ?_
  refine lv_isub X.hx X.hb dX4_isPattern_7 ?_
  refine wq_cS_I X S hv q1875 q1876 q66 ⟨by decide +kernel, by decide +kernel⟩ (nA := 3) (As := [.int v1, .int (0 : Int32), .int (x3 - (1 : Int32))]) (by decide +kernel) rfl rfl (by simp [wv_rfc, wv_kI, wv_kJ, wv_kF, wv_kD]) hl.1 dX4_isPattern_8 (fun x8 w8 H locs cells slots S hv => ?_) (wq_kx X rfl)
  exact wr_iret X S hv.1 hv.2 dX4_isPattern_11
theorem wk_X4_isPattern {G : wv_G} (hG : wv_G0 G) {v0 : Option Nat} {v1 : Int32} {h : wv_H} {fr kc ks : Nat} {P : wv_R → wv_H → Prop} (hv : vc_X4_isPattern_0 G fr P v0 v1 (h, kc, ks)) : wv_C G yX4_isPattern [va_rf v0, .int v1] h fr kc ks P := by
  refine wv_enter (lv := [(0, va_rf v0), (1, .int v1)]) hG (by decide +kernel) q1957 (by decide) (by simp [lg_sl, wv_rfc, wv_kI, wv_kJ, wv_kF, wv_kD]) (by simp [lv_args, wv_rfc, wv_kI, wv_kJ, wv_kF, wv_kD]) ?_
  intro p e R s m args below meth c X H locs cells slots ls S hl
  exact wk_X4_isPattern_0 X hv H locs cells slots ls S (lv_sub hl [0, 1] rfl)

def vc_X4_isPatternNumber_0 (G : wv_G) (fr : Nat) (P : wv_R → wv_H → Prop) (v0 : Int32) (v1 : Int32) (w : wv_W) : Prop :=
  wv_c0 G fr yX4_isOneOf [va_rf (some (G.2.2.2.2 414)), .int v0] w (wv_rI (fun x3 w3 => (x3 = 0 → (¬ v0 = (118 : Int32) → narrow .boolean (.int (1 : Int32)) = .int (1 : Int32) ∧ P (.inl (some (.int (1 : Int32)))) w3.1) ∧ (v0 = (118 : Int32) → wv_c0 G fr yX4_in [.int v1, .int (-99 : Int32), .int (99 : Int32)] w3 (wv_rI (fun x29 w29 => (x29 = 0 → narrow .boolean (.int (0 : Int32)) = .int (0 : Int32) ∧ P (.inl (some (.int (0 : Int32)))) w29.1) ∧ (¬ x29 = 0 → narrow .boolean (.int (1 : Int32)) = .int (1 : Int32) ∧ P (.inl (some (.int (1 : Int32)))) w29.1)) (wv_pr P)))) ∧ (¬ x3 = 0 → wv_c0 G fr yX4_in [.int v1, .int (0 : Int32), .int (5 : Int32)] w3 (wv_rI (fun x12 w12 => narrow .boolean (.int x12) = .int x12 ∧ P (.inl (some (.int x12))) w12.1) (wv_pr P)))) (wv_pr P))
set_option maxHeartbeats 4000000 in
theorem wk_X4_isPatternNumber_0 {G : wv_G} {p : Program} {e : Env} {R : Room} {s : State} {m : MethodId} {args : Array Value} {below : List Frame} {meth : Method} {c : Code} {fr : Nat} {P : wv_R → wv_H → Prop} (X : wv_ok G p R s m args meth c fr "WeaversgateModel" cX4_isPatternNumber 2 (Option.some Jvm.ClassFile.FieldType.boolean) "isPatternNumber" []) {v0 : Int32} {v1 : Int32} {w : wv_W} (hv : vc_X4_isPatternNumber_0 G fr P v0 v1 w) : wv_J G p e R s m args below meth c 2 P w 0 [(0, .int v0), (1, .int v1)] [] := by
  intro H locs cells slots ls S hl
  unfold vc_X4_isPatternNumber_0 at hv
  refine wq_ldcS X S (k := 14) rfl q1948 dX4_isPatternNumber_0 ?_
  refine lv_iload_n X.hx X.hb dX4_isPatternNumber_2 rfl (lv_at hl 0 rfl) ?_
  refine wq_cS_I X S hv q1940 q1941 q66 ⟨by decide +kernel, by decide +kernel⟩ (nA := 2) (As := [va_rf (some (G.2.2.2.2 414)), .int v0]) (by decide +kernel) rfl rfl (by simp [wv_rfc, wv_kI, wv_kJ, wv_kF, wv_kD]) hl.1 dX4_isPatternNumber_3 (fun x3 w3 H locs cells slots S hv => ?_) (wq_kx X rfl)
  refine lv_if_eq (tgt := 18) X.hx X.hb dX4_isPatternNumber_6 (by decide) (fun c6 => ?_) (fun c6 => ?_)
  · have hv := hv.1 c6
    refine lv_iload_n X.hx X.hb dX4_isPatternNumber_18 rfl (lv_at hl 0 rfl) ?_
    refine lv_bipush (v := (118 : Int32)) X.hx X.hb dX4_isPatternNumber_19 (by decide) ?_
    refine lv_icmp_ne (tgt := 35) X.hx X.hb dX4_isPatternNumber_21 (by decide) (fun c21 => ?_) (fun c21 => ?_)
    · have hv := hv.1 c21
      refine lv_iconst (v := (1 : Int32)) X.hx X.hb dX4_isPatternNumber_35 (by decide) ?_
      refine lv_goto (tgt := 40) X.hx X.hb dX4_isPatternNumber_36 (by decide) ?_
      exact wr_iret X S hv.1 hv.2 dX4_isPatternNumber_40
    · have hv := hv.2 c21
      refine lv_iload_n X.hx X.hb dX4_isPatternNumber_24 rfl (lv_at hl 1 rfl) ?_
      refine lv_bipush (v := (-99 : Int32)) X.hx X.hb dX4_isPatternNumber_25 (by decide) ?_
      refine lv_bipush (v := (99 : Int32)) X.hx X.hb dX4_isPatternNumber_27 (by decide) ?_
      refine wq_cS_I X S hv q1875 q1876 q66 ⟨by decide +kernel, by decide +kernel⟩ (nA := 3) (As := [.int v1, .int (-99 : Int32), .int (99 : Int32)]) (by decide +kernel) rfl rfl (by simp [wv_rfc, wv_kI, wv_kJ, wv_kF, wv_kD]) hl.1 dX4_isPatternNumber_29 (fun x29 w29 H locs cells slots S hv => ?_) (wq_kx X rfl)
      refine lv_if_eq (tgt := 39) X.hx X.hb dX4_isPatternNumber_32 (by decide) (fun c32 => ?_) (fun c32 => ?_)
      · have hv := hv.1 c32
        refine lv_iconst (v := (0 : Int32)) X.hx X.hb dX4_isPatternNumber_39 (by decide) ?_
        exact wr_iret X S hv.1 hv.2 dX4_isPatternNumber_40
      · have hv := hv.2 c32
        refine lv_iconst (v := (1 : Int32)) X.hx X.hb dX4_isPatternNumber_35 (by decide) ?_
        refine lv_goto (tgt := 40) X.hx X.hb dX4_isPatternNumber_36 (by decide) ?_
        exact wr_iret X S hv.1 hv.2 dX4_isPatternNumber_40
  · have hv := hv.2 c6
    refine lv_iload_n X.hx X.hb dX4_isPatternNumber_9 rfl (lv_at hl 1 rfl) ?_
    refine lv_iconst (v := (0 : Int32)) X.hx X.hb dX4_isPatternNumber_10 (by decide) ?_
    refine lv_iconst (v := (5 : Int32)) X.hx X.hb dX4_isPatternNumber_11 (by decide) ?_
    refine wq_cS_I X S hv q1875 q1876 q66 ⟨by decide +kernel, by decide +kernel⟩ (nA := 3) (As := [.int v1, .int (0 : Int32), .int (5 : Int32)]) (by decide +kernel) rfl rfl (by simp [wv_rfc, wv_kI, wv_kJ, wv_kF, wv_kD]) hl.1 dX4_isPatternNumber_12 (fun x12 w12 H locs cells slots S hv => ?_) (wq_kx X rfl)
    refine lv_goto (tgt := 40) X.hx X.hb dX4_isPatternNumber_15 (by decide) ?_
    exact wr_iret X S hv.1 hv.2 dX4_isPatternNumber_40
theorem wk_X4_isPatternNumber {G : wv_G} (hG : wv_G0 G) {v0 : Int32} {v1 : Int32} {h : wv_H} {fr kc ks : Nat} {P : wv_R → wv_H → Prop} (hv : vc_X4_isPatternNumber_0 G fr P v0 v1 (h, kc, ks)) : wv_C G yX4_isPatternNumber [.int v0, .int v1] h fr kc ks P := by
  refine wv_enter (lv := [(0, .int v0), (1, .int v1)]) hG (by decide +kernel) q1947 (by decide) (by simp [lg_sl, wv_rfc, wv_kI, wv_kJ, wv_kF, wv_kD]) (by simp [lv_args, wv_rfc, wv_kI, wv_kJ, wv_kF, wv_kD]) ?_
  intro p e R s m args below meth c X H locs cells slots ls S hl
  exact wk_X4_isPatternNumber_0 X hv H locs cells slots ls S (lv_sub hl [0, 1] rfl)

def vc_X4_isRing_0 (G : wv_G) (fr : Nat) (P : wv_R → wv_H → Prop) (v0 : Option Nat) (w : wv_W) : Prop :=
  wv_pt w v0 ciX4 12 (.int (0 : Int32)) (fun w2 => wv_cV G fr yX4_order v0 [] w2 (wv_rA (fun x6 w6 => wv_cV G fr yJ2_size x6 [] w6 (wv_rI (fun x9 w9 => ((4 : Int32) ≤ x9 → narrow .boolean (.int (0 : Int32)) = .int (0 : Int32) ∧ P (.inl (some (.int (0 : Int32)))) w9.1) ∧ (¬ (4 : Int32) ≤ x9 → narrow .boolean (.int (1 : Int32)) = .int (1 : Int32) ∧ P (.inl (some (.int (1 : Int32)))) w9.1)) (wv_pr P))) (wv_pr P)))
set_option maxHeartbeats 4000000 in
theorem wk_X4_isRing_0 {G : wv_G} {p : Program} {e : Env} {R : Room} {s : State} {m : MethodId} {args : Array Value} {below : List Frame} {meth : Method} {c : Code} {fr : Nat} {P : wv_R → wv_H → Prop} (X : wv_ok G p R s m args meth c fr "WeaversgateModel" cX4_isRing 1 (Option.some Jvm.ClassFile.FieldType.boolean) "isRing" []) {v0 : Option Nat} {w : wv_W} (hv : vc_X4_isRing_0 G fr P v0 w) : wv_J G p e R s m args below meth c 1 P w 0 [(0, va_rf v0)] [] := by
  intro H locs cells slots ls S hl
  unfold vc_X4_isRing_0 at hv
  refine wq_aload_n X dX4_isRing_0 rfl (lv_at hl 0 rfl) ?_
  refine lv_iconst (v := (0 : Int32)) X.hx X.hb dX4_isRing_1 (by decide) ?_
  refine wq_pt X S hv tyX4 tyX4_ok nmX4 ccX4 in_X4 (k := 12) (by decide) q1821 rfl rfl rfl rfl dX4_isRing_2 (fun w2 H locs S hv => ?_)
  refine wq_aload_n X dX4_isRing_5 rfl (lv_at hl 0 rfl) ?_
  refine wq_cV_A X S hv q1987 q1989 qs44 q66 ⟨by decide +kernel, by decide +kernel⟩ (nA := 0) (As := []) (by decide +kernel) rfl rfl (by simp [wv_rfc, wv_kI, wv_kJ, wv_kF, wv_kD]) hl.1 dX4_isRing_6 (fun x6 w6 H locs cells slots S hv => ?_) (wq_kx X rfl)
  refine wq_cV_I X S hv q2086 q270 q271 q63 ⟨by decide +kernel, by decide +kernel⟩ (nA := 0) (As := []) (by decide +kernel) rfl rfl (by simp [wv_rfc, wv_kI, wv_kJ, wv_kF, wv_kD]) hl.1 dX4_isRing_9 (fun x9 w9 H locs cells slots S hv => ?_) (wq_kx X rfl)
  refine lv_iconst (v := (4 : Int32)) X.hx X.hb dX4_isRing_12 (by decide) ?_
  refine lv_icmp_ge (tgt := 20) X.hx X.hb dX4_isRing_13 (by decide) (fun c13 => ?_) (fun c13 => ?_)
  · have hv := hv.1 c13
    refine lv_iconst (v := (0 : Int32)) X.hx X.hb dX4_isRing_20 (by decide) ?_
    exact wr_iret X S hv.1 hv.2 dX4_isRing_21
  · have hv := hv.2 c13
    refine lv_iconst (v := (1 : Int32)) X.hx X.hb dX4_isRing_16 (by decide) ?_
    refine lv_goto (tgt := 21) X.hx X.hb dX4_isRing_17 (by decide) ?_
    exact wr_iret X S hv.1 hv.2 dX4_isRing_21
theorem wk_X4_isRing {G : wv_G} (hG : wv_G0 G) {v0 : Option Nat} {h : wv_H} {fr kc ks : Nat} {P : wv_R → wv_H → Prop} (hv : vc_X4_isRing_0 G fr P v0 (h, kc, ks)) : wv_C G yX4_isRing [va_rf v0] h fr kc ks P := by
  refine wv_enter (lv := [(0, va_rf v0)]) hG (by decide +kernel) q1986 (by decide) (by simp [lg_sl, wv_rfc, wv_kI, wv_kJ, wv_kF, wv_kD]) (by simp [lv_args, wv_rfc, wv_kI, wv_kJ, wv_kF, wv_kD]) ?_
  intro p e R s m args below meth c X H locs cells slots ls S hl
  exact wk_X4_isRing_0 X hv H locs cells slots ls S (lv_sub hl [0] rfl)

def vc_X4_isSound_95 (G : wv_G) (fr : Nat) (P : wv_R → wv_H → Prop) (v1 : Option Nat) (v2 : Option Nat) (w : wv_W) : Prop :=
  wv_gA w v1 ciX5 0 (fun x96 => wv_gA w v2 ciX5 0 (fun x100 => wv_cV G fr yJ2_equals x96 [va_rf x100] w (wv_rI (fun x103 w103 => (x103 = 0 → narrow .boolean (.int (0 : Int32)) = .int (0 : Int32) ∧ P (.inl (some (.int (0 : Int32)))) w103.1) ∧ (¬ x103 = 0 → narrow .boolean (.int (1 : Int32)) = .int (1 : Int32) ∧ P (.inl (some (.int (1 : Int32)))) w103.1)) (wv_pr P))))
def vc_X4_isSound_0 (G : wv_G) (fr : Nat) (P : wv_R → wv_H → Prop) (v0 : Option Nat) (w : wv_W) : Prop :=
  wv_pt w v0 ciX4 12 (.int (0 : Int32)) (fun w2 => wv_cV G fr yX4_lowest v0 [] w2 (wv_rI (fun x6 w6 => (x6 = (-1 : Int32) → narrow .boolean (.int (1 : Int32)) = .int (1 : Int32) ∧ P (.inl (some (.int (1 : Int32)))) w6.1) ∧ (¬ x6 = (-1 : Int32) → wv_cV G fr yX4_order v0 [] w6 (wv_rA (fun x14 w14 => wv_cV G fr yJ2_size x14 [] w14 (wv_rI (fun x17 w17 => ((4 : Int32) ≤ x17 → wv_no G w17 (wo_o ciX26 [va_rf none, va_rf none, va_rf none, .int 0, va_rf none]) 5 (fun a26 w26 => wv_cI G fr yX26_init (some a26) [va_rf v0, .int (1 : Int32)] w26 (wv_rV (fun w32 => wv_cV G fr yX4_lowest v0 [] w32 (wv_rI (fun x36 w36 => wv_cV G fr yX26_runs (some a26) [.int x36, .int (0 : Int32), .int (0 : Int32)] w36 (wv_rA (fun x41 w41 => wv_no G w41 (wo_o ciX26 [va_rf none, va_rf none, va_rf none, .int 0, va_rf none]) 5 (fun a45 w45 => wv_cI G fr yX26_init (some a45) [va_rf v0, .int (0 : Int32)] w45 (wv_rV (fun w51 => wv_cV G fr yX4_lowest v0 [] w51 (wv_rI (fun x55 w55 => wv_cV G fr yX26_runs (some a45) [.int x55, .int (0 : Int32), .int (0 : Int32)] w55 (wv_rA (fun x60 w60 => wv_gI w60 x41 ciX5 1 (fun x65 => wv_gI w60 x60 ciX5 1 (fun x69 => (¬ x65 = x69 → narrow .boolean (.int (0 : Int32)) = .int (0 : Int32) ∧ P (.inl (some (.int (0 : Int32)))) w60.1) ∧ (x65 = x69 → wv_gI w60 x41 ciX5 1 (fun x76 => (x76 = (108 : Int32) → vc_X4_isSound_95 G fr P x41 x60 w60) ∧ (¬ x76 = (108 : Int32) → wv_gI w60 x41 ciX5 2 (fun x85 => wv_gI w60 x60 ciX5 2 (fun x89 => (¬ x85 = x89 → narrow .boolean (.int (0 : Int32)) = .int (0 : Int32) ∧ P (.inl (some (.int (0 : Int32)))) w60.1) ∧ (x85 = x89 → vc_X4_isSound_95 G fr P x41 x60 w60))))))))) (wv_pr P))) (wv_pr P))) (wv_pr P)))) (wv_pr P))) (wv_pr P))) (wv_pr P)))) ∧ (¬ (4 : Int32) ≤ x17 → narrow .boolean (.int (1 : Int32)) = .int (1 : Int32) ∧ P (.inl (some (.int (1 : Int32)))) w17.1)) (wv_pr P))) (wv_pr P)))) (wv_pr P)))
set_option maxHeartbeats 4000000 in
theorem wk_X4_isSound_95 {G : wv_G} {p : Program} {e : Env} {R : Room} {s : State} {m : MethodId} {args : Array Value} {below : List Frame} {meth : Method} {c : Code} {fr : Nat} {P : wv_R → wv_H → Prop} (X : wv_ok G p R s m args meth c fr "WeaversgateModel" cX4_isSound 3 (Option.some Jvm.ClassFile.FieldType.boolean) "isSound" []) {v1 : Option Nat} {v2 : Option Nat} {w : wv_W} (hv : vc_X4_isSound_95 G fr P v1 v2 w) : wv_J G p e R s m args below meth c 3 P w 95 [(1, va_rf v1), (2, va_rf v2)] [] := by
  intro H locs cells slots ls S hl
  unfold vc_X4_isSound_95 at hv
  refine wq_aload_n X dX4_isSound_95 rfl (lv_at hl 0 rfl) ?_
  refine wq_gA X S hv ccX5 in_X5 (k := 0) (by decide) q1776 dX4_isSound_96 (fun x96 hv => ?_)
  refine wq_aload_n X dX4_isSound_99 rfl (lv_at hl 1 rfl) ?_
  refine wq_gA X S hv ccX5 in_X5 (k := 0) (by decide) q1776 dX4_isSound_100 (fun x100 hv => ?_)
  refine wq_cV_I X S hv q2550 q2551 q2552 q63 ⟨by decide +kernel, by decide +kernel⟩ (nA := 1) (As := [va_rf x100]) (by decide +kernel) rfl rfl (by simp [wv_rfc, wv_kI, wv_kJ, wv_kF, wv_kD]) hl.1 dX4_isSound_103 (fun x103 w103 H locs cells slots S hv => ?_) (wq_kx X rfl)
  refine lv_if_eq (tgt := 113) X.hx X.hb dX4_isSound_106 (by decide) (fun c106 => ?_) (fun c106 => ?_)
  · have hv := hv.1 c106
    refine lv_iconst (v := (0 : Int32)) X.hx X.hb dX4_isSound_113 (by decide) ?_
    exact wr_iret X S hv.1 hv.2 dX4_isSound_114
  · have hv := hv.2 c106
    refine lv_iconst (v := (1 : Int32)) X.hx X.hb dX4_isSound_109 (by decide) ?_
    refine lv_goto (tgt := 114) X.hx X.hb dX4_isSound_110 (by decide) ?_
    exact wr_iret X S hv.1 hv.2 dX4_isSound_114
set_option maxHeartbeats 4000000 in
theorem wk_X4_isSound_0 {G : wv_G} {p : Program} {e : Env} {R : Room} {s : State} {m : MethodId} {args : Array Value} {below : List Frame} {meth : Method} {c : Code} {fr : Nat} {P : wv_R → wv_H → Prop} (X : wv_ok G p R s m args meth c fr "WeaversgateModel" cX4_isSound 3 (Option.some Jvm.ClassFile.FieldType.boolean) "isSound" []) {v0 : Option Nat} {w : wv_W} (hv : vc_X4_isSound_0 G fr P v0 w) : wv_J G p e R s m args below meth c 3 P w 0 [(0, va_rf v0)] [] := by
  intro H locs cells slots ls S hl
  unfold vc_X4_isSound_0 at hv
  refine wq_aload_n X dX4_isSound_0 rfl (lv_at hl 0 rfl) ?_
  refine lv_iconst (v := (0 : Int32)) X.hx X.hb dX4_isSound_1 (by decide) ?_
  refine wq_pt X S hv tyX4 tyX4_ok nmX4 ccX4 in_X4 (k := 12) (by decide) q1821 rfl rfl rfl rfl dX4_isSound_2 (fun w2 H locs S hv => ?_)
  refine wq_aload_n X dX4_isSound_5 rfl (lv_at hl 0 rfl) ?_
  refine wq_cV_I X S hv q2546 q2548 qs56 q66 ⟨by decide +kernel, by decide +kernel⟩ (nA := 0) (As := []) (by decide +kernel) rfl rfl (by simp [wv_rfc, wv_kI, wv_kJ, wv_kF, wv_kD]) hl.1 dX4_isSound_6 (fun x6 w6 H locs cells slots S hv => ?_) (wq_kx X rfl)
  refine lv_iconst (v := (-1 : Int32)) X.hx X.hb dX4_isSound_9 (by decide) ?_
  refine lv_icmp_eq (tgt := 24) X.hx X.hb dX4_isSound_10 (by decide) (fun c10 => ?_) (fun c10 => ?_)
  · have hv := hv.1 c10
    refine lv_iconst (v := (1 : Int32)) X.hx X.hb dX4_isSound_24 (by decide) ?_
    exact wr_iret X S hv.1 hv.2 dX4_isSound_25
  · have hv := hv.2 c10
    refine wq_aload_n X dX4_isSound_13 rfl (lv_at hl 0 rfl) ?_
    refine wq_cV_A X S hv q1987 q1989 qs44 q66 ⟨by decide +kernel, by decide +kernel⟩ (nA := 0) (As := []) (by decide +kernel) rfl rfl (by simp [wv_rfc, wv_kI, wv_kJ, wv_kF, wv_kD]) hl.1 dX4_isSound_14 (fun x14 w14 H locs cells slots S hv => ?_) (wq_kx X rfl)
    refine wq_cV_I X S hv q2086 q270 q271 q63 ⟨by decide +kernel, by decide +kernel⟩ (nA := 0) (As := []) (by decide +kernel) rfl rfl (by simp [wv_rfc, wv_kI, wv_kJ, wv_kF, wv_kD]) hl.1 dX4_isSound_17 (fun x17 w17 H locs cells slots S hv => ?_) (wq_kx X rfl)
    refine lv_iconst (v := (4 : Int32)) X.hx X.hb dX4_isSound_20 (by decide) ?_
    refine lv_icmp_ge (tgt := 26) X.hx X.hb dX4_isSound_21 (by decide) (fun c21 => ?_) (fun c21 => ?_)
    · have hv := hv.1 c21
      refine wq_new X S hv tyX26 tyX26_ok ccX26 in_X26 q2238 q2239 q112 (fun j hj => by have hj : j < 5 := hj; rcases (show j = 0 ∨ j = 1 ∨ j = 2 ∨ j = 3 ∨ j = 4 by omega) with rfl | rfl | rfl | rfl | rfl <;> rfl) dX4_isSound_26 (fun a26 w26 H cells slots S hv => ?_)
      refine lv_dup X.hx X.hb dX4_isSound_29 (wv_rfc _) ?_
      refine wq_aload_n X dX4_isSound_30 rfl (lv_at hl 0 rfl) ?_
      refine lv_iconst (v := (1 : Int32)) X.hx X.hb dX4_isSound_31 (by decide) ?_
      refine wq_cI_V X S hv rfl q2240 q2241 q2242 q112 ⟨by decide +kernel, by decide +kernel⟩ (nA := 2) (As := [va_rf v0, .int (1 : Int32)]) (by decide +kernel) rfl rfl (by simp [wv_rfc, wv_kI, wv_kJ, wv_kF, wv_kD]) hl.1 dX4_isSound_32 (fun w32 H locs cells slots S hv => ?_) (wq_kx X rfl)
      refine wq_aload_n X dX4_isSound_35 rfl (lv_at hl 0 rfl) ?_
      refine wq_cV_I X S hv q2546 q2548 qs56 q66 ⟨by decide +kernel, by decide +kernel⟩ (nA := 0) (As := []) (by decide +kernel) rfl rfl (by simp [wv_rfc, wv_kI, wv_kJ, wv_kF, wv_kD]) hl.1 dX4_isSound_36 (fun x36 w36 H locs cells slots S hv => ?_) (wq_kx X rfl)
      refine lv_iconst (v := (0 : Int32)) X.hx X.hb dX4_isSound_39 (by decide) ?_
      refine lv_iconst (v := (0 : Int32)) X.hx X.hb dX4_isSound_40 (by decide) ?_
      refine wq_cV_A X S hv q2265 q2266 q2267 q112 ⟨by decide +kernel, by decide +kernel⟩ (nA := 3) (As := [.int x36, .int (0 : Int32), .int (0 : Int32)]) (by decide +kernel) rfl rfl (by simp [wv_rfc, wv_kI, wv_kJ, wv_kF, wv_kD]) hl.1 dX4_isSound_41 (fun x41 w41 H locs cells slots S hv => ?_) (wq_kx X rfl)
      refine wq_astore_n X (i := 1) (lv' := [(1, va_rf x41), (0, va_rf v0)]) dX4_isSound_44 rfl hl (by decide) (by simp [wv_rfc, wv_kI, wv_kJ, wv_kF, wv_kD]) (fun ls hl => ?_)
      refine wq_new X S hv tyX26 tyX26_ok ccX26 in_X26 q2238 q2239 q112 (fun j hj => by have hj : j < 5 := hj; rcases (show j = 0 ∨ j = 1 ∨ j = 2 ∨ j = 3 ∨ j = 4 by omega) with rfl | rfl | rfl | rfl | rfl <;> rfl) dX4_isSound_45 (fun a45 w45 H cells slots S hv => ?_)
      refine lv_dup X.hx X.hb dX4_isSound_48 (wv_rfc _) ?_
      refine wq_aload_n X dX4_isSound_49 rfl (lv_at hl 1 rfl) ?_
      refine lv_iconst (v := (0 : Int32)) X.hx X.hb dX4_isSound_50 (by decide) ?_
      refine wq_cI_V X S hv rfl q2240 q2241 q2242 q112 ⟨by decide +kernel, by decide +kernel⟩ (nA := 2) (As := [va_rf v0, .int (0 : Int32)]) (by decide +kernel) rfl rfl (by simp [wv_rfc, wv_kI, wv_kJ, wv_kF, wv_kD]) hl.1 dX4_isSound_51 (fun w51 H locs cells slots S hv => ?_) (wq_kx X rfl)
      refine wq_aload_n X dX4_isSound_54 rfl (lv_at hl 1 rfl) ?_
      refine wq_cV_I X S hv q2546 q2548 qs56 q66 ⟨by decide +kernel, by decide +kernel⟩ (nA := 0) (As := []) (by decide +kernel) rfl rfl (by simp [wv_rfc, wv_kI, wv_kJ, wv_kF, wv_kD]) hl.1 dX4_isSound_55 (fun x55 w55 H locs cells slots S hv => ?_) (wq_kx X rfl)
      refine lv_iconst (v := (0 : Int32)) X.hx X.hb dX4_isSound_58 (by decide) ?_
      refine lv_iconst (v := (0 : Int32)) X.hx X.hb dX4_isSound_59 (by decide) ?_
      refine wq_cV_A X S hv q2265 q2266 q2267 q112 ⟨by decide +kernel, by decide +kernel⟩ (nA := 3) (As := [.int x55, .int (0 : Int32), .int (0 : Int32)]) (by decide +kernel) rfl rfl (by simp [wv_rfc, wv_kI, wv_kJ, wv_kF, wv_kD]) hl.1 dX4_isSound_60 (fun x60 w60 H locs cells slots S hv => ?_) (wq_kx X rfl)
      refine wq_astore_n X (i := 2) (lv' := [(2, va_rf x60), (1, va_rf x41), (0, va_rf v0)]) dX4_isSound_63 rfl hl (by decide) (by simp [wv_rfc, wv_kI, wv_kJ, wv_kF, wv_kD]) (fun ls hl => ?_)
      refine wq_aload_n X dX4_isSound_64 rfl (lv_at hl 1 rfl) ?_
      refine wq_gI X S hv ccX5 in_X5 (k := 1) (by decide) q1779 dX4_isSound_65 (fun x65 hv => ?_)
      refine wq_aload_n X dX4_isSound_68 rfl (lv_at hl 0 rfl) ?_
      refine wq_gI X S hv ccX5 in_X5 (k := 1) (by decide) q1779 dX4_isSound_69 (fun x69 hv => ?_)
      refine lv_icmp_ne (tgt := 113) X.hx X.hb dX4_isSound_72 (by decide) (fun c72 => ?_) (fun c72 => ?_)
      · have hv := hv.1 c72
        refine lv_iconst (v := (0 : Int32)) X.hx X.hb dX4_isSound_113 (by decide) ?_
        exact wr_iret X S hv.1 hv.2 dX4_isSound_114
      · have hv := hv.2 c72
        refine wq_aload_n X dX4_isSound_75 rfl (lv_at hl 1 rfl) ?_
        refine wq_gI X S hv ccX5 in_X5 (k := 1) (by decide) q1779 dX4_isSound_76 (fun x76 hv => ?_)
        refine lv_bipush (v := (108 : Int32)) X.hx X.hb dX4_isSound_79 (by decide) ?_
        refine lv_icmp_eq (tgt := 95) X.hx X.hb dX4_isSound_81 (by decide) (fun c81 => ?_) (fun c81 => ?_)
        · have hv := hv.1 c81
          exact wk_X4_isSound_95 X  hv H locs cells slots ls S (lv_sub hl [1, 0] rfl)
        · have hv := hv.2 c81
          refine wq_aload_n X dX4_isSound_84 rfl (lv_at hl 1 rfl) ?_
          refine wq_gI X S hv ccX5 in_X5 (k := 2) (by decide) q1782 dX4_isSound_85 (fun x85 hv => ?_)
          refine wq_aload_n X dX4_isSound_88 rfl (lv_at hl 0 rfl) ?_
          refine wq_gI X S hv ccX5 in_X5 (k := 2) (by decide) q1782 dX4_isSound_89 (fun x89 hv => ?_)
          refine lv_icmp_ne (tgt := 113) X.hx X.hb dX4_isSound_92 (by decide) (fun c92 => ?_) (fun c92 => ?_)
          · have hv := hv.1 c92
            refine lv_iconst (v := (0 : Int32)) X.hx X.hb dX4_isSound_113 (by decide) ?_
            exact wr_iret X S hv.1 hv.2 dX4_isSound_114
          · have hv := hv.2 c92
            exact wk_X4_isSound_95 X  hv H locs cells slots ls S (lv_sub hl [1, 0] rfl)
    · have hv := hv.2 c21
      refine lv_iconst (v := (1 : Int32)) X.hx X.hb dX4_isSound_24 (by decide) ?_
      exact wr_iret X S hv.1 hv.2 dX4_isSound_25
theorem wk_X4_isSound {G : wv_G} (hG : wv_G0 G) {v0 : Option Nat} {h : wv_H} {fr kc ks : Nat} {P : wv_R → wv_H → Prop} (hv : vc_X4_isSound_0 G fr P v0 (h, kc, ks)) : wv_C G yX4_isSound [va_rf v0] h fr kc ks P := by
  refine wv_enter (lv := [(0, va_rf v0)]) hG (by decide +kernel) q2545 (by decide) (by simp [lg_sl, wv_rfc, wv_kI, wv_kJ, wv_kF, wv_kD]) (by simp [lv_args, wv_rfc, wv_kI, wv_kJ, wv_kF, wv_kD]) ?_
  intro p e R s m args below meth c X H locs cells slots ls S hl
  exact wk_X4_isSound_0 X hv H locs cells slots ls S (lv_sub hl [0] rfl)

def vc_X4_isStep_129 (G : wv_G) (fr : Nat) (P : wv_R → wv_H → Prop) (v2 : Int32) (w : wv_W) : Prop :=
  wv_c0 G fr yX4_in [.int v2, .int (0 : Int32), .int (3 : Int32)] w (wv_rI (fun x132 w132 => narrow .boolean (.int x132) = .int x132 ∧ P (.inl (some (.int x132))) w132.1) (wv_pr P))
def vc_X4_isStep_0 (G : wv_G) (fr : Nat) (P : wv_R → wv_H → Prop) (v0 : Option Nat) (v1 : Int32) (v2 : Int32) (v3 : Int32) (w : wv_W) : Prop :=
  (v1 = (99 : Int32) → wv_c0 G fr yX4_isMethod [.int v2] w (wv_rI (fun x100 w100 => narrow .boolean (.int x100) = .int x100 ∧ P (.inl (some (.int x100))) w100.1) (wv_pr P))) ∧ (¬ v1 = (99 : Int32) → (v1 = (100 : Int32) → narrow .boolean (.int (0 : Int32)) = .int (0 : Int32) ∧ P (.inl (some (.int (0 : Int32)))) w.1) ∧ (¬ v1 = (100 : Int32) → (v1 = (101 : Int32) → narrow .boolean (.int (0 : Int32)) = .int (0 : Int32) ∧ P (.inl (some (.int (0 : Int32)))) w.1) ∧ (¬ v1 = (101 : Int32) → (v1 = (102 : Int32) → narrow .boolean (.int (0 : Int32)) = .int (0 : Int32) ∧ P (.inl (some (.int (0 : Int32)))) w.1) ∧ (¬ v1 = (102 : Int32) → (v1 = (103 : Int32) → vc_X4_isStep_129 G fr P v2 w) ∧ (¬ v1 = (103 : Int32) → (v1 = (104 : Int32) → vc_X4_isStep_129 G fr P v2 w) ∧ (¬ v1 = (104 : Int32) → (v1 = (105 : Int32) → narrow .boolean (.int (0 : Int32)) = .int (0 : Int32) ∧ P (.inl (some (.int (0 : Int32)))) w.1) ∧ (¬ v1 = (105 : Int32) → (v1 = (106 : Int32) → narrow .boolean (.int (0 : Int32)) = .int (0 : Int32) ∧ P (.inl (some (.int (0 : Int32)))) w.1) ∧ (¬ v1 = (106 : Int32) → (v1 = (107 : Int32) → narrow .boolean (.int (0 : Int32)) = .int (0 : Int32) ∧ P (.inl (some (.int (0 : Int32)))) w.1) ∧ (¬ v1 = (107 : Int32) → (v1 = (108 : Int32) → narrow .boolean (.int (0 : Int32)) = .int (0 : Int32) ∧ P (.inl (some (.int (0 : Int32)))) w.1) ∧ (¬ v1 = (108 : Int32) → (v1 = (109 : Int32) → wv_cV G fr yX4_isClass v0 [.int v2] w (wv_rI (fun x108 w108 => (x108 = 0 → narrow .boolean (.int (0 : Int32)) = .int (0 : Int32) ∧ P (.inl (some (.int (0 : Int32)))) w108.1) ∧ (¬ x108 = 0 → wv_c0 G fr yX4_isMethod [.int v3] w108 (wv_rI (fun x115 w115 => (x115 = 0 → narrow .boolean (.int (0 : Int32)) = .int (0 : Int32) ∧ P (.inl (some (.int (0 : Int32)))) w115.1) ∧ (¬ x115 = 0 → narrow .boolean (.int (1 : Int32)) = .int (1 : Int32) ∧ P (.inl (some (.int (1 : Int32)))) w115.1)) (wv_pr P)))) (wv_pr P))) ∧ (¬ v1 = (109 : Int32) → (v1 = (110 : Int32) → wv_c0 G fr yX4_in [.int v2, .int (-99 : Int32), .int (99 : Int32)] w (wv_rI (fun x93 w93 => narrow .boolean (.int x93) = .int x93 ∧ P (.inl (some (.int x93))) w93.1) (wv_pr P))) ∧ (¬ v1 = (110 : Int32) → (v1 = (111 : Int32) → narrow .boolean (.int (0 : Int32)) = .int (0 : Int32) ∧ P (.inl (some (.int (0 : Int32)))) w.1) ∧ (¬ v1 = (111 : Int32) → (v1 = (112 : Int32) → narrow .boolean (.int (0 : Int32)) = .int (0 : Int32) ∧ P (.inl (some (.int (0 : Int32)))) w.1) ∧ (¬ v1 = (112 : Int32) → (v1 = (113 : Int32) → narrow .boolean (.int (0 : Int32)) = .int (0 : Int32) ∧ P (.inl (some (.int (0 : Int32)))) w.1) ∧ (¬ v1 = (113 : Int32) → (v1 = (114 : Int32) → narrow .boolean (.int (0 : Int32)) = .int (0 : Int32) ∧ P (.inl (some (.int (0 : Int32)))) w.1) ∧ (¬ v1 = (114 : Int32) → (v1 = (115 : Int32) → vc_X4_isStep_129 G fr P v2 w) ∧ (¬ v1 = (115 : Int32) → (v1 = (116 : Int32) → wv_c0 G fr yX4_in [.int v2, .int (0 : Int32), .int (3 : Int32)] w (wv_rI (fun x141 w141 => (x141 = 0 → narrow .boolean (.int (0 : Int32)) = .int (0 : Int32) ∧ P (.inl (some (.int (0 : Int32)))) w141.1) ∧ (¬ x141 = 0 → wv_c0 G fr yX4_in [.int v3, .int (-99 : Int32), .int (99 : Int32)] w141 (wv_rI (fun x152 w152 => (x152 = 0 → narrow .boolean (.int (0 : Int32)) = .int (0 : Int32) ∧ P (.inl (some (.int (0 : Int32)))) w152.1) ∧ (¬ x152 = 0 → narrow .boolean (.int (1 : Int32)) = .int (1 : Int32) ∧ P (.inl (some (.int (1 : Int32)))) w152.1)) (wv_pr P)))) (wv_pr P))) ∧ (¬ v1 = (116 : Int32) → narrow .boolean (.int (0 : Int32)) = .int (0 : Int32) ∧ P (.inl (some (.int (0 : Int32)))) w.1))))))))))))))))))
set_option maxHeartbeats 4000000 in
theorem wk_X4_isStep_129 {G : wv_G} {p : Program} {e : Env} {R : Room} {s : State} {m : MethodId} {args : Array Value} {below : List Frame} {meth : Method} {c : Code} {fr : Nat} {P : wv_R → wv_H → Prop} (X : wv_ok G p R s m args meth c fr "WeaversgateModel" cX4_isStep 4 (Option.some Jvm.ClassFile.FieldType.boolean) "isStep" []) {v2 : Int32} {w : wv_W} (hv : vc_X4_isStep_129 G fr P v2 w) : wv_J G p e R s m args below meth c 4 P w 129 [(2, .int v2)] [] := by
  intro H locs cells slots ls S hl
  unfold vc_X4_isStep_129 at hv
  refine lv_iload_n X.hx X.hb dX4_isStep_129 rfl (lv_at hl 0 rfl) ?_
  refine lv_iconst (v := (0 : Int32)) X.hx X.hb dX4_isStep_130 (by decide) ?_
  refine lv_iconst (v := (3 : Int32)) X.hx X.hb dX4_isStep_131 (by decide) ?_
  refine wq_cS_I X S hv q1875 q1876 q66 ⟨by decide +kernel, by decide +kernel⟩ (nA := 3) (As := [.int v2, .int (0 : Int32), .int (3 : Int32)]) (by decide +kernel) rfl rfl (by simp [wv_rfc, wv_kI, wv_kJ, wv_kF, wv_kD]) hl.1 dX4_isStep_132 (fun x132 w132 H locs cells slots S hv => ?_) (wq_kx X rfl)
  refine lv_goto (tgt := 167) X.hx X.hb dX4_isStep_135 (by decide) ?_
  exact wr_iret X S hv.1 hv.2 dX4_isStep_167
set_option maxHeartbeats 4000000 in
theorem wk_X4_isStep_0 {G : wv_G} {p : Program} {e : Env} {R : Room} {s : State} {m : MethodId} {args : Array Value} {below : List Frame} {meth : Method} {c : Code} {fr : Nat} {P : wv_R → wv_H → Prop} (X : wv_ok G p R s m args meth c fr "WeaversgateModel" cX4_isStep 4 (Option.some Jvm.ClassFile.FieldType.boolean) "isStep" []) {v0 : Option Nat} {v1 : Int32} {v2 : Int32} {v3 : Int32} {w : wv_W} (hv : vc_X4_isStep_0 G fr P v0 v1 v2 v3 w) : wv_J G p e R s m args below meth c 4 P w 0 [(0, va_rf v0), (1, .int v1), (2, .int v2), (3, .int v3)] [] := by
  intro H locs cells slots ls S hl
  unfold vc_X4_isStep_0 at hv
  refine lv_iload_n X.hx X.hb dX4_isStep_0 rfl (lv_at hl 1 rfl) ?_
  by_cases h1_0 : v1 = (99 : Int32)
  · have hv := hv.1 h1_0
    refine lv_tableIn (tgt := 99) (off := 98) X.hx X.hb dX4_isStep_1 (by rw [h1_0]; decide) (by rw [h1_0]; decide) (by rw [h1_0]; decide) (by decide) ?_
    refine lv_iload_n X.hx X.hb dX4_isStep_99 rfl (lv_at hl 2 rfl) ?_
    refine wq_cS_I X S hv q1882 q1883 q66 ⟨by decide +kernel, by decide +kernel⟩ (nA := 1) (As := [.int v2]) (by decide +kernel) rfl rfl (by simp [wv_rfc, wv_kI, wv_kJ, wv_kF, wv_kD]) hl.1 dX4_isStep_100 (fun x100 w100 H locs cells slots S hv => ?_) (wq_kx X rfl)
    refine lv_goto (tgt := 167) X.hx X.hb dX4_isStep_103 (by decide) ?_
    exact wr_iret X S hv.1 hv.2 dX4_isStep_167
  · have hv := hv.2 h1_0
    by_cases h1_1 : v1 = (100 : Int32)
    · have hv := hv.1 h1_1
      refine lv_tableIn (tgt := 166) (off := 165) X.hx X.hb dX4_isStep_1 (by rw [h1_1]; decide) (by rw [h1_1]; decide) (by rw [h1_1]; decide) (by decide) ?_
      refine lv_iconst (v := (0 : Int32)) X.hx X.hb dX4_isStep_166 (by decide) ?_
      exact wr_iret X S hv.1 hv.2 dX4_isStep_167
    · have hv := hv.2 h1_1
      by_cases h1_2 : v1 = (101 : Int32)
      · have hv := hv.1 h1_2
        refine lv_tableIn (tgt := 166) (off := 165) X.hx X.hb dX4_isStep_1 (by rw [h1_2]; decide) (by rw [h1_2]; decide) (by rw [h1_2]; decide) (by decide) ?_
        refine lv_iconst (v := (0 : Int32)) X.hx X.hb dX4_isStep_166 (by decide) ?_
        exact wr_iret X S hv.1 hv.2 dX4_isStep_167
      · have hv := hv.2 h1_2
        by_cases h1_3 : v1 = (102 : Int32)
        · have hv := hv.1 h1_3
          refine lv_tableIn (tgt := 166) (off := 165) X.hx X.hb dX4_isStep_1 (by rw [h1_3]; decide) (by rw [h1_3]; decide) (by rw [h1_3]; decide) (by decide) ?_
          refine lv_iconst (v := (0 : Int32)) X.hx X.hb dX4_isStep_166 (by decide) ?_
          exact wr_iret X S hv.1 hv.2 dX4_isStep_167
        · have hv := hv.2 h1_3
          by_cases h1_4 : v1 = (103 : Int32)
          · have hv := hv.1 h1_4
            refine lv_tableIn (tgt := 129) (off := 128) X.hx X.hb dX4_isStep_1 (by rw [h1_4]; decide) (by rw [h1_4]; decide) (by rw [h1_4]; decide) (by decide) ?_
            exact wk_X4_isStep_129 X  hv H locs cells slots ls S (lv_sub hl [2] rfl)
          · have hv := hv.2 h1_4
            by_cases h1_5 : v1 = (104 : Int32)
            · have hv := hv.1 h1_5
              refine lv_tableIn (tgt := 129) (off := 128) X.hx X.hb dX4_isStep_1 (by rw [h1_5]; decide) (by rw [h1_5]; decide) (by rw [h1_5]; decide) (by decide) ?_
              exact wk_X4_isStep_129 X  hv H locs cells slots ls S (lv_sub hl [2] rfl)
            · have hv := hv.2 h1_5
              by_cases h1_6 : v1 = (105 : Int32)
              · have hv := hv.1 h1_6
                refine lv_tableIn (tgt := 166) (off := 165) X.hx X.hb dX4_isStep_1 (by rw [h1_6]; decide) (by rw [h1_6]; decide) (by rw [h1_6]; decide) (by decide) ?_
                refine lv_iconst (v := (0 : Int32)) X.hx X.hb dX4_isStep_166 (by decide) ?_
                exact wr_iret X S hv.1 hv.2 dX4_isStep_167
              · have hv := hv.2 h1_6
                by_cases h1_7 : v1 = (106 : Int32)
                · have hv := hv.1 h1_7
                  refine lv_tableIn (tgt := 166) (off := 165) X.hx X.hb dX4_isStep_1 (by rw [h1_7]; decide) (by rw [h1_7]; decide) (by rw [h1_7]; decide) (by decide) ?_
                  refine lv_iconst (v := (0 : Int32)) X.hx X.hb dX4_isStep_166 (by decide) ?_
                  exact wr_iret X S hv.1 hv.2 dX4_isStep_167
                · have hv := hv.2 h1_7
                  by_cases h1_8 : v1 = (107 : Int32)
                  · have hv := hv.1 h1_8
                    refine lv_tableIn (tgt := 166) (off := 165) X.hx X.hb dX4_isStep_1 (by rw [h1_8]; decide) (by rw [h1_8]; decide) (by rw [h1_8]; decide) (by decide) ?_
                    refine lv_iconst (v := (0 : Int32)) X.hx X.hb dX4_isStep_166 (by decide) ?_
                    exact wr_iret X S hv.1 hv.2 dX4_isStep_167
                  · have hv := hv.2 h1_8
                    by_cases h1_9 : v1 = (108 : Int32)
                    · have hv := hv.1 h1_9
                      refine lv_tableIn (tgt := 166) (off := 165) X.hx X.hb dX4_isStep_1 (by rw [h1_9]; decide) (by rw [h1_9]; decide) (by rw [h1_9]; decide) (by decide) ?_
                      refine lv_iconst (v := (0 : Int32)) X.hx X.hb dX4_isStep_166 (by decide) ?_
                      exact wr_iret X S hv.1 hv.2 dX4_isStep_167
                    · have hv := hv.2 h1_9
                      by_cases h1_10 : v1 = (109 : Int32)
                      · have hv := hv.1 h1_10
                        refine lv_tableIn (tgt := 106) (off := 105) X.hx X.hb dX4_isStep_1 (by rw [h1_10]; decide) (by rw [h1_10]; decide) (by rw [h1_10]; decide) (by decide) ?_
                        refine wq_aload_n X dX4_isStep_106 rfl (lv_at hl 0 rfl) ?_
                        refine lv_iload_n X.hx X.hb dX4_isStep_107 rfl (lv_at hl 2 rfl) ?_
                        refine wq_cV_I X S hv q1871 q1873 qs35 q66 ⟨by decide +kernel, by decide +kernel⟩ (nA := 1) (As := [.int v2]) (by decide +kernel) rfl rfl (by simp [wv_rfc, wv_kI, wv_kJ, wv_kF, wv_kD]) hl.1 dX4_isStep_108 (fun x108 w108 H locs cells slots S hv => ?_) (wq_kx X rfl)
                        refine lv_if_eq (tgt := 125) X.hx X.hb dX4_isStep_111 (by decide) (fun c111 => ?_) (fun c111 => ?_)
                        · have hv := hv.1 c111
                          refine lv_iconst (v := (0 : Int32)) X.hx X.hb dX4_isStep_125 (by decide) ?_
                          refine lv_goto (tgt := 167) X.hx X.hb dX4_isStep_126 (by decide) ?_
                          exact wr_iret X S hv.1 hv.2 dX4_isStep_167
                        · have hv := hv.2 c111
                          refine lv_iload_n X.hx X.hb dX4_isStep_114 rfl (lv_at hl 3 rfl) ?_
                          refine wq_cS_I X S hv q1882 q1883 q66 ⟨by decide +kernel, by decide +kernel⟩ (nA := 1) (As := [.int v3]) (by decide +kernel) rfl rfl (by simp [wv_rfc, wv_kI, wv_kJ, wv_kF, wv_kD]) hl.1 dX4_isStep_115 (fun x115 w115 H locs cells slots S hv => ?_) (wq_kx X rfl)
                          refine lv_if_eq (tgt := 125) X.hx X.hb dX4_isStep_118 (by decide) (fun c118 => ?_) (fun c118 => ?_)
                          · have hv := hv.1 c118
                            refine lv_iconst (v := (0 : Int32)) X.hx X.hb dX4_isStep_125 (by decide) ?_
                            refine lv_goto (tgt := 167) X.hx X.hb dX4_isStep_126 (by decide) ?_
                            exact wr_iret X S hv.1 hv.2 dX4_isStep_167
                          · have hv := hv.2 c118
                            refine lv_iconst (v := (1 : Int32)) X.hx X.hb dX4_isStep_121 (by decide) ?_
                            refine lv_goto (tgt := 167) X.hx X.hb dX4_isStep_122 (by decide) ?_
                            exact wr_iret X S hv.1 hv.2 dX4_isStep_167
                      · have hv := hv.2 h1_10
                        by_cases h1_11 : v1 = (110 : Int32)
                        · have hv := hv.1 h1_11
                          refine lv_tableIn (tgt := 88) (off := 87) X.hx X.hb dX4_isStep_1 (by rw [h1_11]; decide) (by rw [h1_11]; decide) (by rw [h1_11]; decide) (by decide) ?_
                          refine lv_iload_n X.hx X.hb dX4_isStep_88 rfl (lv_at hl 2 rfl) ?_
                          refine lv_bipush (v := (-99 : Int32)) X.hx X.hb dX4_isStep_89 (by decide) ?_
                          refine lv_bipush (v := (99 : Int32)) X.hx X.hb dX4_isStep_91 (by decide) ?_
                          refine wq_cS_I X S hv q1875 q1876 q66 ⟨by decide +kernel, by decide +kernel⟩ (nA := 3) (As := [.int v2, .int (-99 : Int32), .int (99 : Int32)]) (by decide +kernel) rfl rfl (by simp [wv_rfc, wv_kI, wv_kJ, wv_kF, wv_kD]) hl.1 dX4_isStep_93 (fun x93 w93 H locs cells slots S hv => ?_) (wq_kx X rfl)
                          refine lv_goto (tgt := 167) X.hx X.hb dX4_isStep_96 (by decide) ?_
                          exact wr_iret X S hv.1 hv.2 dX4_isStep_167
                        · have hv := hv.2 h1_11
                          by_cases h1_12 : v1 = (111 : Int32)
                          · have hv := hv.1 h1_12
                            refine lv_tableIn (tgt := 166) (off := 165) X.hx X.hb dX4_isStep_1 (by rw [h1_12]; decide) (by rw [h1_12]; decide) (by rw [h1_12]; decide) (by decide) ?_
                            refine lv_iconst (v := (0 : Int32)) X.hx X.hb dX4_isStep_166 (by decide) ?_
                            exact wr_iret X S hv.1 hv.2 dX4_isStep_167
                          · have hv := hv.2 h1_12
                            by_cases h1_13 : v1 = (112 : Int32)
                            · have hv := hv.1 h1_13
                              refine lv_tableIn (tgt := 166) (off := 165) X.hx X.hb dX4_isStep_1 (by rw [h1_13]; decide) (by rw [h1_13]; decide) (by rw [h1_13]; decide) (by decide) ?_
                              refine lv_iconst (v := (0 : Int32)) X.hx X.hb dX4_isStep_166 (by decide) ?_
                              exact wr_iret X S hv.1 hv.2 dX4_isStep_167
                            · have hv := hv.2 h1_13
                              by_cases h1_14 : v1 = (113 : Int32)
                              · have hv := hv.1 h1_14
                                refine lv_tableIn (tgt := 166) (off := 165) X.hx X.hb dX4_isStep_1 (by rw [h1_14]; decide) (by rw [h1_14]; decide) (by rw [h1_14]; decide) (by decide) ?_
                                refine lv_iconst (v := (0 : Int32)) X.hx X.hb dX4_isStep_166 (by decide) ?_
                                exact wr_iret X S hv.1 hv.2 dX4_isStep_167
                              · have hv := hv.2 h1_14
                                by_cases h1_15 : v1 = (114 : Int32)
                                · have hv := hv.1 h1_15
                                  refine lv_tableIn (tgt := 166) (off := 165) X.hx X.hb dX4_isStep_1 (by rw [h1_15]; decide) (by rw [h1_15]; decide) (by rw [h1_15]; decide) (by decide) ?_
                                  refine lv_iconst (v := (0 : Int32)) X.hx X.hb dX4_isStep_166 (by decide) ?_
                                  exact wr_iret X S hv.1 hv.2 dX4_isStep_167
                                · have hv := hv.2 h1_15
                                  by_cases h1_16 : v1 = (115 : Int32)
                                  · have hv := hv.1 h1_16
                                    refine lv_tableIn (tgt := 129) (off := 128) X.hx X.hb dX4_isStep_1 (by rw [h1_16]; decide) (by rw [h1_16]; decide) (by rw [h1_16]; decide) (by decide) ?_
                                    exact wk_X4_isStep_129 X  hv H locs cells slots ls S (lv_sub hl [2] rfl)
                                  · have hv := hv.2 h1_16
                                    by_cases h1_17 : v1 = (116 : Int32)
                                    · have hv := hv.1 h1_17
                                      refine lv_tableIn (tgt := 138) (off := 137) X.hx X.hb dX4_isStep_1 (by rw [h1_17]; decide) (by rw [h1_17]; decide) (by rw [h1_17]; decide) (by decide) ?_
                                      refine lv_iload_n X.hx X.hb dX4_isStep_138 rfl (lv_at hl 2 rfl) ?_
                                      refine lv_iconst (v := (0 : Int32)) X.hx X.hb dX4_isStep_139 (by decide) ?_
                                      refine lv_iconst (v := (3 : Int32)) X.hx X.hb dX4_isStep_140 (by decide) ?_
                                      refine wq_cS_I X S hv q1875 q1876 q66 ⟨by decide +kernel, by decide +kernel⟩ (nA := 3) (As := [.int v2, .int (0 : Int32), .int (3 : Int32)]) (by decide +kernel) rfl rfl (by simp [wv_rfc, wv_kI, wv_kJ, wv_kF, wv_kD]) hl.1 dX4_isStep_141 (fun x141 w141 H locs cells slots S hv => ?_) (wq_kx X rfl)
                                      refine lv_if_eq (tgt := 162) X.hx X.hb dX4_isStep_144 (by decide) (fun c144 => ?_) (fun c144 => ?_)
                                      · have hv := hv.1 c144
                                        refine lv_iconst (v := (0 : Int32)) X.hx X.hb dX4_isStep_162 (by decide) ?_
                                        refine lv_goto (tgt := 167) X.hx X.hb dX4_isStep_163 (by decide) ?_
                                        exact wr_iret X S hv.1 hv.2 dX4_isStep_167
                                      · have hv := hv.2 c144
                                        refine lv_iload_n X.hx X.hb dX4_isStep_147 rfl (lv_at hl 3 rfl) ?_
                                        refine lv_bipush (v := (-99 : Int32)) X.hx X.hb dX4_isStep_148 (by decide) ?_
                                        refine lv_bipush (v := (99 : Int32)) X.hx X.hb dX4_isStep_150 (by decide) ?_
                                        refine wq_cS_I X S hv q1875 q1876 q66 ⟨by decide +kernel, by decide +kernel⟩ (nA := 3) (As := [.int v3, .int (-99 : Int32), .int (99 : Int32)]) (by decide +kernel) rfl rfl (by simp [wv_rfc, wv_kI, wv_kJ, wv_kF, wv_kD]) hl.1 dX4_isStep_152 (fun x152 w152 H locs cells slots S hv => ?_) (wq_kx X rfl)
                                        refine lv_if_eq (tgt := 162) X.hx X.hb dX4_isStep_155 (by decide) (fun c155 => ?_) (fun c155 => ?_)
                                        · have hv := hv.1 c155
                                          refine lv_iconst (v := (0 : Int32)) X.hx X.hb dX4_isStep_162 (by decide) ?_
                                          refine lv_goto (tgt := 167) X.hx X.hb dX4_isStep_163 (by decide) ?_
                                          exact wr_iret X S hv.1 hv.2 dX4_isStep_167
                                        · have hv := hv.2 c155
                                          refine lv_iconst (v := (1 : Int32)) X.hx X.hb dX4_isStep_158 (by decide) ?_
                                          refine lv_goto (tgt := 167) X.hx X.hb dX4_isStep_159 (by decide) ?_
                                          exact wr_iret X S hv.1 hv.2 dX4_isStep_167
                                    · have hv := hv.2 h1_17
                                      refine lv_tableOut (tgt := 166) X.hx X.hb dX4_isStep_1 (by have n0 := lv_neT h1_0 (a := 99) (by decide); have n1 := lv_neT h1_1 (a := 100) (by decide); have n2 := lv_neT h1_2 (a := 101) (by decide); have n3 := lv_neT h1_3 (a := 102) (by decide); have n4 := lv_neT h1_4 (a := 103) (by decide); have n5 := lv_neT h1_5 (a := 104) (by decide); have n6 := lv_neT h1_6 (a := 105) (by decide); have n7 := lv_neT h1_7 (a := 106) (by decide); have n8 := lv_neT h1_8 (a := 107) (by decide); have n9 := lv_neT h1_9 (a := 108) (by decide); have n10 := lv_neT h1_10 (a := 109) (by decide); have n11 := lv_neT h1_11 (a := 110) (by decide); have n12 := lv_neT h1_12 (a := 111) (by decide); have n13 := lv_neT h1_13 (a := 112) (by decide); have n14 := lv_neT h1_14 (a := 113) (by decide); have n15 := lv_neT h1_15 (a := 114) (by decide); have n16 := lv_neT h1_16 (a := 115) (by decide); have n17 := lv_neT h1_17 (a := 116) (by decide); omega) (by decide) ?_
                                      refine lv_iconst (v := (0 : Int32)) X.hx X.hb dX4_isStep_166 (by decide) ?_
                                      exact wr_iret X S hv.1 hv.2 dX4_isStep_167
theorem wk_X4_isStep {G : wv_G} (hG : wv_G0 G) {v0 : Option Nat} {v1 : Int32} {v2 : Int32} {v3 : Int32} {h : wv_H} {fr kc ks : Nat} {P : wv_R → wv_H → Prop} (hv : vc_X4_isStep_0 G fr P v0 v1 v2 v3 (h, kc, ks)) : wv_C G yX4_isStep [va_rf v0, .int v1, .int v2, .int v3] h fr kc ks P := by
  refine wv_enter (lv := [(0, va_rf v0), (1, .int v1), (2, .int v2), (3, .int v3)]) hG (by decide +kernel) q1888 (by decide) (by simp [lg_sl, wv_rfc, wv_kI, wv_kJ, wv_kF, wv_kD]) (by simp [lv_args, wv_rfc, wv_kI, wv_kJ, wv_kF, wv_kD]) ?_
  intro p e R s m args below meth c X H locs cells slots ls S hl
  exact wk_X4_isStep_0 X hv H locs cells slots ls S (lv_sub hl [0, 1, 2, 3] rfl)

def vc_X4_joined_13 (G : wv_G) (fr : Nat) (P : wv_R → wv_H → Prop) (v1 : Int32) (v2 : Int32) (s0 : Int32) (w : wv_W) : Prop :=
  (v1 = s0 → narrow .char (.int s0) = .int s0 ∧ P (.inl (some (.int s0))) w.1) ∧ (¬ v1 = s0 → (¬ v2 = s0 → (v1 = (109 : Int32) → narrow .char (.int (109 : Int32)) = .int (109 : Int32) ∧ P (.inl (some (.int (109 : Int32)))) w.1) ∧ (¬ v1 = (109 : Int32) → (¬ v2 = (109 : Int32) → wv_c0 G fr yX4_turned [.int s0] w (wv_rI (fun x44 w44 => narrow .char (.int x44) = .int x44 ∧ P (.inl (some (.int x44))) w44.1) (wv_pr P))) ∧ (v2 = (109 : Int32) → narrow .char (.int (109 : Int32)) = .int (109 : Int32) ∧ P (.inl (some (.int (109 : Int32)))) w.1))) ∧ (v2 = s0 → narrow .char (.int s0) = .int s0 ∧ P (.inl (some (.int s0))) w.1))
def vc_X4_joined_0 (G : wv_G) (fr : Nat) (P : wv_R → wv_H → Prop) (v0 : Int32) (v1 : Int32) (v2 : Int32) (w : wv_W) : Prop :=
  (¬ v0 = (38 : Int32) → vc_X4_joined_13 G fr P v1 v2 (121 : Int32) w) ∧ (v0 = (38 : Int32) → vc_X4_joined_13 G fr P v1 v2 (110 : Int32) w)
set_option maxHeartbeats 4000000 in
theorem wk_X4_joined_13 {G : wv_G} {p : Program} {e : Env} {R : Room} {s : State} {m : MethodId} {args : Array Value} {below : List Frame} {meth : Method} {c : Code} {fr : Nat} {P : wv_R → wv_H → Prop} (X : wv_ok G p R s m args meth c fr "WeaversgateModel" cX4_joined 4 (Option.some Jvm.ClassFile.FieldType.char) "joined" []) {v1 : Int32} {v2 : Int32} {s0 : Int32} {w : wv_W} (hv : vc_X4_joined_13 G fr P v1 v2 s0 w) : wv_J G p e R s m args below meth c 4 P w 13 [(1, .int v1), (2, .int v2)] [.int s0] := by
  intro H locs cells slots ls S hl
  unfold vc_X4_joined_13 at hv
  refine lv_istore_n X.hx X.hb (i := 3) (lv' := [(3, .int s0), (1, .int v1), (2, .int v2)]) dX4_joined_13 rfl hl (by decide) (by simp [wv_rfc, wv_kI, wv_kJ, wv_kF, wv_kD]) (fun ls hl => ?_)
  refine lv_iload_n X.hx X.hb dX4_joined_14 rfl (lv_at hl 1 rfl) ?_
  refine lv_iload_n X.hx X.hb dX4_joined_15 rfl (lv_at hl 0 rfl) ?_
  refine lv_icmp_eq (tgt := 24) X.hx X.hb dX4_joined_16 (by decide) (fun c16 => ?_) (fun c16 => ?_)
  · have hv := hv.1 c16
    refine lv_iload_n X.hx X.hb dX4_joined_24 rfl (lv_at hl 0 rfl) ?_
    exact wr_iret X S hv.1 hv.2 dX4_joined_25
  · have hv := hv.2 c16
    refine lv_iload_n X.hx X.hb dX4_joined_19 rfl (lv_at hl 2 rfl) ?_
    refine lv_iload_n X.hx X.hb dX4_joined_20 rfl (lv_at hl 0 rfl) ?_
    refine lv_icmp_ne (tgt := 26) X.hx X.hb dX4_joined_21 (by decide) (fun c21 => ?_) (fun c21 => ?_)
    · have hv := hv.1 c21
      refine lv_iload_n X.hx X.hb dX4_joined_26 rfl (lv_at hl 1 rfl) ?_
      refine lv_bipush (v := (109 : Int32)) X.hx X.hb dX4_joined_27 (by decide) ?_
      refine lv_icmp_eq (tgt := 38) X.hx X.hb dX4_joined_29 (by decide) (fun c29 => ?_) (fun c29 => ?_)
      · have hv := hv.1 c29
        refine lv_bipush (v := (109 : Int32)) X.hx X.hb dX4_joined_38 (by decide) ?_
        refine lv_goto (tgt := 47) X.hx X.hb dX4_joined_40 (by decide) ?_
        exact wr_iret X S hv.1 hv.2 dX4_joined_47
      · have hv := hv.2 c29
        refine lv_iload_n X.hx X.hb dX4_joined_32 rfl (lv_at hl 2 rfl) ?_
        refine lv_bipush (v := (109 : Int32)) X.hx X.hb dX4_joined_33 (by decide) ?_
        refine lv_icmp_ne (tgt := 43) X.hx X.hb dX4_joined_35 (by decide) (fun c35 => ?_) (fun c35 => ?_)
        · have hv := hv.1 c35
          refine lv_iload_n X.hx X.hb dX4_joined_43 rfl (lv_at hl 0 rfl) ?_
          refine wq_cS_I X S hv q2160 q2161 q66 ⟨by decide +kernel, by decide +kernel⟩ (nA := 1) (As := [.int s0]) (by decide +kernel) rfl rfl (by simp [wv_rfc, wv_kI, wv_kJ, wv_kF, wv_kD]) hl.1 dX4_joined_44 (fun x44 w44 H locs cells slots S hv => ?_) (wq_kx X rfl)
          exact wr_iret X S hv.1 hv.2 dX4_joined_47
        · have hv := hv.2 c35
          refine lv_bipush (v := (109 : Int32)) X.hx X.hb dX4_joined_38 (by decide) ?_
          refine lv_goto (tgt := 47) X.hx X.hb dX4_joined_40 (by decide) ?_
          exact wr_iret X S hv.1 hv.2 dX4_joined_47
    · have hv := hv.2 c21
      refine lv_iload_n X.hx X.hb dX4_joined_24 rfl (lv_at hl 0 rfl) ?_
      exact wr_iret X S hv.1 hv.2 dX4_joined_25
set_option maxHeartbeats 4000000 in
theorem wk_X4_joined_0 {G : wv_G} {p : Program} {e : Env} {R : Room} {s : State} {m : MethodId} {args : Array Value} {below : List Frame} {meth : Method} {c : Code} {fr : Nat} {P : wv_R → wv_H → Prop} (X : wv_ok G p R s m args meth c fr "WeaversgateModel" cX4_joined 4 (Option.some Jvm.ClassFile.FieldType.char) "joined" []) {v0 : Int32} {v1 : Int32} {v2 : Int32} {w : wv_W} (hv : vc_X4_joined_0 G fr P v0 v1 v2 w) : wv_J G p e R s m args below meth c 4 P w 0 [(0, .int v0), (1, .int v1), (2, .int v2)] [] := by
  intro H locs cells slots ls S hl
  unfold vc_X4_joined_0 at hv
  refine lv_iload_n X.hx X.hb dX4_joined_0 rfl (lv_at hl 0 rfl) ?_
  refine lv_bipush (v := (38 : Int32)) X.hx X.hb dX4_joined_1 (by decide) ?_
  refine lv_icmp_ne (tgt := 11) X.hx X.hb dX4_joined_3 (by decide) (fun c3 => ?_) (fun c3 => ?_)
  · have hv := hv.1 c3
    refine lv_bipush (v := (121 : Int32)) X.hx X.hb dX4_joined_11 (by decide) ?_
    exact wk_X4_joined_13 X  hv H locs cells slots ls S (lv_sub hl [1, 2] rfl)
  · have hv := hv.2 c3
    refine lv_bipush (v := (110 : Int32)) X.hx X.hb dX4_joined_6 (by decide) ?_
    refine lv_goto (tgt := 13) X.hx X.hb dX4_joined_8 (by decide) ?_
    exact wk_X4_joined_13 X  hv H locs cells slots ls S (lv_sub hl [1, 2] rfl)
theorem wk_X4_joined {G : wv_G} (hG : wv_G0 G) {v0 : Int32} {v1 : Int32} {v2 : Int32} {h : wv_H} {fr kc ks : Nat} {P : wv_R → wv_H → Prop} (hv : vc_X4_joined_0 G fr P v0 v1 v2 (h, kc, ks)) : wv_C G yX4_joined [.int v0, .int v1, .int v2] h fr kc ks P := by
  refine wv_enter (lv := [(0, .int v0), (1, .int v1), (2, .int v2)]) hG (by decide +kernel) q2165 (by decide) (by simp [lg_sl, wv_rfc, wv_kI, wv_kJ, wv_kF, wv_kD]) (by simp [lv_args, wv_rfc, wv_kI, wv_kJ, wv_kF, wv_kD]) ?_
  intro p e R s m args below meth c X H locs cells slots ls S hl
  exact wk_X4_joined_0 X hv H locs cells slots ls S (lv_sub hl [0, 1, 2] rfl)

def vc_X4_lowest_2 (G : wv_G) (fr : Nat) (P : wv_R → wv_H → Prop) (K2 : ((Option Nat) × Int32) → wv_W → Prop) (v0 : Option Nat) (v1 : Int32) (w : wv_W) : Prop :=
  wv_gI w v0 ciX4 13 (fun x4 => (x4 ≤ v1 → P (.inl (some (.int (-1 : Int32)))) w.1) ∧ (¬ x4 ≤ v1 → wv_cV G fr yX4_body v0 [.int v1, .int (0 : Int32)] w (wv_rA (fun x13 w13 => (x13 = none → K2 (v0, (v1 + (1 : Int32))) w13) ∧ (¬ x13 = none → P (.inl (some (.int v1))) w13.1)) (wv_pr P))))
def vc_X4_lowest_0 (G : wv_G) (fr : Nat) (P : wv_R → wv_H → Prop) (v0 : Option Nat) (w : wv_W) : Prop :=
  wv_L (fun K2 a w => vc_X4_lowest_2 G fr P K2 a.1 a.2 w) (v0, (0 : Int32)) w
set_option maxHeartbeats 4000000 in
theorem wk_X4_lowest_2 {G : wv_G} {p : Program} {e : Env} {R : Room} {s : State} {m : MethodId} {args : Array Value} {below : List Frame} {meth : Method} {c : Code} {fr : Nat} {P : wv_R → wv_H → Prop} (X : wv_ok G p R s m args meth c fr "WeaversgateModel" cX4_lowest 2 (Option.some Jvm.ClassFile.FieldType.int) "lowest" []) {K2 : ((Option Nat) × Int32) → wv_W → Prop} (hK2 : ∀ a w, K2 a w → wv_J G p e R s m args below meth c 2 P w 2 [(0, va_rf a.1), (1, .int a.2)] []) {v0 : Option Nat} {v1 : Int32} {w : wv_W} (hv : vc_X4_lowest_2 G fr P K2 v0 v1 w) : wv_J G p e R s m args below meth c 2 P w 2 [(0, va_rf v0), (1, .int v1)] [] := by
  intro H locs cells slots ls S hl
  unfold vc_X4_lowest_2 at hv
  refine lv_iload_n X.hx X.hb dX4_lowest_2 rfl (lv_at hl 1 rfl) ?_
  refine wq_aload_n X dX4_lowest_3 rfl (lv_at hl 0 rfl) ?_
  refine wq_gI X S hv ccX4 in_X4 (k := 13) (by decide) q1822 dX4_lowest_4 (fun x4 hv => ?_)
  refine lv_icmp_ge (tgt := 27) X.hx X.hb dX4_lowest_7 (by decide) (fun c7 => ?_) (fun c7 => ?_)
  · have hv := hv.1 c7
    refine lv_iconst (v := (-1 : Int32)) X.hx X.hb dX4_lowest_27 (by decide) ?_
    exact wr_iret X S rfl hv dX4_lowest_28
  · have hv := hv.2 c7
    refine wq_aload_n X dX4_lowest_10 rfl (lv_at hl 0 rfl) ?_
    refine lv_iload_n X.hx X.hb dX4_lowest_11 rfl (lv_at hl 1 rfl) ?_
    refine lv_iconst (v := (0 : Int32)) X.hx X.hb dX4_lowest_12 (by decide) ?_
    refine wq_cV_A X S hv q1889 q1891 qs37 q66 ⟨by decide +kernel, by decide +kernel⟩ (nA := 2) (As := [.int v1, .int (0 : Int32)]) (by decide +kernel) rfl rfl (by simp [wv_rfc, wv_kI, wv_kJ, wv_kF, wv_kD]) hl.1 dX4_lowest_13 (fun x13 w13 H locs cells slots S hv => ?_) (wq_kx X rfl)
    refine wq_ifnull (tgt := 21) X dX4_lowest_16 (by decide) (fun c16 => ?_) (fun c16 => ?_)
    · have hv := hv.1 c16
      refine lv_iinc (v := (v1 + (1 : Int32))) (lv' := [(1, .int (v1 + (1 : Int32))), (0, va_rf v0)]) X.hx X.hb dX4_lowest_21 hl (k := 1) rfl (by rfl) (by decide) (by simp [wv_rfc, wv_kI, wv_kJ, wv_kF, wv_kD]) (fun ls hl => ?_)
      refine lv_goto (tgt := 2) X.hx X.hb dX4_lowest_24 (by decide) ?_
      exact hK2 _ _ hv H locs cells slots ls S (lv_sub hl [1, 0] rfl)
    · have hv := hv.2 c16
      refine lv_iload_n X.hx X.hb dX4_lowest_19 rfl (lv_at hl 1 rfl) ?_
      exact wr_iret X S rfl hv dX4_lowest_20
set_option maxHeartbeats 4000000 in
theorem wk_X4_lowest_0 {G : wv_G} {p : Program} {e : Env} {R : Room} {s : State} {m : MethodId} {args : Array Value} {below : List Frame} {meth : Method} {c : Code} {fr : Nat} {P : wv_R → wv_H → Prop} (X : wv_ok G p R s m args meth c fr "WeaversgateModel" cX4_lowest 2 (Option.some Jvm.ClassFile.FieldType.int) "lowest" []) {v0 : Option Nat} {w : wv_W} (hv : vc_X4_lowest_0 G fr P v0 w) : wv_J G p e R s m args below meth c 2 P w 0 [(0, va_rf v0)] [] := by
  intro H locs cells slots ls S hl
  unfold vc_X4_lowest_0 at hv
  refine lv_iconst (v := (0 : Int32)) X.hx X.hb dX4_lowest_0 (by decide) ?_
  refine lv_istore_n X.hx X.hb (i := 1) (lv' := [(1, .int (0 : Int32)), (0, va_rf v0)]) dX4_lowest_1 rfl hl (by decide) (by simp [wv_rfc, wv_kI, wv_kJ, wv_kF, wv_kD]) (fun ls hl => ?_)
  exact wv_loop (A := (Option Nat) × Int32) (fun a w => wv_J G p e R s m args below meth c 2 P w 2 [(0, va_rf a.1), (1, .int a.2)] []) (fun K2 hK2 a w hv => wk_X4_lowest_2 X hK2 hv) hv H locs cells slots ls S (lv_sub hl [1, 0] rfl)
theorem wk_X4_lowest {G : wv_G} (hG : wv_G0 G) {v0 : Option Nat} {h : wv_H} {fr kc ks : Nat} {P : wv_R → wv_H → Prop} (hv : vc_X4_lowest_0 G fr P v0 (h, kc, ks)) : wv_C G yX4_lowest [va_rf v0] h fr kc ks P := by
  refine wv_enter (lv := [(0, va_rf v0)]) hG (by decide +kernel) q2549 (by decide) (by simp [lg_sl, wv_rfc, wv_kI, wv_kJ, wv_kF, wv_kD]) (by simp [lv_args, wv_rfc, wv_kI, wv_kJ, wv_kF, wv_kD]) ?_
  intro p e R s m args below meth c X H locs cells slots ls S hl
  exact wk_X4_lowest_0 X hv H locs cells slots ls S (lv_sub hl [0] rfl)

def vc_X4_match_58 (G : wv_G) (fr : Nat) (P : wv_R → wv_H → Prop) (v0 : Option Nat) (v1 : Int32) (v2 : Int32) (v3 : Int32) (v4 : Int32) (w : wv_W) : Prop :=
  wv_gI w v0 ciX4 12 (fun x59 => (x59 ≤ 0 → wv_cV G fr yX4_spots v0 [.int v1, .int v2] w (wv_rA (fun x74 w74 => wv_cV G fr yJ2_get x74 [.int v3] w74 (wv_rA (fun x78 w78 => wv_cc G w78 x78 "WeaversgateModel$Spot" (wv_gA w78 v0 ciX4 5 (fun x87 => wv_li G 0 w78 x87 v4 (fun x92 => wv_cV G fr yX4_matches v0 [va_rf x78, .int v1, .int v2, .int x92] w78 (wv_rI (fun x93 w93 => narrow .char (.int x93) = .int x93 ∧ P (.inl (some (.int x93))) w93.1) (wv_pr P)))))) (wv_pr P))) (wv_pr P))) ∧ (¬ x59 ≤ 0 → narrow .char (.int (32 : Int32)) = .int (32 : Int32) ∧ P (.inl (some (.int (32 : Int32)))) w.1))
def vc_X4_match_55 (G : wv_G) (fr : Nat) (P : wv_R → wv_H → Prop) (v0 : Option Nat) (v1 : Int32) (v2 : Int32) (v3 : Int32) (v4 : Int32) (s0 : Int32) (s1 : Option Nat) (w : wv_W) : Prop :=
  wv_pt w s1 ciX4 12 (.int s0) (fun w55 => vc_X4_match_58 G fr P v0 v1 v2 v3 v4 w55)
def vc_X4_match_0 (G : wv_G) (fr : Nat) (P : wv_R → wv_H → Prop) (v0 : Option Nat) (v1 : Int32) (v2 : Int32) (v3 : Int32) (v4 : Int32) (w : wv_W) : Prop :=
  wv_cV G fr yX4_wrong v0 [.int v1, .int v2] w (wv_rI (fun x4 w4 => wv_pt w4 v0 ciX4 12 (.int x4) (fun w7 => wv_gI w7 v0 ciX4 12 (fun x11 => (¬ x11 = 0 → vc_X4_match_58 G fr P v0 v1 v2 v3 v4 w7) ∧ (x11 = 0 → wv_cV G fr yX4_spots v0 [.int v1, .int v2] w7 (wv_rA (fun x23 w23 => wv_cV G fr yJ2_size x23 [] w23 (wv_rI (fun x26 w26 => wv_c0 G fr yX4_in [.int v3, .int (0 : Int32), .int (x26 - (1 : Int32))] w26 (wv_rI (fun x31 w31 => (¬ x31 = 0 → wv_cV G fr yX4_isAdvice v0 [.int v4] w31 (wv_rI (fun x44 w44 => (¬ x44 = 0 → vc_X4_match_55 G fr P v0 v1 v2 v3 v4 (0 : Int32) v0 w44) ∧ (x44 = 0 → vc_X4_match_55 G fr P v0 v1 v2 v3 v4 (3 : Int32) v0 w44)) (wv_pr P))) ∧ (x31 = 0 → vc_X4_match_55 G fr P v0 v1 v2 v3 v4 (2 : Int32) v0 w31)) (wv_pr P))) (wv_pr P))) (wv_pr P)))))) (wv_pr P))
set_option maxHeartbeats 4000000 in
theorem wk_X4_match_58 {G : wv_G} {p : Program} {e : Env} {R : Room} {s : State} {m : MethodId} {args : Array Value} {below : List Frame} {meth : Method} {c : Code} {fr : Nat} {P : wv_R → wv_H → Prop} (X : wv_ok G p R s m args meth c fr "WeaversgateModel" cX4_match 5 (Option.some Jvm.ClassFile.FieldType.char) "match" []) {v0 : Option Nat} {v1 : Int32} {v2 : Int32} {v3 : Int32} {v4 : Int32} {w : wv_W} (hv : vc_X4_match_58 G fr P v0 v1 v2 v3 v4 w) : wv_J G p e R s m args below meth c 5 P w 58 [(0, va_rf v0), (1, .int v1), (2, .int v2), (3, .int v3), (4, .int v4)] [] := by
  intro H locs cells slots ls S hl
  unfold vc_X4_match_58 at hv
  refine wq_aload_n X dX4_match_58 rfl (lv_at hl 0 rfl) ?_
  refine wq_gI X S hv ccX4 in_X4 (k := 12) (by decide) q1821 dX4_match_59 (fun x59 hv => ?_)
  refine lv_if_le (tgt := 70) X.hx X.hb dX4_match_62 (by decide) (fun c62 => ?_) (fun c62 => ?_)
  · have hv := hv.1 c62
    refine wq_aload_n X dX4_match_70 rfl (lv_at hl 0 rfl) ?_
    refine wq_aload_n X dX4_match_71 rfl (lv_at hl 0 rfl) ?_
    refine lv_iload_n X.hx X.hb dX4_match_72 rfl (lv_at hl 1 rfl) ?_
    refine lv_iload_n X.hx X.hb dX4_match_73 rfl (lv_at hl 2 rfl) ?_
    refine wq_cV_A X S hv q2098 q2100 qs46 q66 ⟨by decide +kernel, by decide +kernel⟩ (nA := 2) (As := [.int v1, .int v2]) (by decide +kernel) rfl rfl (by simp [wv_rfc, wv_kI, wv_kJ, wv_kF, wv_kD]) hl.1 dX4_match_74 (fun x74 w74 H locs cells slots S hv => ?_) (wq_kx X rfl)
    refine lv_iload_n X.hx X.hb dX4_match_77 rfl (lv_at hl 3 rfl) ?_
    refine wq_cV_A X S hv q2091 q274 q275 q63 ⟨by decide +kernel, by decide +kernel⟩ (nA := 1) (As := [.int v3]) (by decide +kernel) rfl rfl (by simp [wv_rfc, wv_kI, wv_kJ, wv_kF, wv_kD]) hl.1 dX4_match_78 (fun x78 w78 H locs cells slots S hv => ?_) (wq_kx X rfl)
    refine wq_cc X S hv q2102 dX4_match_81 (fun hv => ?_)
    refine lv_iload_n X.hx X.hb dX4_match_84 rfl (lv_at hl 1 rfl) ?_
    refine lv_iload_n X.hx X.hb dX4_match_85 rfl (lv_at hl 2 rfl) ?_
    refine wq_aload_n X dX4_match_86 rfl (lv_at hl 0 rfl) ?_
    refine wq_gA X S hv ccX4 in_X4 (k := 5) (by decide) q1808 dX4_match_87 (fun x87 hv => ?_)
    refine lv_iload X.hx X.hb dX4_match_90 (lv_at hl 4 rfl) ?_
    refine wq_li0 X S hv dX4_match_92 (fun x92 hv => ?_)
    refine wq_cV_I X S hv q2129 q2131 qs47 q66 ⟨by decide +kernel, by decide +kernel⟩ (nA := 4) (As := [va_rf x78, .int v1, .int v2, .int x92]) (by decide +kernel) rfl rfl (by simp [wv_rfc, wv_kI, wv_kJ, wv_kF, wv_kD]) hl.1 dX4_match_93 (fun x93 w93 H locs cells slots S hv => ?_) (wq_kx X rfl)
    exact wr_iret X S hv.1 hv.2 dX4_match_96
  · have hv := hv.2 c62
    refine lv_bipush (v := (32 : Int32)) X.hx X.hb dX4_match_65 (by decide) ?_
    refine lv_goto (tgt := 96) X.hx X.hb dX4_match_67 (by decide) ?_
    exact wr_iret X S hv.1 hv.2 dX4_match_96
set_option maxHeartbeats 4000000 in
theorem wk_X4_match_55 {G : wv_G} {p : Program} {e : Env} {R : Room} {s : State} {m : MethodId} {args : Array Value} {below : List Frame} {meth : Method} {c : Code} {fr : Nat} {P : wv_R → wv_H → Prop} (X : wv_ok G p R s m args meth c fr "WeaversgateModel" cX4_match 5 (Option.some Jvm.ClassFile.FieldType.char) "match" []) {v0 : Option Nat} {v1 : Int32} {v2 : Int32} {v3 : Int32} {v4 : Int32} {s0 : Int32} {s1 : Option Nat} {w : wv_W} (hv : vc_X4_match_55 G fr P v0 v1 v2 v3 v4 s0 s1 w) : wv_J G p e R s m args below meth c 5 P w 55 [(0, va_rf v0), (1, .int v1), (2, .int v2), (3, .int v3), (4, .int v4)] [.int s0, va_rf s1] := by
  intro H locs cells slots ls S hl
  unfold vc_X4_match_55 at hv
  refine wq_pt X S hv tyX4 tyX4_ok nmX4 ccX4 in_X4 (k := 12) (by decide) q1821 rfl rfl rfl rfl dX4_match_55 (fun w55 H locs S hv => ?_)
  exact wk_X4_match_58 X  hv H locs cells slots ls S (lv_sub hl [0, 1, 2, 3, 4] rfl)
set_option maxHeartbeats 4000000 in
theorem wk_X4_match_0 {G : wv_G} {p : Program} {e : Env} {R : Room} {s : State} {m : MethodId} {args : Array Value} {below : List Frame} {meth : Method} {c : Code} {fr : Nat} {P : wv_R → wv_H → Prop} (X : wv_ok G p R s m args meth c fr "WeaversgateModel" cX4_match 5 (Option.some Jvm.ClassFile.FieldType.char) "match" []) {v0 : Option Nat} {v1 : Int32} {v2 : Int32} {v3 : Int32} {v4 : Int32} {w : wv_W} (hv : vc_X4_match_0 G fr P v0 v1 v2 v3 v4 w) : wv_J G p e R s m args below meth c 5 P w 0 [(0, va_rf v0), (1, .int v1), (2, .int v2), (3, .int v3), (4, .int v4)] [] := by
  intro H locs cells slots ls S hl
  unfold vc_X4_match_0 at hv
  refine wq_aload_n X dX4_match_0 rfl (lv_at hl 0 rfl) ?_
  refine wq_aload_n X dX4_match_1 rfl (lv_at hl 0 rfl) ?_
  refine lv_iload_n X.hx X.hb dX4_match_2 rfl (lv_at hl 1 rfl) ?_
  refine lv_iload_n X.hx X.hb dX4_match_3 rfl (lv_at hl 2 rfl) ?_
  refine wq_cV_I X S hv q1923 q1925 qs38 q66 ⟨by decide +kernel, by decide +kernel⟩ (nA := 2) (As := [.int v1, .int v2]) (by decide +kernel) rfl rfl (by simp [wv_rfc, wv_kI, wv_kJ, wv_kF, wv_kD]) hl.1 dX4_match_4 (fun x4 w4 H locs cells slots S hv => ?_) (wq_kx X rfl)
  refine wq_pt X S hv tyX4 tyX4_ok nmX4 ccX4 in_X4 (k := 12) (by decide) q1821 rfl rfl rfl rfl dX4_match_7 (fun w7 H locs S hv => ?_)
  refine wq_aload_n X dX4_match_10 rfl (lv_at hl 0 rfl) ?_
  refine wq_gI X S hv ccX4 in_X4 (k := 12) (by decide) q1821 dX4_match_11 (fun x11 hv => ?_)
  refine lv_if_ne (tgt := 58) X.hx X.hb dX4_match_14 (by decide) (fun c14 => ?_) (fun c14 => ?_)
  · have hv := hv.1 c14
    exact wk_X4_match_58 X  hv H locs cells slots ls S (lv_sub hl [0, 1, 2, 3, 4] rfl)
  · have hv := hv.2 c14
    refine wq_aload_n X dX4_match_17 rfl (lv_at hl 0 rfl) ?_
    refine lv_iload_n X.hx X.hb dX4_match_18 rfl (lv_at hl 3 rfl) ?_
    refine lv_iconst (v := (0 : Int32)) X.hx X.hb dX4_match_19 (by decide) ?_
    refine wq_aload_n X dX4_match_20 rfl (lv_at hl 0 rfl) ?_
    refine lv_iload_n X.hx X.hb dX4_match_21 rfl (lv_at hl 1 rfl) ?_
    refine lv_iload_n X.hx X.hb dX4_match_22 rfl (lv_at hl 2 rfl) ?_
    refine wq_cV_A X S hv q2098 q2100 qs46 q66 ⟨by decide +kernel, by decide +kernel⟩ (nA := 2) (As := [.int v1, .int v2]) (by decide +kernel) rfl rfl (by simp [wv_rfc, wv_kI, wv_kJ, wv_kF, wv_kD]) hl.1 dX4_match_23 (fun x23 w23 H locs cells slots S hv => ?_) (wq_kx X rfl)
    refine wq_cV_I X S hv q2086 q270 q271 q63 ⟨by decide +kernel, by decide +kernel⟩ (nA := 0) (As := []) (by decide +kernel) rfl rfl (by simp [wv_rfc, wv_kI, wv_kJ, wv_kF, wv_kD]) hl.1 dX4_match_26 (fun x26 w26 H locs cells slots S hv => ?_) (wq_kx X rfl)
    refine lv_iconst (v := (1 : Int32)) X.hx X.hb dX4_match_29 (by decide) ?_
    refine lv_isub X.hx X.hb dX4_match_30 ?_
    refine wq_cS_I X S hv q1875 q1876 q66 ⟨by decide +kernel, by decide +kernel⟩ (nA := 3) (As := [.int v3, .int (0 : Int32), .int (x26 - (1 : Int32))]) (by decide +kernel) rfl rfl (by simp [wv_rfc, wv_kI, wv_kJ, wv_kF, wv_kD]) hl.1 dX4_match_31 (fun x31 w31 H locs cells slots S hv => ?_) (wq_kx X rfl)
    refine lv_if_ne (tgt := 41) X.hx X.hb dX4_match_34 (by decide) (fun c34 => ?_) (fun c34 => ?_)
    · have hv := hv.1 c34
      refine wq_aload_n X dX4_match_41 rfl (lv_at hl 0 rfl) ?_
      refine lv_iload X.hx X.hb dX4_match_42 (lv_at hl 4 rfl) ?_
      refine wq_cV_I X S hv q1971 q1973 qs42 q66 ⟨by decide +kernel, by decide +kernel⟩ (nA := 1) (As := [.int v4]) (by decide +kernel) rfl rfl (by simp [wv_rfc, wv_kI, wv_kJ, wv_kF, wv_kD]) hl.1 dX4_match_44 (fun x44 w44 H locs cells slots S hv => ?_) (wq_kx X rfl)
      refine lv_if_ne (tgt := 54) X.hx X.hb dX4_match_47 (by decide) (fun c47 => ?_) (fun c47 => ?_)
      · have hv := hv.1 c47
        refine lv_iconst (v := (0 : Int32)) X.hx X.hb dX4_match_54 (by decide) ?_
        exact wk_X4_match_55 X  hv H locs cells slots ls S (lv_sub hl [0, 1, 2, 3, 4] rfl)
      · have hv := hv.2 c47
        refine lv_iconst (v := (3 : Int32)) X.hx X.hb dX4_match_50 (by decide) ?_
        refine lv_goto (tgt := 55) X.hx X.hb dX4_match_51 (by decide) ?_
        exact wk_X4_match_55 X  hv H locs cells slots ls S (lv_sub hl [0, 1, 2, 3, 4] rfl)
    · have hv := hv.2 c34
      refine lv_iconst (v := (2 : Int32)) X.hx X.hb dX4_match_37 (by decide) ?_
      refine lv_goto (tgt := 55) X.hx X.hb dX4_match_38 (by decide) ?_
      exact wk_X4_match_55 X  hv H locs cells slots ls S (lv_sub hl [0, 1, 2, 3, 4] rfl)
theorem wk_X4_match {G : wv_G} (hG : wv_G0 G) {v0 : Option Nat} {v1 : Int32} {v2 : Int32} {v3 : Int32} {v4 : Int32} {h : wv_H} {fr kc ks : Nat} {P : wv_R → wv_H → Prop} (hv : vc_X4_match_0 G fr P v0 v1 v2 v3 v4 (h, kc, ks)) : wv_C G yX4_match [va_rf v0, .int v1, .int v2, .int v3, .int v4] h fr kc ks P := by
  refine wv_enter (lv := [(0, va_rf v0), (1, .int v1), (2, .int v2), (3, .int v3), (4, .int v4)]) hG (by decide +kernel) q2128 (by decide) (by simp [lg_sl, wv_rfc, wv_kI, wv_kJ, wv_kF, wv_kD]) (by simp [lv_args, wv_rfc, wv_kI, wv_kJ, wv_kF, wv_kD]) ?_
  intro p e R s m args below meth c X H locs cells slots ls S hl
  exact wk_X4_match_0 X hv H locs cells slots ls S (lv_sub hl [0, 1, 2, 3, 4] rfl)

def vc_X4_matches_224 (G : wv_G) (fr : Nat) (P : wv_R → wv_H → Prop) (s0 : Int32) (w : wv_W) : Prop :=
  wv_c0 G fr yX4_sure [.int s0] w (wv_rI (fun x224 w224 => narrow .char (.int x224) = .int x224 ∧ P (.inl (some (.int x224))) w224.1) (wv_pr P))
def vc_X4_matches_179 (G : wv_G) (fr : Nat) (P : wv_R → wv_H → Prop) (v0 : Option Nat) (v1 : Option Nat) (v2 : Int32) (v3 : Int32) (v4 : Int32) (v5 : Int32) (v6 : Int32) (w : wv_W) : Prop :=
  wv_cV G fr yX4_matches v0 [va_rf v1, .int v2, .int v3, .int v6] w (wv_rI (fun x187 w187 => wv_gA w187 v0 ciX4 3 (fun x195 => wv_li G 0 w187 x195 v4 (fun x200 => wv_cV G fr yX4_matches v0 [va_rf v1, .int v2, .int v3, .int x200] w187 (wv_rI (fun x201 w201 => wv_c0 G fr yX4_joined [.int v5, .int x187, .int x201] w201 (wv_rI (fun x204 w204 => narrow .char (.int x204) = .int x204 ∧ P (.inl (some (.int x204))) w204.1) (wv_pr P))) (wv_pr P))))) (wv_pr P))
def vc_X4_matches_129 (G : wv_G) (fr : Nat) (P : wv_R → wv_H → Prop) (s0 : Int32) (w : wv_W) : Prop :=
  wv_c0 G fr yX4_sure [.int s0] w (wv_rI (fun x129 w129 => narrow .char (.int x129) = .int x129 ∧ P (.inl (some (.int x129))) w129.1) (wv_pr P))
def vc_X4_matches_0 (G : wv_G) (fr : Nat) (P : wv_R → wv_H → Prop) (v0 : Option Nat) (v1 : Option Nat) (v2 : Int32) (v3 : Int32) (v4 : Int32) (w : wv_W) : Prop :=
  wv_gA w v0 ciX4 8 (fun x1 => wv_li G 1 w x1 v4 (fun x6 => wv_gA w v0 ciX4 2 (fun x10 => wv_li G 0 w x10 v4 (fun x15 => (x6 = (33 : Int32) → wv_cV G fr yX4_matches v0 [va_rf v1, .int v2, .int v3, .int x15] w (wv_rI (fun x170 w170 => wv_c0 G fr yX4_turned [.int x170] w170 (wv_rI (fun x173 w173 => narrow .char (.int x173) = .int x173 ∧ P (.inl (some (.int x173))) w173.1) (wv_pr P))) (wv_pr P))) ∧ (¬ x6 = (33 : Int32) → (x6 = (38 : Int32) → vc_X4_matches_179 G fr P v0 v1 v2 v3 v4 x6 x15 w) ∧ (¬ x6 = (38 : Int32) → (x6 = (102 : Int32) → wv_cV G fr yX4_matches v0 [va_rf v1, .int v2, .int v3, .int x15] w (wv_rI (fun x146 w146 => (¬ x146 = (121 : Int32) → narrow .char (.int (109 : Int32)) = .int (109 : Int32) ∧ P (.inl (some (.int (109 : Int32)))) w146.1) ∧ (x146 = (121 : Int32) → narrow .char (.int (121 : Int32)) = .int (121 : Int32) ∧ P (.inl (some (.int (121 : Int32)))) w146.1)) (wv_pr P))) ∧ (¬ x6 = (102 : Int32) → (x6 = (110 : Int32) → wv_cV G fr yX4_nameMatch v0 [va_rf v1, .int x15] w (wv_rI (fun x100 w100 => narrow .char (.int x100) = .int x100 ∧ P (.inl (some (.int x100))) w100.1) (wv_pr P))) ∧ (¬ x6 = (110 : Int32) → (x6 = (116 : Int32) → wv_cV G fr yX4_classMatch v0 [va_rf v1, .int v2, .int v3, .int x15] w (wv_rI (fun x112 w112 => narrow .char (.int x112) = .int x112 ∧ P (.inl (some (.int x112))) w112.1) (wv_pr P))) ∧ (¬ x6 = (116 : Int32) → (x6 = (118 : Int32) → narrow .char (.int (109 : Int32)) = .int (109 : Int32) ∧ P (.inl (some (.int (109 : Int32)))) w.1) ∧ (¬ x6 = (118 : Int32) → (x6 = (119 : Int32) → (¬ v2 = x15 → vc_X4_matches_129 G fr P (0 : Int32) w) ∧ (v2 = x15 → vc_X4_matches_129 G fr P (1 : Int32) w)) ∧ (¬ x6 = (119 : Int32) → (x6 = (124 : Int32) → vc_X4_matches_179 G fr P v0 v1 v2 v3 v4 x6 x15 w) ∧ (¬ x6 = (124 : Int32) → wv_cV G fr yX20_kind v1 [] w (wv_rI (fun x211 w211 => (¬ x211 = x6 → vc_X4_matches_224 G fr P (0 : Int32) w211) ∧ (x211 = x6 → vc_X4_matches_224 G fr P (1 : Int32) w211)) (wv_pr P))))))))))))))
set_option maxHeartbeats 4000000 in
theorem wk_X4_matches_224 {G : wv_G} {p : Program} {e : Env} {R : Room} {s : State} {m : MethodId} {args : Array Value} {below : List Frame} {meth : Method} {c : Code} {fr : Nat} {P : wv_R → wv_H → Prop} (X : wv_ok G p R s m args meth c fr "WeaversgateModel" cX4_matches 7 (Option.some Jvm.ClassFile.FieldType.char) "matches" []) {s0 : Int32} {w : wv_W} (hv : vc_X4_matches_224 G fr P s0 w) : wv_J G p e R s m args below meth c 7 P w 224 [] [.int s0] := by
  intro H locs cells slots ls S hl
  unfold vc_X4_matches_224 at hv
  refine wq_cS_I X S hv q2145 q2146 q66 ⟨by decide +kernel, by decide +kernel⟩ (nA := 1) (As := [.int s0]) (by decide +kernel) rfl rfl (by simp [wv_rfc, wv_kI, wv_kJ, wv_kF, wv_kD]) hl.1 dX4_matches_224 (fun x224 w224 H locs cells slots S hv => ?_) (wq_kx X rfl)
  exact wr_iret X S hv.1 hv.2 dX4_matches_227
set_option maxHeartbeats 4000000 in
theorem wk_X4_matches_179 {G : wv_G} {p : Program} {e : Env} {R : Room} {s : State} {m : MethodId} {args : Array Value} {below : List Frame} {meth : Method} {c : Code} {fr : Nat} {P : wv_R → wv_H → Prop} (X : wv_ok G p R s m args meth c fr "WeaversgateModel" cX4_matches 7 (Option.some Jvm.ClassFile.FieldType.char) "matches" []) {v0 : Option Nat} {v1 : Option Nat} {v2 : Int32} {v3 : Int32} {v4 : Int32} {v5 : Int32} {v6 : Int32} {w : wv_W} (hv : vc_X4_matches_179 G fr P v0 v1 v2 v3 v4 v5 v6 w) : wv_J G p e R s m args below meth c 7 P w 179 [(0, va_rf v0), (1, va_rf v1), (2, .int v2), (3, .int v3), (4, .int v4), (5, .int v5), (6, .int v6)] [] := by
  intro H locs cells slots ls S hl
  unfold vc_X4_matches_179 at hv
  refine lv_iload X.hx X.hb dX4_matches_179 (lv_at hl 5 rfl) ?_
  refine wq_aload_n X dX4_matches_181 rfl (lv_at hl 0 rfl) ?_
  refine wq_aload_n X dX4_matches_182 rfl (lv_at hl 1 rfl) ?_
  refine lv_iload_n X.hx X.hb dX4_matches_183 rfl (lv_at hl 2 rfl) ?_
  refine lv_iload_n X.hx X.hb dX4_matches_184 rfl (lv_at hl 3 rfl) ?_
  refine lv_iload X.hx X.hb dX4_matches_185 (lv_at hl 6 rfl) ?_
  refine wq_cV_I X S hv q2129 q2131 qs47 q66 ⟨by decide +kernel, by decide +kernel⟩ (nA := 4) (As := [va_rf v1, .int v2, .int v3, .int v6]) (by decide +kernel) rfl rfl (by simp [wv_rfc, wv_kI, wv_kJ, wv_kF, wv_kD]) hl.1 dX4_matches_187 (fun x187 w187 H locs cells slots S hv => ?_) (wq_kx X rfl)
  refine wq_aload_n X dX4_matches_190 rfl (lv_at hl 0 rfl) ?_
  refine wq_aload_n X dX4_matches_191 rfl (lv_at hl 1 rfl) ?_
  refine lv_iload_n X.hx X.hb dX4_matches_192 rfl (lv_at hl 2 rfl) ?_
  refine lv_iload_n X.hx X.hb dX4_matches_193 rfl (lv_at hl 3 rfl) ?_
  refine wq_aload_n X dX4_matches_194 rfl (lv_at hl 0 rfl) ?_
  refine wq_gA X S hv ccX4 in_X4 (k := 3) (by decide) q1804 dX4_matches_195 (fun x195 hv => ?_)
  refine lv_iload X.hx X.hb dX4_matches_198 (lv_at hl 4 rfl) ?_
  refine wq_li0 X S hv dX4_matches_200 (fun x200 hv => ?_)
  refine wq_cV_I X S hv q2129 q2131 qs47 q66 ⟨by decide +kernel, by decide +kernel⟩ (nA := 4) (As := [va_rf v1, .int v2, .int v3, .int x200]) (by decide +kernel) rfl rfl (by simp [wv_rfc, wv_kI, wv_kJ, wv_kF, wv_kD]) hl.1 dX4_matches_201 (fun x201 w201 H locs cells slots S hv => ?_) (wq_kx X rfl)
  refine wq_cS_I X S hv q2163 q2164 q66 ⟨by decide +kernel, by decide +kernel⟩ (nA := 3) (As := [.int v5, .int x187, .int x201]) (by decide +kernel) rfl rfl (by simp [wv_rfc, wv_kI, wv_kJ, wv_kF, wv_kD]) hl.1 dX4_matches_204 (fun x204 w204 H locs cells slots S hv => ?_) (wq_kx X rfl)
  refine lv_goto (tgt := 227) X.hx X.hb dX4_matches_207 (by decide) ?_
  exact wr_iret X S hv.1 hv.2 dX4_matches_227
set_option maxHeartbeats 4000000 in
theorem wk_X4_matches_129 {G : wv_G} {p : Program} {e : Env} {R : Room} {s : State} {m : MethodId} {args : Array Value} {below : List Frame} {meth : Method} {c : Code} {fr : Nat} {P : wv_R → wv_H → Prop} (X : wv_ok G p R s m args meth c fr "WeaversgateModel" cX4_matches 7 (Option.some Jvm.ClassFile.FieldType.char) "matches" []) {s0 : Int32} {w : wv_W} (hv : vc_X4_matches_129 G fr P s0 w) : wv_J G p e R s m args below meth c 7 P w 129 [] [.int s0] := by
  intro H locs cells slots ls S hl
  unfold vc_X4_matches_129 at hv
  refine wq_cS_I X S hv q2145 q2146 q66 ⟨by decide +kernel, by decide +kernel⟩ (nA := 1) (As := [.int s0]) (by decide +kernel) rfl rfl (by simp [wv_rfc, wv_kI, wv_kJ, wv_kF, wv_kD]) hl.1 dX4_matches_129 (fun x129 w129 H locs cells slots S hv => ?_) (wq_kx X rfl)
  refine lv_goto (tgt := 227) X.hx X.hb dX4_matches_132 (by decide) ?_
  exact wr_iret X S hv.1 hv.2 dX4_matches_227
set_option maxHeartbeats 4000000 in
theorem wk_X4_matches_0 {G : wv_G} {p : Program} {e : Env} {R : Room} {s : State} {m : MethodId} {args : Array Value} {below : List Frame} {meth : Method} {c : Code} {fr : Nat} {P : wv_R → wv_H → Prop} (X : wv_ok G p R s m args meth c fr "WeaversgateModel" cX4_matches 7 (Option.some Jvm.ClassFile.FieldType.char) "matches" []) {v0 : Option Nat} {v1 : Option Nat} {v2 : Int32} {v3 : Int32} {v4 : Int32} {w : wv_W} (hv : vc_X4_matches_0 G fr P v0 v1 v2 v3 v4 w) : wv_J G p e R s m args below meth c 7 P w 0 [(0, va_rf v0), (1, va_rf v1), (2, .int v2), (3, .int v3), (4, .int v4)] [] := by
  intro H locs cells slots ls S hl
  unfold vc_X4_matches_0 at hv
  refine wq_aload_n X dX4_matches_0 rfl (lv_at hl 0 rfl) ?_
  refine wq_gA X S hv ccX4 in_X4 (k := 8) (by decide) q1814 dX4_matches_1 (fun x1 hv => ?_)
  refine lv_iload X.hx X.hb dX4_matches_4 (lv_at hl 4 rfl) ?_
  refine wq_li1 X S hv dX4_matches_6 (fun x6 hv => ?_)
  refine lv_istore X.hx X.hb (i := 5) (lv' := [(5, .int x6), (0, va_rf v0), (1, va_rf v1), (2, .int v2), (3, .int v3), (4, .int v4)]) dX4_matches_7 hl (by decide) (by simp [wv_rfc, wv_kI, wv_kJ, wv_kF, wv_kD]) (fun ls hl => ?_)
  refine wq_aload_n X dX4_matches_9 rfl (lv_at hl 1 rfl) ?_
  refine wq_gA X S hv ccX4 in_X4 (k := 2) (by decide) q1802 dX4_matches_10 (fun x10 hv => ?_)
  refine lv_iload X.hx X.hb dX4_matches_13 (lv_at hl 5 rfl) ?_
  refine wq_li0 X S hv dX4_matches_15 (fun x15 hv => ?_)
  refine lv_istore X.hx X.hb (i := 6) (lv' := [(6, .int x15), (5, .int x6), (0, va_rf v0), (1, va_rf v1), (2, .int v2), (3, .int v3), (4, .int v4)]) dX4_matches_16 hl (by decide) (by simp [wv_rfc, wv_kI, wv_kJ, wv_kF, wv_kD]) (fun ls hl => ?_)
  refine lv_iload X.hx X.hb dX4_matches_18 (lv_at hl 1 rfl) ?_
  by_cases h20_0 : x6 = (33 : Int32)
  · have hv := hv.1 h20_0
    refine lv_lookup (tgt := 164) (off := 144) X.hx X.hb dX4_matches_20 (by decide) (by rw [h20_0] <;> rfl) (by decide) ?_
    refine wq_aload_n X dX4_matches_164 rfl (lv_at hl 2 rfl) ?_
    refine wq_aload_n X dX4_matches_165 rfl (lv_at hl 3 rfl) ?_
    refine lv_iload_n X.hx X.hb dX4_matches_166 rfl (lv_at hl 4 rfl) ?_
    refine lv_iload_n X.hx X.hb dX4_matches_167 rfl (lv_at hl 5 rfl) ?_
    refine lv_iload X.hx X.hb dX4_matches_168 (lv_at hl 0 rfl) ?_
    refine wq_cV_I X S hv q2129 q2131 qs47 q66 ⟨by decide +kernel, by decide +kernel⟩ (nA := 4) (As := [va_rf v1, .int v2, .int v3, .int x15]) (by decide +kernel) rfl rfl (by simp [wv_rfc, wv_kI, wv_kJ, wv_kF, wv_kD]) hl.1 dX4_matches_170 (fun x170 w170 H locs cells slots S hv => ?_) (wq_kx X rfl)
    refine wq_cS_I X S hv q2160 q2161 q66 ⟨by decide +kernel, by decide +kernel⟩ (nA := 1) (As := [.int x170]) (by decide +kernel) rfl rfl (by simp [wv_rfc, wv_kI, wv_kJ, wv_kF, wv_kD]) hl.1 dX4_matches_173 (fun x173 w173 H locs cells slots S hv => ?_) (wq_kx X rfl)
    refine lv_goto (tgt := 227) X.hx X.hb dX4_matches_176 (by decide) ?_
    exact wr_iret X S hv.1 hv.2 dX4_matches_227
  · have hv := hv.2 h20_0
    by_cases h20_1 : x6 = (38 : Int32)
    · have hv := hv.1 h20_1
      refine lv_lookup (tgt := 179) (off := 159) X.hx X.hb dX4_matches_20 (by decide) (by rw [h20_1] <;> rfl) (by decide) ?_
      exact wk_X4_matches_179 X  hv H locs cells slots ls S (lv_sub hl [2, 3, 4, 5, 6, 1, 0] rfl)
    · have hv := hv.2 h20_1
      by_cases h20_2 : x6 = (102 : Int32)
      · have hv := hv.1 h20_2
        refine lv_lookup (tgt := 140) (off := 120) X.hx X.hb dX4_matches_20 (by decide) (by rw [h20_2] <;> rfl) (by decide) ?_
        refine wq_aload_n X dX4_matches_140 rfl (lv_at hl 2 rfl) ?_
        refine wq_aload_n X dX4_matches_141 rfl (lv_at hl 3 rfl) ?_
        refine lv_iload_n X.hx X.hb dX4_matches_142 rfl (lv_at hl 4 rfl) ?_
        refine lv_iload_n X.hx X.hb dX4_matches_143 rfl (lv_at hl 5 rfl) ?_
        refine lv_iload X.hx X.hb dX4_matches_144 (lv_at hl 0 rfl) ?_
        refine wq_cV_I X S hv q2129 q2131 qs47 q66 ⟨by decide +kernel, by decide +kernel⟩ (nA := 4) (As := [va_rf v1, .int v2, .int v3, .int x15]) (by decide +kernel) rfl rfl (by simp [wv_rfc, wv_kI, wv_kJ, wv_kF, wv_kD]) hl.1 dX4_matches_146 (fun x146 w146 H locs cells slots S hv => ?_) (wq_kx X rfl)
        refine lv_bipush (v := (121 : Int32)) X.hx X.hb dX4_matches_149 (by decide) ?_
        refine lv_icmp_ne (tgt := 159) X.hx X.hb dX4_matches_151 (by decide) (fun c151 => ?_) (fun c151 => ?_)
        · have hv := hv.1 c151
          refine lv_bipush (v := (109 : Int32)) X.hx X.hb dX4_matches_159 (by decide) ?_
          refine lv_goto (tgt := 227) X.hx X.hb dX4_matches_161 (by decide) ?_
          exact wr_iret X S hv.1 hv.2 dX4_matches_227
        · have hv := hv.2 c151
          refine lv_bipush (v := (121 : Int32)) X.hx X.hb dX4_matches_154 (by decide) ?_
          refine lv_goto (tgt := 227) X.hx X.hb dX4_matches_156 (by decide) ?_
          exact wr_iret X S hv.1 hv.2 dX4_matches_227
      · have hv := hv.2 h20_2
        by_cases h20_3 : x6 = (110 : Int32)
        · have hv := hv.1 h20_3
          refine lv_lookup (tgt := 96) (off := 76) X.hx X.hb dX4_matches_20 (by decide) (by rw [h20_3] <;> rfl) (by decide) ?_
          refine wq_aload_n X dX4_matches_96 rfl (lv_at hl 2 rfl) ?_
          refine wq_aload_n X dX4_matches_97 rfl (lv_at hl 3 rfl) ?_
          refine lv_iload X.hx X.hb dX4_matches_98 (lv_at hl 0 rfl) ?_
          refine wq_cV_I X S hv q2133 q2135 qs48 q66 ⟨by decide +kernel, by decide +kernel⟩ (nA := 2) (As := [va_rf v1, .int x15]) (by decide +kernel) rfl rfl (by simp [wv_rfc, wv_kI, wv_kJ, wv_kF, wv_kD]) hl.1 dX4_matches_100 (fun x100 w100 H locs cells slots S hv => ?_) (wq_kx X rfl)
          refine lv_goto (tgt := 227) X.hx X.hb dX4_matches_103 (by decide) ?_
          exact wr_iret X S hv.1 hv.2 dX4_matches_227
        · have hv := hv.2 h20_3
          by_cases h20_4 : x6 = (116 : Int32)
          · have hv := hv.1 h20_4
            refine lv_lookup (tgt := 106) (off := 86) X.hx X.hb dX4_matches_20 (by decide) (by rw [h20_4] <;> rfl) (by decide) ?_
            refine wq_aload_n X dX4_matches_106 rfl (lv_at hl 2 rfl) ?_
            refine wq_aload_n X dX4_matches_107 rfl (lv_at hl 3 rfl) ?_
            refine lv_iload_n X.hx X.hb dX4_matches_108 rfl (lv_at hl 4 rfl) ?_
            refine lv_iload_n X.hx X.hb dX4_matches_109 rfl (lv_at hl 5 rfl) ?_
            refine lv_iload X.hx X.hb dX4_matches_110 (lv_at hl 0 rfl) ?_
            refine wq_cV_I X S hv q2148 q2150 qs49 q66 ⟨by decide +kernel, by decide +kernel⟩ (nA := 4) (As := [va_rf v1, .int v2, .int v3, .int x15]) (by decide +kernel) rfl rfl (by simp [wv_rfc, wv_kI, wv_kJ, wv_kF, wv_kD]) hl.1 dX4_matches_112 (fun x112 w112 H locs cells slots S hv => ?_) (wq_kx X rfl)
            refine lv_goto (tgt := 227) X.hx X.hb dX4_matches_115 (by decide) ?_
            exact wr_iret X S hv.1 hv.2 dX4_matches_227
          · have hv := hv.2 h20_4
            by_cases h20_5 : x6 = (118 : Int32)
            · have hv := hv.1 h20_5
              refine lv_lookup (tgt := 135) (off := 115) X.hx X.hb dX4_matches_20 (by decide) (by rw [h20_5] <;> rfl) (by decide) ?_
              refine lv_bipush (v := (109 : Int32)) X.hx X.hb dX4_matches_135 (by decide) ?_
              refine lv_goto (tgt := 227) X.hx X.hb dX4_matches_137 (by decide) ?_
              exact wr_iret X S hv.1 hv.2 dX4_matches_227
            · have hv := hv.2 h20_5
              by_cases h20_6 : x6 = (119 : Int32)
              · have hv := hv.1 h20_6
                refine lv_lookup (tgt := 118) (off := 98) X.hx X.hb dX4_matches_20 (by decide) (by rw [h20_6] <;> rfl) (by decide) ?_
                refine lv_iload_n X.hx X.hb dX4_matches_118 rfl (lv_at hl 4 rfl) ?_
                refine lv_iload X.hx X.hb dX4_matches_119 (lv_at hl 0 rfl) ?_
                refine lv_icmp_ne (tgt := 128) X.hx X.hb dX4_matches_121 (by decide) (fun c121 => ?_) (fun c121 => ?_)
                · have hv := hv.1 c121
                  refine lv_iconst (v := (0 : Int32)) X.hx X.hb dX4_matches_128 (by decide) ?_
                  exact wk_X4_matches_129 X  hv H locs cells slots ls S (lv_sub hl [] rfl)
                · have hv := hv.2 c121
                  refine lv_iconst (v := (1 : Int32)) X.hx X.hb dX4_matches_124 (by decide) ?_
                  refine lv_goto (tgt := 129) X.hx X.hb dX4_matches_125 (by decide) ?_
                  exact wk_X4_matches_129 X  hv H locs cells slots ls S (lv_sub hl [] rfl)
              · have hv := hv.2 h20_6
                by_cases h20_7 : x6 = (124 : Int32)
                · have hv := hv.1 h20_7
                  refine lv_lookup (tgt := 179) (off := 159) X.hx X.hb dX4_matches_20 (by decide) (by rw [h20_7] <;> rfl) (by decide) ?_
                  exact wk_X4_matches_179 X  hv H locs cells slots ls S (lv_sub hl [2, 3, 4, 5, 6, 1, 0] rfl)
                · have hv := hv.2 h20_7
                  refine lv_lookup (tgt := 210) (off := 190) X.hx X.hb dX4_matches_20 (by decide) (by rw [lv_osw h20_0 (by decide), lv_osw h20_1 (by decide), lv_osw h20_2 (by decide), lv_osw h20_3 (by decide), lv_osw h20_4 (by decide), lv_osw h20_5 (by decide), lv_osw h20_6 (by decide), lv_osw h20_7 (by decide)] <;> rfl) (by decide) ?_
                  refine wq_aload_n X dX4_matches_210 rfl (lv_at hl 3 rfl) ?_
                  refine wq_cV_I X S hv q2137 q2138 q2139 q105 ⟨by decide +kernel, by decide +kernel⟩ (nA := 0) (As := []) (by decide +kernel) rfl rfl (by simp [wv_rfc, wv_kI, wv_kJ, wv_kF, wv_kD]) hl.1 dX4_matches_211 (fun x211 w211 H locs cells slots S hv => ?_) (wq_kx X rfl)
                  refine lv_iload X.hx X.hb dX4_matches_214 (lv_at hl 1 rfl) ?_
                  refine lv_icmp_ne (tgt := 223) X.hx X.hb dX4_matches_216 (by decide) (fun c216 => ?_) (fun c216 => ?_)
                  · have hv := hv.1 c216
                    refine lv_iconst (v := (0 : Int32)) X.hx X.hb dX4_matches_223 (by decide) ?_
                    exact wk_X4_matches_224 X  hv H locs cells slots ls S (lv_sub hl [] rfl)
                  · have hv := hv.2 c216
                    refine lv_iconst (v := (1 : Int32)) X.hx X.hb dX4_matches_219 (by decide) ?_
                    refine lv_goto (tgt := 224) X.hx X.hb dX4_matches_220 (by decide) ?_
                    exact wk_X4_matches_224 X  hv H locs cells slots ls S (lv_sub hl [] rfl)
theorem wk_X4_matches {G : wv_G} (hG : wv_G0 G) {v0 : Option Nat} {v1 : Option Nat} {v2 : Int32} {v3 : Int32} {v4 : Int32} {h : wv_H} {fr kc ks : Nat} {P : wv_R → wv_H → Prop} (hv : vc_X4_matches_0 G fr P v0 v1 v2 v3 v4 (h, kc, ks)) : wv_C G yX4_matches [va_rf v0, va_rf v1, .int v2, .int v3, .int v4] h fr kc ks P := by
  refine wv_enter (lv := [(0, va_rf v0), (1, va_rf v1), (2, .int v2), (3, .int v3), (4, .int v4)]) hG (by decide +kernel) q2132 (by decide) (by simp [lg_sl, wv_rfc, wv_kI, wv_kJ, wv_kF, wv_kD]) (by simp [lv_args, wv_rfc, wv_kI, wv_kJ, wv_kF, wv_kD]) ?_
  intro p e R s m args below meth c X H locs cells slots ls S hl
  exact wk_X4_matches_0 X hv H locs cells slots ls S (lv_sub hl [0, 1, 2, 3, 4] rfl)

def vc_X4_meanSteps_90 (G : wv_G) (fr : Nat) (P : wv_R → wv_H → Prop) (s0 : UInt64) (w : wv_W) : Prop :=
  P (.inl (some (.double s0))) w.1
def vc_X4_meanSteps_75 (G : wv_G) (fr : Nat) (P : wv_R → wv_H → Prop) (v1 : Int32) (v2 : Int32) (s0 : Int32) (s1 : Option Nat) (w : wv_W) : Prop :=
  wv_cV G fr yX4_checked s1 [.int s0] w (wv_rI (fun x75 w75 => (x75 ≤ 0 → (vf_n64 (FP.ddiv (FP.i2d v2) (FP.i2d v1))) ∧ (vc_X4_meanSteps_90 G fr P (FP.ddiv (FP.i2d v2) (FP.i2d v1)) w75)) ∧ (¬ x75 ≤ 0 → vc_X4_meanSteps_90 G fr P FP.dconst0 w75)) (wv_pr P))
def vc_X4_meanSteps_57 (G : wv_G) (fr : Nat) (P : wv_R → wv_H → Prop) (K16 : ((Option Nat) × Int32 × Int32 × (Option Nat) × Int32 × Int32) → wv_W → Prop) (v0 : Option Nat) (v1 : Int32) (v3 : Option Nat) (v4 : Int32) (v5 : Int32) (s0 : Int32) (s1 : Int32) (w : wv_W) : Prop :=
  K16 (v0, v1, (s1 + s0), v3, v4, (v5 + (1 : Int32))) w
def vc_X4_meanSteps_40 (G : wv_G) (fr : Nat) (P : wv_R → wv_H → Prop) (K16 : ((Option Nat) × Int32 × Int32 × (Option Nat) × Int32 × Int32) → wv_W → Prop) (v0 : Option Nat) (v2 : Int32) (v3 : Option Nat) (v4 : Int32) (v5 : Int32) (v6 : Option Nat) (s0 : Int32) (s1 : Int32) (w : wv_W) : Prop :=
  (¬ v6 = none → wv_gI w v6 ciX8 3 (fun x54 => vc_X4_meanSteps_57 G fr P K16 v0 (s1 + s0) v3 v4 v5 x54 v2 w)) ∧ (v6 = none → vc_X4_meanSteps_57 G fr P K16 v0 (s1 + s0) v3 v4 v5 (0 : Int32) v2 w)
def vc_X4_meanSteps_16 (G : wv_G) (fr : Nat) (P : wv_R → wv_H → Prop) (K16 : ((Option Nat) × Int32 × Int32 × (Option Nat) × Int32 × Int32) → wv_W → Prop) (v0 : Option Nat) (v1 : Int32) (v2 : Int32) (v3 : Option Nat) (v4 : Int32) (v5 : Int32) (w : wv_W) : Prop :=
  (v4 ≤ v5 → (v1 ≤ 0 → vc_X4_meanSteps_75 G fr P v1 v2 (0 : Int32) v0 w) ∧ (¬ v1 ≤ 0 → vc_X4_meanSteps_75 G fr P v1 v2 (1 : Int32) v0 w)) ∧ (¬ v4 ≤ v5 → wv_lq G 7 w v3 v5 (fun x26 => (¬ x26 = none → vc_X4_meanSteps_40 G fr P K16 v0 v2 v3 v4 v5 x26 (1 : Int32) v1 w) ∧ (x26 = none → vc_X4_meanSteps_40 G fr P K16 v0 v2 v3 v4 v5 x26 (0 : Int32) v1 w)))
def vc_X4_meanSteps_0 (G : wv_G) (fr : Nat) (P : wv_R → wv_H → Prop) (v0 : Option Nat) (w : wv_W) : Prop :=
  wv_gA w v0 ciX4 0 (fun x5 => wv_lenQ G 7 w x5 (fun x10 => wv_L (fun K16 a w => vc_X4_meanSteps_16 G fr P K16 a.1 a.2.1 a.2.2.1 a.2.2.2.1 a.2.2.2.2.1 a.2.2.2.2.2 w) (v0, (0 : Int32), (0 : Int32), x5, x10, (0 : Int32)) w))
set_option maxHeartbeats 4000000 in
theorem wk_X4_meanSteps_90 {G : wv_G} {p : Program} {e : Env} {R : Room} {s : State} {m : MethodId} {args : Array Value} {below : List Frame} {meth : Method} {c : Code} {fr : Nat} {P : wv_R → wv_H → Prop} (X : wv_ok G p R s m args meth c fr "WeaversgateModel" cX4_meanSteps 7 (Option.some Jvm.ClassFile.FieldType.double) "meanSteps" []) {s0 : UInt64} {w : wv_W} (hv : vc_X4_meanSteps_90 G fr P s0 w) : wv_J G p e R s m args below meth c 7 P w 90 [] [.double s0] := by
  intro H locs cells slots ls S hl
  unfold vc_X4_meanSteps_90 at hv
  exact wr_dret X S hv dX4_meanSteps_90
set_option maxHeartbeats 4000000 in
theorem wk_X4_meanSteps_75 {G : wv_G} {p : Program} {e : Env} {R : Room} {s : State} {m : MethodId} {args : Array Value} {below : List Frame} {meth : Method} {c : Code} {fr : Nat} {P : wv_R → wv_H → Prop} (X : wv_ok G p R s m args meth c fr "WeaversgateModel" cX4_meanSteps 7 (Option.some Jvm.ClassFile.FieldType.double) "meanSteps" []) {v1 : Int32} {v2 : Int32} {s0 : Int32} {s1 : Option Nat} {w : wv_W} (hv : vc_X4_meanSteps_75 G fr P v1 v2 s0 s1 w) : wv_J G p e R s m args below meth c 7 P w 75 [(1, .int v1), (2, .int v2)] [.int s0, va_rf s1] := by
  intro H locs cells slots ls S hl
  unfold vc_X4_meanSteps_75 at hv
  refine wq_cV_I X S hv q1975 q1977 qs43 q66 ⟨by decide +kernel, by decide +kernel⟩ (nA := 1) (As := [.int s0]) (by decide +kernel) rfl rfl (by simp [wv_rfc, wv_kI, wv_kJ, wv_kF, wv_kD]) hl.1 dX4_meanSteps_75 (fun x75 w75 H locs cells slots S hv => ?_) (wq_kx X rfl)
  refine lv_if_le (tgt := 85) X.hx X.hb dX4_meanSteps_78 (by decide) (fun c78 => ?_) (fun c78 => ?_)
  · have hv := hv.1 c78
    refine lv_iload_n X.hx X.hb dX4_meanSteps_85 rfl (lv_at hl 1 rfl) ?_
    refine lv_i2d X.hx X.hb dX4_meanSteps_86 ?_
    refine lv_iload_n X.hx X.hb dX4_meanSteps_87 rfl (lv_at hl 0 rfl) ?_
    refine lv_i2d X.hx X.hb dX4_meanSteps_88 ?_
    refine lv_ddiv X.hx X.hb dX4_meanSteps_89 hv.1 ?_
    have hv := hv.2
    exact wk_X4_meanSteps_90 X  hv H locs cells slots ls S (lv_sub hl [] rfl)
  · have hv := hv.2 c78
    refine lv_dconst0 X.hx X.hb dX4_meanSteps_81 ?_
    refine lv_goto (tgt := 90) X.hx X.hb dX4_meanSteps_82 (by decide) ?_
    exact wk_X4_meanSteps_90 X  hv H locs cells slots ls S (lv_sub hl [] rfl)
set_option maxHeartbeats 4000000 in
theorem wk_X4_meanSteps_57 {G : wv_G} {p : Program} {e : Env} {R : Room} {s : State} {m : MethodId} {args : Array Value} {below : List Frame} {meth : Method} {c : Code} {fr : Nat} {P : wv_R → wv_H → Prop} (X : wv_ok G p R s m args meth c fr "WeaversgateModel" cX4_meanSteps 7 (Option.some Jvm.ClassFile.FieldType.double) "meanSteps" []) {K16 : ((Option Nat) × Int32 × Int32 × (Option Nat) × Int32 × Int32) → wv_W → Prop} (hK16 : ∀ a w, K16 a w → wv_J G p e R s m args below meth c 7 P w 16 [(0, va_rf a.1), (1, .int a.2.1), (2, .int a.2.2.1), (3, va_rf a.2.2.2.1), (4, .int a.2.2.2.2.1), (5, .int a.2.2.2.2.2)] []) {v0 : Option Nat} {v1 : Int32} {v3 : Option Nat} {v4 : Int32} {v5 : Int32} {s0 : Int32} {s1 : Int32} {w : wv_W} (hv : vc_X4_meanSteps_57 G fr P K16 v0 v1 v3 v4 v5 s0 s1 w) : wv_J G p e R s m args below meth c 7 P w 57 [(0, va_rf v0), (1, .int v1), (3, va_rf v3), (4, .int v4), (5, .int v5)] [.int s0, .int s1] := by
  intro H locs cells slots ls S hl
  unfold vc_X4_meanSteps_57 at hv
  refine lv_iadd X.hx X.hb dX4_meanSteps_57 ?_
  refine lv_istore_n X.hx X.hb (i := 2) (lv' := [(2, .int (s1 + s0)), (0, va_rf v0), (1, .int v1), (3, va_rf v3), (4, .int v4), (5, .int v5)]) dX4_meanSteps_58 rfl hl (by decide) (by simp [wv_rfc, wv_kI, wv_kJ, wv_kF, wv_kD]) (fun ls hl => ?_)
  refine lv_iinc (v := (v5 + (1 : Int32))) (lv' := [(5, .int (v5 + (1 : Int32))), (2, .int (s1 + s0)), (0, va_rf v0), (1, .int v1), (3, va_rf v3), (4, .int v4)]) X.hx X.hb dX4_meanSteps_59 hl (k := 5) rfl (by rfl) (by decide) (by simp [wv_rfc, wv_kI, wv_kJ, wv_kF, wv_kD]) (fun ls hl => ?_)
  refine lv_goto (tgt := 16) X.hx X.hb dX4_meanSteps_62 (by decide) ?_
  exact hK16 _ _ hv H locs cells slots ls S (lv_sub hl [2, 3, 1, 4, 5, 0] rfl)
set_option maxHeartbeats 4000000 in
theorem wk_X4_meanSteps_40 {G : wv_G} {p : Program} {e : Env} {R : Room} {s : State} {m : MethodId} {args : Array Value} {below : List Frame} {meth : Method} {c : Code} {fr : Nat} {P : wv_R → wv_H → Prop} (X : wv_ok G p R s m args meth c fr "WeaversgateModel" cX4_meanSteps 7 (Option.some Jvm.ClassFile.FieldType.double) "meanSteps" []) {K16 : ((Option Nat) × Int32 × Int32 × (Option Nat) × Int32 × Int32) → wv_W → Prop} (hK16 : ∀ a w, K16 a w → wv_J G p e R s m args below meth c 7 P w 16 [(0, va_rf a.1), (1, .int a.2.1), (2, .int a.2.2.1), (3, va_rf a.2.2.2.1), (4, .int a.2.2.2.2.1), (5, .int a.2.2.2.2.2)] []) {v0 : Option Nat} {v2 : Int32} {v3 : Option Nat} {v4 : Int32} {v5 : Int32} {v6 : Option Nat} {s0 : Int32} {s1 : Int32} {w : wv_W} (hv : vc_X4_meanSteps_40 G fr P K16 v0 v2 v3 v4 v5 v6 s0 s1 w) : wv_J G p e R s m args below meth c 7 P w 40 [(0, va_rf v0), (2, .int v2), (3, va_rf v3), (4, .int v4), (5, .int v5), (6, va_rf v6)] [.int s0, .int s1] := by
  intro H locs cells slots ls S hl
  unfold vc_X4_meanSteps_40 at hv
  refine lv_iadd X.hx X.hb dX4_meanSteps_40 ?_
  refine lv_istore_n X.hx X.hb (i := 1) (lv' := [(1, .int (s1 + s0)), (0, va_rf v0), (2, .int v2), (3, va_rf v3), (4, .int v4), (5, .int v5), (6, va_rf v6)]) dX4_meanSteps_41 rfl hl (by decide) (by simp [wv_rfc, wv_kI, wv_kJ, wv_kF, wv_kD]) (fun ls hl => ?_)
  refine lv_iload_n X.hx X.hb dX4_meanSteps_42 rfl (lv_at hl 2 rfl) ?_
  refine wq_aload X dX4_meanSteps_43 (lv_at hl 6 rfl) ?_
  refine wq_ifnonnull (tgt := 52) X dX4_meanSteps_45 (by decide) (fun c45 => ?_) (fun c45 => ?_)
  · have hv := hv.1 c45
    refine wq_aload X dX4_meanSteps_52 (lv_at hl 6 rfl) ?_
    refine wq_gI X S hv ccX8 in_X8 (k := 3) (by decide) q1908 dX4_meanSteps_54 (fun x54 hv => ?_)
    exact wk_X4_meanSteps_57 X hK16 hv H locs cells slots ls S (lv_sub hl [1, 0, 3, 4, 5] rfl)
  · have hv := hv.2 c45
    refine lv_iconst (v := (0 : Int32)) X.hx X.hb dX4_meanSteps_48 (by decide) ?_
    refine lv_goto (tgt := 57) X.hx X.hb dX4_meanSteps_49 (by decide) ?_
    exact wk_X4_meanSteps_57 X hK16 hv H locs cells slots ls S (lv_sub hl [1, 0, 3, 4, 5] rfl)
set_option maxHeartbeats 4000000 in
theorem wk_X4_meanSteps_16 {G : wv_G} {p : Program} {e : Env} {R : Room} {s : State} {m : MethodId} {args : Array Value} {below : List Frame} {meth : Method} {c : Code} {fr : Nat} {P : wv_R → wv_H → Prop} (X : wv_ok G p R s m args meth c fr "WeaversgateModel" cX4_meanSteps 7 (Option.some Jvm.ClassFile.FieldType.double) "meanSteps" []) {K16 : ((Option Nat) × Int32 × Int32 × (Option Nat) × Int32 × Int32) → wv_W → Prop} (hK16 : ∀ a w, K16 a w → wv_J G p e R s m args below meth c 7 P w 16 [(0, va_rf a.1), (1, .int a.2.1), (2, .int a.2.2.1), (3, va_rf a.2.2.2.1), (4, .int a.2.2.2.2.1), (5, .int a.2.2.2.2.2)] []) {v0 : Option Nat} {v1 : Int32} {v2 : Int32} {v3 : Option Nat} {v4 : Int32} {v5 : Int32} {w : wv_W} (hv : vc_X4_meanSteps_16 G fr P K16 v0 v1 v2 v3 v4 v5 w) : wv_J G p e R s m args below meth c 7 P w 16 [(0, va_rf v0), (1, .int v1), (2, .int v2), (3, va_rf v3), (4, .int v4), (5, .int v5)] [] := by
  intro H locs cells slots ls S hl
  unfold vc_X4_meanSteps_16 at hv
  refine lv_iload X.hx X.hb dX4_meanSteps_16 (lv_at hl 5 rfl) ?_
  refine lv_iload X.hx X.hb dX4_meanSteps_18 (lv_at hl 4 rfl) ?_
  refine lv_icmp_ge (tgt := 65) X.hx X.hb dX4_meanSteps_20 (by decide) (fun c20 => ?_) (fun c20 => ?_)
  · have hv := hv.1 c20
    refine wq_aload_n X dX4_meanSteps_65 rfl (lv_at hl 0 rfl) ?_
    refine lv_iload_n X.hx X.hb dX4_meanSteps_66 rfl (lv_at hl 1 rfl) ?_
    refine lv_if_le (tgt := 74) X.hx X.hb dX4_meanSteps_67 (by decide) (fun c67 => ?_) (fun c67 => ?_)
    · have hv := hv.1 c67
      refine lv_iconst (v := (0 : Int32)) X.hx X.hb dX4_meanSteps_74 (by decide) ?_
      exact wk_X4_meanSteps_75 X  hv H locs cells slots ls S (lv_sub hl [1, 2] rfl)
    · have hv := hv.2 c67
      refine lv_iconst (v := (1 : Int32)) X.hx X.hb dX4_meanSteps_70 (by decide) ?_
      refine lv_goto (tgt := 75) X.hx X.hb dX4_meanSteps_71 (by decide) ?_
      exact wk_X4_meanSteps_75 X  hv H locs cells slots ls S (lv_sub hl [1, 2] rfl)
  · have hv := hv.2 c20
    refine wq_aload_n X dX4_meanSteps_23 rfl (lv_at hl 3 rfl) ?_
    refine lv_iload X.hx X.hb dX4_meanSteps_24 (lv_at hl 5 rfl) ?_
    refine wq_lq7 X S hv dX4_meanSteps_26 (fun x26 hv => ?_)
    refine wq_astore X (i := 6) (lv' := [(6, va_rf x26), (0, va_rf v0), (1, .int v1), (2, .int v2), (3, va_rf v3), (4, .int v4), (5, .int v5)]) dX4_meanSteps_27 hl (by decide) (by simp [wv_rfc, wv_kI, wv_kJ, wv_kF, wv_kD]) (fun ls hl => ?_)
    refine lv_iload_n X.hx X.hb dX4_meanSteps_29 rfl (lv_at hl 2 rfl) ?_
    refine wq_aload X dX4_meanSteps_30 (lv_at hl 0 rfl) ?_
    refine wq_ifnonnull (tgt := 39) X dX4_meanSteps_32 (by decide) (fun c32 => ?_) (fun c32 => ?_)
    · have hv := hv.1 c32
      refine lv_iconst (v := (1 : Int32)) X.hx X.hb dX4_meanSteps_39 (by decide) ?_
      exact wk_X4_meanSteps_40 X hK16 hv H locs cells slots ls S (lv_sub hl [1, 3, 4, 5, 6, 0] rfl)
    · have hv := hv.2 c32
      refine lv_iconst (v := (0 : Int32)) X.hx X.hb dX4_meanSteps_35 (by decide) ?_
      refine lv_goto (tgt := 40) X.hx X.hb dX4_meanSteps_36 (by decide) ?_
      exact wk_X4_meanSteps_40 X hK16 hv H locs cells slots ls S (lv_sub hl [1, 3, 4, 5, 6, 0] rfl)
set_option maxHeartbeats 4000000 in
theorem wk_X4_meanSteps_0 {G : wv_G} {p : Program} {e : Env} {R : Room} {s : State} {m : MethodId} {args : Array Value} {below : List Frame} {meth : Method} {c : Code} {fr : Nat} {P : wv_R → wv_H → Prop} (X : wv_ok G p R s m args meth c fr "WeaversgateModel" cX4_meanSteps 7 (Option.some Jvm.ClassFile.FieldType.double) "meanSteps" []) {v0 : Option Nat} {w : wv_W} (hv : vc_X4_meanSteps_0 G fr P v0 w) : wv_J G p e R s m args below meth c 7 P w 0 [(0, va_rf v0)] [] := by
  intro H locs cells slots ls S hl
  unfold vc_X4_meanSteps_0 at hv
  refine lv_iconst (v := (0 : Int32)) X.hx X.hb dX4_meanSteps_0 (by decide) ?_
  refine lv_istore_n X.hx X.hb (i := 1) (lv' := [(1, .int (0 : Int32)), (0, va_rf v0)]) dX4_meanSteps_1 rfl hl (by decide) (by simp [wv_rfc, wv_kI, wv_kJ, wv_kF, wv_kD]) (fun ls hl => ?_)
  refine lv_iconst (v := (0 : Int32)) X.hx X.hb dX4_meanSteps_2 (by decide) ?_
  refine lv_istore_n X.hx X.hb (i := 2) (lv' := [(2, .int (0 : Int32)), (1, .int (0 : Int32)), (0, va_rf v0)]) dX4_meanSteps_3 rfl hl (by decide) (by simp [wv_rfc, wv_kI, wv_kJ, wv_kF, wv_kD]) (fun ls hl => ?_)
  refine wq_aload_n X dX4_meanSteps_4 rfl (lv_at hl 2 rfl) ?_
  refine wq_gA X S hv ccX4 in_X4 (k := 0) (by decide) q1800 dX4_meanSteps_5 (fun x5 hv => ?_)
  refine wq_astore_n X (i := 3) (lv' := [(3, va_rf x5), (2, .int (0 : Int32)), (1, .int (0 : Int32)), (0, va_rf v0)]) dX4_meanSteps_8 rfl hl (by decide) (by simp [wv_rfc, wv_kI, wv_kJ, wv_kF, wv_kD]) (fun ls hl => ?_)
  refine wq_aload_n X dX4_meanSteps_9 rfl (lv_at hl 0 rfl) ?_
  refine wq_len7 X S hv dX4_meanSteps_10 (fun x10 hv => ?_)
  refine lv_istore X.hx X.hb (i := 4) (lv' := [(4, .int x10), (3, va_rf x5), (2, .int (0 : Int32)), (1, .int (0 : Int32)), (0, va_rf v0)]) dX4_meanSteps_11 hl (by decide) (by simp [wv_rfc, wv_kI, wv_kJ, wv_kF, wv_kD]) (fun ls hl => ?_)
  refine lv_iconst (v := (0 : Int32)) X.hx X.hb dX4_meanSteps_13 (by decide) ?_
  refine lv_istore X.hx X.hb (i := 5) (lv' := [(5, .int (0 : Int32)), (4, .int x10), (3, va_rf x5), (2, .int (0 : Int32)), (1, .int (0 : Int32)), (0, va_rf v0)]) dX4_meanSteps_14 hl (by decide) (by simp [wv_rfc, wv_kI, wv_kJ, wv_kF, wv_kD]) (fun ls hl => ?_)
  exact wv_loop (A := (Option Nat) × Int32 × Int32 × (Option Nat) × Int32 × Int32) (fun a w => wv_J G p e R s m args below meth c 7 P w 16 [(0, va_rf a.1), (1, .int a.2.1), (2, .int a.2.2.1), (3, va_rf a.2.2.2.1), (4, .int a.2.2.2.2.1), (5, .int a.2.2.2.2.2)] []) (fun K16 hK16 a w hv => wk_X4_meanSteps_16 X hK16 hv) hv H locs cells slots ls S (lv_sub hl [5, 4, 3, 2, 1, 0] rfl)
theorem wk_X4_meanSteps {G : wv_G} (hG : wv_G0 G) {v0 : Option Nat} {h : wv_H} {fr kc ks : Nat} {P : wv_R → wv_H → Prop} (hv : vc_X4_meanSteps_0 G fr P v0 (h, kc, ks)) : wv_C G yX4_meanSteps [va_rf v0] h fr kc ks P := by
  refine wv_enter (lv := [(0, va_rf v0)]) hG (by decide +kernel) q2541 (by decide) (by simp [lg_sl, wv_rfc, wv_kI, wv_kJ, wv_kF, wv_kD]) (by simp [lv_args, wv_rfc, wv_kI, wv_kJ, wv_kF, wv_kD]) ?_
  intro p e R s m args below meth c X H locs cells slots ls S hl
  exact wk_X4_meanSteps_0 X hv H locs cells slots ls S (lv_sub hl [0] rfl)

def vc_X4_nameMatch_22 (G : wv_G) (fr : Nat) (P : wv_R → wv_H → Prop) (s0 : Int32) (w : wv_W) : Prop :=
  wv_c0 G fr yX4_sure [.int s0] w (wv_rI (fun x22 w22 => narrow .char (.int x22) = .int x22 ∧ P (.inl (some (.int x22))) w22.1) (wv_pr P))
def vc_X4_nameMatch_0 (G : wv_G) (fr : Nat) (P : wv_R → wv_H → Prop) (v1 : Option Nat) (v2 : Int32) (w : wv_W) : Prop :=
  wv_cV G fr yX20_kind v1 [] w (wv_rI (fun x1 w1 => (x1 = (104 : Int32) → wv_cV G fr yX20_name v1 [] w1 (wv_rI (fun x30 w30 => (x30 < v2 → narrow .char (.int (110 : Int32)) = .int (110 : Int32) ∧ P (.inl (some (.int (110 : Int32)))) w30.1) ∧ (¬ x30 < v2 → narrow .char (.int (109 : Int32)) = .int (109 : Int32) ∧ P (.inl (some (.int (109 : Int32)))) w30.1)) (wv_pr P))) ∧ (¬ x1 = (104 : Int32) → wv_cV G fr yX20_name v1 [] w1 (wv_rI (fun x10 w10 => (¬ x10 = v2 → vc_X4_nameMatch_22 G fr P (0 : Int32) w10) ∧ (x10 = v2 → vc_X4_nameMatch_22 G fr P (1 : Int32) w10)) (wv_pr P)))) (wv_pr P))
set_option maxHeartbeats 4000000 in
theorem wk_X4_nameMatch_22 {G : wv_G} {p : Program} {e : Env} {R : Room} {s : State} {m : MethodId} {args : Array Value} {below : List Frame} {meth : Method} {c : Code} {fr : Nat} {P : wv_R → wv_H → Prop} (X : wv_ok G p R s m args meth c fr "WeaversgateModel" cX4_nameMatch 3 (Option.some Jvm.ClassFile.FieldType.char) "nameMatch" []) {s0 : Int32} {w : wv_W} (hv : vc_X4_nameMatch_22 G fr P s0 w) : wv_J G p e R s m args below meth c 3 P w 22 [] [.int s0] := by
  intro H locs cells slots ls S hl
  unfold vc_X4_nameMatch_22 at hv
  refine wq_cS_I X S hv q2145 q2146 q66 ⟨by decide +kernel, by decide +kernel⟩ (nA := 1) (As := [.int s0]) (by decide +kernel) rfl rfl (by simp [wv_rfc, wv_kI, wv_kJ, wv_kF, wv_kD]) hl.1 dX4_nameMatch_22 (fun x22 w22 H locs cells slots S hv => ?_) (wq_kx X rfl)
  refine lv_goto (tgt := 43) X.hx X.hb dX4_nameMatch_25 (by decide) ?_
  exact wr_iret X S hv.1 hv.2 dX4_nameMatch_43
set_option maxHeartbeats 4000000 in
theorem wk_X4_nameMatch_0 {G : wv_G} {p : Program} {e : Env} {R : Room} {s : State} {m : MethodId} {args : Array Value} {below : List Frame} {meth : Method} {c : Code} {fr : Nat} {P : wv_R → wv_H → Prop} (X : wv_ok G p R s m args meth c fr "WeaversgateModel" cX4_nameMatch 3 (Option.some Jvm.ClassFile.FieldType.char) "nameMatch" []) {v1 : Option Nat} {v2 : Int32} {w : wv_W} (hv : vc_X4_nameMatch_0 G fr P v1 v2 w) : wv_J G p e R s m args below meth c 3 P w 0 [(1, va_rf v1), (2, .int v2)] [] := by
  intro H locs cells slots ls S hl
  unfold vc_X4_nameMatch_0 at hv
  refine wq_aload_n X dX4_nameMatch_0 rfl (lv_at hl 0 rfl) ?_
  refine wq_cV_I X S hv q2137 q2138 q2139 q105 ⟨by decide +kernel, by decide +kernel⟩ (nA := 0) (As := []) (by decide +kernel) rfl rfl (by simp [wv_rfc, wv_kI, wv_kJ, wv_kF, wv_kD]) hl.1 dX4_nameMatch_1 (fun x1 w1 H locs cells slots S hv => ?_) (wq_kx X rfl)
  refine lv_bipush (v := (104 : Int32)) X.hx X.hb dX4_nameMatch_4 (by decide) ?_
  refine lv_icmp_eq (tgt := 28) X.hx X.hb dX4_nameMatch_6 (by decide) (fun c6 => ?_) (fun c6 => ?_)
  · have hv := hv.1 c6
    refine lv_iload_n X.hx X.hb dX4_nameMatch_28 rfl (lv_at hl 1 rfl) ?_
    refine wq_aload_n X dX4_nameMatch_29 rfl (lv_at hl 0 rfl) ?_
    refine wq_cV_I X S hv q2141 q2142 q2143 q105 ⟨by decide +kernel, by decide +kernel⟩ (nA := 0) (As := []) (by decide +kernel) rfl rfl (by simp [wv_rfc, wv_kI, wv_kJ, wv_kF, wv_kD]) hl.1 dX4_nameMatch_30 (fun x30 w30 H locs cells slots S hv => ?_) (wq_kx X rfl)
    refine lv_icmp_gt (tgt := 41) X.hx X.hb dX4_nameMatch_33 (by decide) (fun c33 => ?_) (fun c33 => ?_)
    · have hv := hv.1 c33
      refine lv_bipush (v := (110 : Int32)) X.hx X.hb dX4_nameMatch_41 (by decide) ?_
      exact wr_iret X S hv.1 hv.2 dX4_nameMatch_43
    · have hv := hv.2 c33
      refine lv_bipush (v := (109 : Int32)) X.hx X.hb dX4_nameMatch_36 (by decide) ?_
      refine lv_goto (tgt := 43) X.hx X.hb dX4_nameMatch_38 (by decide) ?_
      exact wr_iret X S hv.1 hv.2 dX4_nameMatch_43
  · have hv := hv.2 c6
    refine wq_aload_n X dX4_nameMatch_9 rfl (lv_at hl 0 rfl) ?_
    refine wq_cV_I X S hv q2141 q2142 q2143 q105 ⟨by decide +kernel, by decide +kernel⟩ (nA := 0) (As := []) (by decide +kernel) rfl rfl (by simp [wv_rfc, wv_kI, wv_kJ, wv_kF, wv_kD]) hl.1 dX4_nameMatch_10 (fun x10 w10 H locs cells slots S hv => ?_) (wq_kx X rfl)
    refine lv_iload_n X.hx X.hb dX4_nameMatch_13 rfl (lv_at hl 1 rfl) ?_
    refine lv_icmp_ne (tgt := 21) X.hx X.hb dX4_nameMatch_14 (by decide) (fun c14 => ?_) (fun c14 => ?_)
    · have hv := hv.1 c14
      refine lv_iconst (v := (0 : Int32)) X.hx X.hb dX4_nameMatch_21 (by decide) ?_
      exact wk_X4_nameMatch_22 X  hv H locs cells slots ls S (lv_sub hl [] rfl)
    · have hv := hv.2 c14
      refine lv_iconst (v := (1 : Int32)) X.hx X.hb dX4_nameMatch_17 (by decide) ?_
      refine lv_goto (tgt := 22) X.hx X.hb dX4_nameMatch_18 (by decide) ?_
      exact wk_X4_nameMatch_22 X  hv H locs cells slots ls S (lv_sub hl [] rfl)
theorem wk_X4_nameMatch {G : wv_G} (hG : wv_G0 G) {v0 : Option Nat} {v1 : Option Nat} {v2 : Int32} {h : wv_H} {fr kc ks : Nat} {P : wv_R → wv_H → Prop} (hv : vc_X4_nameMatch_0 G fr P v1 v2 (h, kc, ks)) : wv_C G yX4_nameMatch [va_rf v0, va_rf v1, .int v2] h fr kc ks P := by
  refine wv_enter (lv := [(0, va_rf v0), (1, va_rf v1), (2, .int v2)]) hG (by decide +kernel) q2136 (by decide) (by simp [lg_sl, wv_rfc, wv_kI, wv_kJ, wv_kF, wv_kD]) (by simp [lv_args, wv_rfc, wv_kI, wv_kJ, wv_kF, wv_kD]) ?_
  intro p e R s m args below meth c X H locs cells slots ls S hl
  exact wk_X4_nameMatch_0 X hv H locs cells slots ls S (lv_sub hl [1, 2] rfl)

def vc_X4_order_50 (G : wv_G) (fr : Nat) (P : wv_R → wv_H → Prop) (K10 : ((Option Nat) × (Option Nat) × Int32) → wv_W → Prop) (K18 : ((Option Nat) × (Option Nat) × Int32 × Int32) → wv_W → Prop) (v0 : Option Nat) (v1 : Option Nat) (v2 : Int32) (v3 : Int32) (w : wv_W) : Prop :=
  K18 (v0, v1, v2, (v3 + (1 : Int32))) w
def vc_X4_order_18 (G : wv_G) (fr : Nat) (P : wv_R → wv_H → Prop) (K10 : ((Option Nat) × (Option Nat) × Int32) → wv_W → Prop) (K18 : ((Option Nat) × (Option Nat) × Int32 × Int32) → wv_W → Prop) (v0 : Option Nat) (v1 : Option Nat) (v2 : Int32) (v3 : Int32) (w : wv_W) : Prop :=
  ((4 : Int32) ≤ v3 → K10 (v0, v1, v2) w) ∧ (¬ (4 : Int32) ≤ v3 → (¬ v2 = 0 → K10 (v0, v1, v2) w) ∧ (v2 = 0 → wv_cV G fr yX4_isNext v0 [.int v3, va_rf v1] w (wv_rI (fun x30 w30 => (¬ x30 = 0 → wv_c0 G fr yJ20_valueOf [.int v3] w30 (wv_rA (fun x41 w41 => wv_cV G fr yJ2_add v1 [va_rf x41] w41 (wv_rI (fun x44 w44 => vc_X4_order_50 G fr P K10 K18 v0 v1 (1 : Int32) v3 w44) (wv_pr P))) (wv_pr P))) ∧ (x30 = 0 → vc_X4_order_50 G fr P K10 K18 v0 v1 v2 v3 w30)) (wv_pr P))))
def vc_X4_order_10 (G : wv_G) (fr : Nat) (P : wv_R → wv_H → Prop) (K10 : ((Option Nat) × (Option Nat) × Int32) → wv_W → Prop) (v0 : Option Nat) (v1 : Option Nat) (v2 : Int32) (w : wv_W) : Prop :=
  (v2 = 0 → P (.inl (some (va_rf v1))) w.1) ∧ (¬ v2 = 0 → wv_L (fun K18 a w => vc_X4_order_18 G fr P K10 K18 a.1 a.2.1 a.2.2.1 a.2.2.2 w) (v0, v1, (0 : Int32), (0 : Int32)) w)
def vc_X4_order_0 (G : wv_G) (fr : Nat) (P : wv_R → wv_H → Prop) (v0 : Option Nat) (w : wv_W) : Prop :=
  wv_no G w (wo_o ciJ2 [.int 0, va_rf none, .int 0]) 3 (fun a0 w0 => wv_cI G fr yJ2_init (some a0) [] w0 (wv_rV (fun w4 => wv_L (fun K10 a w => vc_X4_order_10 G fr P K10 a.1 a.2.1 a.2.2 w) (v0, (some a0), (1 : Int32)) w4) (wv_pr P)))
set_option maxHeartbeats 4000000 in
theorem wk_X4_order_50 {G : wv_G} {p : Program} {e : Env} {R : Room} {s : State} {m : MethodId} {args : Array Value} {below : List Frame} {meth : Method} {c : Code} {fr : Nat} {P : wv_R → wv_H → Prop} (X : wv_ok G p R s m args meth c fr "WeaversgateModel" cX4_order 4 (Option.some (Jvm.ClassFile.FieldType.object "java/util/ArrayList")) "order" []) {K10 : ((Option Nat) × (Option Nat) × Int32) → wv_W → Prop} (hK10 : ∀ a w, K10 a w → wv_J G p e R s m args below meth c 4 P w 10 [(0, va_rf a.1), (1, va_rf a.2.1), (2, .int a.2.2)] []) {K18 : ((Option Nat) × (Option Nat) × Int32 × Int32) → wv_W → Prop} (hK18 : ∀ a w, K18 a w → wv_J G p e R s m args below meth c 4 P w 18 [(0, va_rf a.1), (1, va_rf a.2.1), (2, .int a.2.2.1), (3, .int a.2.2.2)] []) {v0 : Option Nat} {v1 : Option Nat} {v2 : Int32} {v3 : Int32} {w : wv_W} (hv : vc_X4_order_50 G fr P K10 K18 v0 v1 v2 v3 w) : wv_J G p e R s m args below meth c 4 P w 50 [(0, va_rf v0), (1, va_rf v1), (2, .int v2), (3, .int v3)] [] := by
  intro H locs cells slots ls S hl
  unfold vc_X4_order_50 at hv
  refine lv_iinc (v := (v3 + (1 : Int32))) (lv' := [(3, .int (v3 + (1 : Int32))), (0, va_rf v0), (1, va_rf v1), (2, .int v2)]) X.hx X.hb dX4_order_50 hl (k := 3) rfl (by rfl) (by decide) (by simp [wv_rfc, wv_kI, wv_kJ, wv_kF, wv_kD]) (fun ls hl => ?_)
  refine lv_goto (tgt := 18) X.hx X.hb dX4_order_53 (by decide) ?_
  exact hK18 _ _ hv H locs cells slots ls S (lv_sub hl [1, 2, 3, 0] rfl)
set_option maxHeartbeats 4000000 in
theorem wk_X4_order_18 {G : wv_G} {p : Program} {e : Env} {R : Room} {s : State} {m : MethodId} {args : Array Value} {below : List Frame} {meth : Method} {c : Code} {fr : Nat} {P : wv_R → wv_H → Prop} (X : wv_ok G p R s m args meth c fr "WeaversgateModel" cX4_order 4 (Option.some (Jvm.ClassFile.FieldType.object "java/util/ArrayList")) "order" []) {K10 : ((Option Nat) × (Option Nat) × Int32) → wv_W → Prop} (hK10 : ∀ a w, K10 a w → wv_J G p e R s m args below meth c 4 P w 10 [(0, va_rf a.1), (1, va_rf a.2.1), (2, .int a.2.2)] []) {K18 : ((Option Nat) × (Option Nat) × Int32 × Int32) → wv_W → Prop} (hK18 : ∀ a w, K18 a w → wv_J G p e R s m args below meth c 4 P w 18 [(0, va_rf a.1), (1, va_rf a.2.1), (2, .int a.2.2.1), (3, .int a.2.2.2)] []) {v0 : Option Nat} {v1 : Option Nat} {v2 : Int32} {v3 : Int32} {w : wv_W} (hv : vc_X4_order_18 G fr P K10 K18 v0 v1 v2 v3 w) : wv_J G p e R s m args below meth c 4 P w 18 [(0, va_rf v0), (1, va_rf v1), (2, .int v2), (3, .int v3)] [] := by
  intro H locs cells slots ls S hl
  unfold vc_X4_order_18 at hv
  refine lv_iload_n X.hx X.hb dX4_order_18 rfl (lv_at hl 3 rfl) ?_
  refine lv_iconst (v := (4 : Int32)) X.hx X.hb dX4_order_19 (by decide) ?_
  refine lv_icmp_ge (tgt := 56) X.hx X.hb dX4_order_20 (by decide) (fun c20 => ?_) (fun c20 => ?_)
  · have hv := hv.1 c20
    refine lv_goto (tgt := 10) X.hx X.hb dX4_order_56 (by decide) ?_
    exact hK10 _ _ hv H locs cells slots ls S (lv_sub hl [0, 1, 2] rfl)
  · have hv := hv.2 c20
    refine lv_iload_n X.hx X.hb dX4_order_23 rfl (lv_at hl 2 rfl) ?_
    refine lv_if_ne (tgt := 56) X.hx X.hb dX4_order_24 (by decide) (fun c24 => ?_) (fun c24 => ?_)
    · have hv := hv.1 c24
      refine lv_goto (tgt := 10) X.hx X.hb dX4_order_56 (by decide) ?_
      exact hK10 _ _ hv H locs cells slots ls S (lv_sub hl [0, 1, 2] rfl)
    · have hv := hv.2 c24
      refine wq_aload_n X dX4_order_27 rfl (lv_at hl 0 rfl) ?_
      refine lv_iload_n X.hx X.hb dX4_order_28 rfl (lv_at hl 3 rfl) ?_
      refine wq_aload_n X dX4_order_29 rfl (lv_at hl 1 rfl) ?_
      refine wq_cV_I X S hv q1993 q1995 qs45 q66 ⟨by decide +kernel, by decide +kernel⟩ (nA := 2) (As := [.int v3, va_rf v1]) (by decide +kernel) rfl rfl (by simp [wv_rfc, wv_kI, wv_kJ, wv_kF, wv_kD]) hl.1 dX4_order_30 (fun x30 w30 H locs cells slots S hv => ?_) (wq_kx X rfl)
      refine lv_if_ne (tgt := 39) X.hx X.hb dX4_order_33 (by decide) (fun c33 => ?_) (fun c33 => ?_)
      · have hv := hv.1 c33
        refine wq_aload_n X dX4_order_39 rfl (lv_at hl 1 rfl) ?_
        refine lv_iload_n X.hx X.hb dX4_order_40 rfl (lv_at hl 3 rfl) ?_
        refine wq_cS_A X S hv q1997 q1998 q100 ⟨by decide +kernel, by decide +kernel⟩ (nA := 1) (As := [.int v3]) (by decide +kernel) rfl rfl (by simp [wv_rfc, wv_kI, wv_kJ, wv_kF, wv_kD]) hl.1 dX4_order_41 (fun x41 w41 H locs cells slots S hv => ?_) (wq_kx X rfl)
        refine wq_cV_I X S hv q2085 q752 q753 q63 ⟨by decide +kernel, by decide +kernel⟩ (nA := 1) (As := [va_rf x41]) (by decide +kernel) rfl rfl (by simp [wv_rfc, wv_kI, wv_kJ, wv_kF, wv_kD]) hl.1 dX4_order_44 (fun x44 w44 H locs cells slots S hv => ?_) (wq_kx X rfl)
        refine lv_pop X.hx X.hb dX4_order_47 rfl ?_
        refine lv_iconst (v := (1 : Int32)) X.hx X.hb dX4_order_48 (by decide) ?_
        refine lv_istore_n X.hx X.hb (i := 2) (lv' := [(2, .int (1 : Int32)), (0, va_rf v0), (1, va_rf v1), (3, .int v3)]) dX4_order_49 rfl hl (by decide) (by simp [wv_rfc, wv_kI, wv_kJ, wv_kF, wv_kD]) (fun ls hl => ?_)
        exact wk_X4_order_50 X hK10 hK18 hv H locs cells slots ls S (lv_sub hl [1, 2, 0, 3] rfl)
      · have hv := hv.2 c33
        refine lv_goto (tgt := 50) X.hx X.hb dX4_order_36 (by decide) ?_
        exact wk_X4_order_50 X hK10 hK18 hv H locs cells slots ls S (lv_sub hl [0, 1, 2, 3] rfl)
set_option maxHeartbeats 4000000 in
theorem wk_X4_order_10 {G : wv_G} {p : Program} {e : Env} {R : Room} {s : State} {m : MethodId} {args : Array Value} {below : List Frame} {meth : Method} {c : Code} {fr : Nat} {P : wv_R → wv_H → Prop} (X : wv_ok G p R s m args meth c fr "WeaversgateModel" cX4_order 4 (Option.some (Jvm.ClassFile.FieldType.object "java/util/ArrayList")) "order" []) {K10 : ((Option Nat) × (Option Nat) × Int32) → wv_W → Prop} (hK10 : ∀ a w, K10 a w → wv_J G p e R s m args below meth c 4 P w 10 [(0, va_rf a.1), (1, va_rf a.2.1), (2, .int a.2.2)] []) {v0 : Option Nat} {v1 : Option Nat} {v2 : Int32} {w : wv_W} (hv : vc_X4_order_10 G fr P K10 v0 v1 v2 w) : wv_J G p e R s m args below meth c 4 P w 10 [(0, va_rf v0), (1, va_rf v1), (2, .int v2)] [] := by
  intro H locs cells slots ls S hl
  unfold vc_X4_order_10 at hv
  refine lv_iload_n X.hx X.hb dX4_order_10 rfl (lv_at hl 2 rfl) ?_
  refine lv_if_eq (tgt := 59) X.hx X.hb dX4_order_11 (by decide) (fun c11 => ?_) (fun c11 => ?_)
  · have hv := hv.1 c11
    refine wq_aload_n X dX4_order_59 rfl (lv_at hl 1 rfl) ?_
    exact wr_aret X S (Or.inl ⟨_, rfl⟩) hv dX4_order_60
  · have hv := hv.2 c11
    refine lv_iconst (v := (0 : Int32)) X.hx X.hb dX4_order_14 (by decide) ?_
    refine lv_istore_n X.hx X.hb (i := 2) (lv' := [(2, .int (0 : Int32)), (0, va_rf v0), (1, va_rf v1)]) dX4_order_15 rfl hl (by decide) (by simp [wv_rfc, wv_kI, wv_kJ, wv_kF, wv_kD]) (fun ls hl => ?_)
    refine lv_iconst (v := (0 : Int32)) X.hx X.hb dX4_order_16 (by decide) ?_
    refine lv_istore_n X.hx X.hb (i := 3) (lv' := [(3, .int (0 : Int32)), (2, .int (0 : Int32)), (0, va_rf v0), (1, va_rf v1)]) dX4_order_17 rfl hl (by decide) (by simp [wv_rfc, wv_kI, wv_kJ, wv_kF, wv_kD]) (fun ls hl => ?_)
    exact wv_loop (A := (Option Nat) × (Option Nat) × Int32 × Int32) (fun a w => wv_J G p e R s m args below meth c 4 P w 18 [(0, va_rf a.1), (1, va_rf a.2.1), (2, .int a.2.2.1), (3, .int a.2.2.2)] []) (fun K18 hK18 a w hv => wk_X4_order_18 X hK10 hK18 hv) hv H locs cells slots ls S (lv_sub hl [2, 3, 1, 0] rfl)
set_option maxHeartbeats 4000000 in
theorem wk_X4_order_0 {G : wv_G} {p : Program} {e : Env} {R : Room} {s : State} {m : MethodId} {args : Array Value} {below : List Frame} {meth : Method} {c : Code} {fr : Nat} {P : wv_R → wv_H → Prop} (X : wv_ok G p R s m args meth c fr "WeaversgateModel" cX4_order 4 (Option.some (Jvm.ClassFile.FieldType.object "java/util/ArrayList")) "order" []) {v0 : Option Nat} {w : wv_W} (hv : vc_X4_order_0 G fr P v0 w) : wv_J G p e R s m args below meth c 4 P w 0 [(0, va_rf v0)] [] := by
  intro H locs cells slots ls S hl
  unfold vc_X4_order_0 at hv
  refine wq_new X S hv tyJ2 tyJ2_ok ccJ2 in_J2 q1991 q128 q63 (fun j hj => by have hj : j < 3 := hj; rcases (show j = 0 ∨ j = 1 ∨ j = 2 by omega) with rfl | rfl | rfl <;> rfl) dX4_order_0 (fun a0 w0 H cells slots S hv => ?_)
  refine lv_dup X.hx X.hb dX4_order_3 (wv_rfc _) ?_
  refine wq_cI_V X S hv rfl q1992 q130 q131 q63 ⟨by decide +kernel, by decide +kernel⟩ (nA := 0) (As := []) (by decide +kernel) rfl rfl (by simp [wv_rfc, wv_kI, wv_kJ, wv_kF, wv_kD]) hl.1 dX4_order_4 (fun w4 H locs cells slots S hv => ?_) (wq_kx X rfl)
  refine wq_astore_n X (i := 1) (lv' := [(1, va_rf (some a0)), (0, va_rf v0)]) dX4_order_7 rfl hl (by decide) (by simp [wv_rfc, wv_kI, wv_kJ, wv_kF, wv_kD]) (fun ls hl => ?_)
  refine lv_iconst (v := (1 : Int32)) X.hx X.hb dX4_order_8 (by decide) ?_
  refine lv_istore_n X.hx X.hb (i := 2) (lv' := [(2, .int (1 : Int32)), (1, va_rf (some a0)), (0, va_rf v0)]) dX4_order_9 rfl hl (by decide) (by simp [wv_rfc, wv_kI, wv_kJ, wv_kF, wv_kD]) (fun ls hl => ?_)
  exact wv_loop (A := (Option Nat) × (Option Nat) × Int32) (fun a w => wv_J G p e R s m args below meth c 4 P w 10 [(0, va_rf a.1), (1, va_rf a.2.1), (2, .int a.2.2)] []) (fun K10 hK10 a w hv => wk_X4_order_10 X hK10 hv) hv H locs cells slots ls S (lv_sub hl [2, 1, 0] rfl)
theorem wk_X4_order {G : wv_G} (hG : wv_G0 G) {v0 : Option Nat} {h : wv_H} {fr kc ks : Nat} {P : wv_R → wv_H → Prop} (hv : vc_X4_order_0 G fr P v0 (h, kc, ks)) : wv_C G yX4_order [va_rf v0] h fr kc ks P := by
  refine wv_enter (lv := [(0, va_rf v0)]) hG (by decide +kernel) q1990 (by decide) (by simp [lg_sl, wv_rfc, wv_kI, wv_kJ, wv_kF, wv_kD]) (by simp [lv_args, wv_rfc, wv_kI, wv_kJ, wv_kF, wv_kD]) ?_
  intro p e R s m args below meth c X H locs cells slots ls S hl
  exact wk_X4_order_0 X hv H locs cells slots ls S (lv_sub hl [0] rfl)

def vc_X4_pairs_125 (G : wv_G) (fr : Nat) (P : wv_R → wv_H → Prop) (K4 : ((Option Nat) × Int32 × Int32 × Int32) → wv_W → Prop) (K32 : ((Option Nat) × Int32 × Int32 × Int32 × (Option Nat)) → wv_W → Prop) (K57 : ((Option Nat) × Int32 × Int32 × Int32 × (Option Nat) × (Option Nat) × Int32) → wv_W → Prop) (v0 : Option Nat) (v1 : Int32) (v3 : Int32) (v4 : Option Nat) (v5 : Option Nat) (v6 : Int32) (s0 : Int32) (s1 : Int32) (w : wv_W) : Prop :=
  K57 (v0, v1, (s1 + s0), v3, v4, v5, (v6 + (1 : Int32))) w
def vc_X4_pairs_112 (G : wv_G) (fr : Nat) (P : wv_R → wv_H → Prop) (K4 : ((Option Nat) × Int32 × Int32 × Int32) → wv_W → Prop) (K32 : ((Option Nat) × Int32 × Int32 × Int32 × (Option Nat)) → wv_W → Prop) (K57 : ((Option Nat) × Int32 × Int32 × Int32 × (Option Nat) × (Option Nat) × Int32) → wv_W → Prop) (v0 : Option Nat) (v1 : Int32) (v2 : Int32) (v3 : Int32) (v4 : Option Nat) (v5 : Option Nat) (v6 : Int32) (s0 : Int32) (w : wv_W) : Prop :=
  (s0 = 0 → vc_X4_pairs_125 G fr P K4 K32 K57 v0 v1 v3 v4 v5 v6 (0 : Int32) v2 w) ∧ (¬ s0 = 0 → vc_X4_pairs_125 G fr P K4 K32 K57 v0 v1 v3 v4 v5 v6 (1 : Int32) v2 w)
def vc_X4_pairs_57 (G : wv_G) (fr : Nat) (P : wv_R → wv_H → Prop) (K4 : ((Option Nat) × Int32 × Int32 × Int32) → wv_W → Prop) (K32 : ((Option Nat) × Int32 × Int32 × Int32 × (Option Nat)) → wv_W → Prop) (K57 : ((Option Nat) × Int32 × Int32 × Int32 × (Option Nat) × (Option Nat) × Int32) → wv_W → Prop) (v0 : Option Nat) (v1 : Int32) (v2 : Int32) (v3 : Int32) (v4 : Option Nat) (v5 : Option Nat) (v6 : Int32) (w : wv_W) : Prop :=
  wv_gI w v0 ciX4 15 (fun x60 => (x60 ≤ v6 → K32 (v0, v1, v2, v3, v4) w) ∧ (¬ x60 ≤ v6 → wv_gA w v0 ciX4 10 (fun x67 => wv_li G 2 w x67 v6 (fun x72 => (x72 = 0 → vc_X4_pairs_112 G fr P K4 K32 K57 v0 v1 v2 v3 v4 v5 v6 (0 : Int32) w) ∧ (¬ x72 = 0 → (v1 = (32 : Int32) → vc_X4_pairs_112 G fr P K4 K32 K57 v0 v1 v2 v3 v4 v5 v6 (1 : Int32) w) ∧ (¬ v1 = (32 : Int32) → (¬ (6 : Int32) = 0) ∧ ((¬ (6 : Int32) = 0) ∧ (wv_gA w v0 ciX4 5 (fun x94 => wv_li G 0 w x94 v6 (fun x99 => wv_cV G fr yX4_matches v0 [va_rf v5, .int (v3 / (6 : Int32)), .int (v3 - v3 / (6 : Int32) * (6 : Int32)), .int x99] w (wv_rI (fun x100 w100 => (¬ x100 = v1 → vc_X4_pairs_112 G fr P K4 K32 K57 v0 v1 v2 v3 v4 v5 v6 (0 : Int32) w100) ∧ (x100 = v1 → vc_X4_pairs_112 G fr P K4 K32 K57 v0 v1 v2 v3 v4 v5 v6 (1 : Int32) w100)) (wv_pr P))))))))))))
def vc_X4_pairs_32 (G : wv_G) (fr : Nat) (P : wv_R → wv_H → Prop) (K4 : ((Option Nat) × Int32 × Int32 × Int32) → wv_W → Prop) (K32 : ((Option Nat) × Int32 × Int32 × Int32 × (Option Nat)) → wv_W → Prop) (v0 : Option Nat) (v1 : Int32) (v2 : Int32) (v3 : Int32) (v4 : Option Nat) (w : wv_W) : Prop :=
  wv_cF G fr (⟨"java/util/Iterator", "hasNext", "()Z"⟩ : MethodName) v4 [] w (wv_rI (fun x34 w34 => (x34 = 0 → K4 (v0, v1, v2, (v3 + (1 : Int32))) w34) ∧ (¬ x34 = 0 → wv_cF G fr (⟨"java/util/Iterator", "next", "()Ljava/lang/Object;"⟩ : MethodName) v4 [] w34 (wv_rA (fun x44 w44 => wv_cc G w44 x44 "WeaversgateModel$Spot" (wv_L (fun K57 a w => vc_X4_pairs_57 G fr P K4 K32 K57 a.1 a.2.1 a.2.2.1 a.2.2.2.1 a.2.2.2.2.1 a.2.2.2.2.2.1 a.2.2.2.2.2.2 w) (v0, v1, v2, v3, v4, x44, (0 : Int32)) w44)) (wv_pr P)))) (wv_pr P))
def vc_X4_pairs_4 (G : wv_G) (fr : Nat) (P : wv_R → wv_H → Prop) (K4 : ((Option Nat) × Int32 × Int32 × Int32) → wv_W → Prop) (v0 : Option Nat) (v1 : Int32) (v2 : Int32) (v3 : Int32) (w : wv_W) : Prop :=
  wv_gI w v0 ciX4 13 (fun x8 => (((6 : Int32) * x8) ≤ v3 → P (.inl (some (.int v2))) w.1) ∧ (¬ ((6 : Int32) * x8) ≤ v3 → (¬ (6 : Int32) = 0) ∧ ((¬ (6 : Int32) = 0) ∧ (wv_cV G fr yX4_spots v0 [.int (v3 / (6 : Int32)), .int (v3 - v3 / (6 : Int32) * (6 : Int32))] w (wv_rA (fun x24 w24 => wv_cV G fr yJ2_iterator x24 [] w24 (wv_rA (fun x27 w27 => wv_L (fun K32 a w => vc_X4_pairs_32 G fr P K4 K32 a.1 a.2.1 a.2.2.1 a.2.2.2.1 a.2.2.2.2 w) (v0, v1, v2, v3, x27) w27) (wv_pr P))) (wv_pr P))))))
def vc_X4_pairs_0 (G : wv_G) (fr : Nat) (P : wv_R → wv_H → Prop) (v0 : Option Nat) (v1 : Int32) (w : wv_W) : Prop :=
  wv_L (fun K4 a w => vc_X4_pairs_4 G fr P K4 a.1 a.2.1 a.2.2.1 a.2.2.2 w) (v0, v1, (0 : Int32), (0 : Int32)) w
set_option maxHeartbeats 4000000 in
theorem wk_X4_pairs_125 {G : wv_G} {p : Program} {e : Env} {R : Room} {s : State} {m : MethodId} {args : Array Value} {below : List Frame} {meth : Method} {c : Code} {fr : Nat} {P : wv_R → wv_H → Prop} (X : wv_ok G p R s m args meth c fr "WeaversgateModel" cX4_pairs 8 (Option.some Jvm.ClassFile.FieldType.int) "pairs" []) {K4 : ((Option Nat) × Int32 × Int32 × Int32) → wv_W → Prop} (hK4 : ∀ a w, K4 a w → wv_J G p e R s m args below meth c 8 P w 4 [(0, va_rf a.1), (1, .int a.2.1), (2, .int a.2.2.1), (3, .int a.2.2.2)] []) {K32 : ((Option Nat) × Int32 × Int32 × Int32 × (Option Nat)) → wv_W → Prop} (hK32 : ∀ a w, K32 a w → wv_J G p e R s m args below meth c 8 P w 32 [(0, va_rf a.1), (1, .int a.2.1), (2, .int a.2.2.1), (3, .int a.2.2.2.1), (4, va_rf a.2.2.2.2)] []) {K57 : ((Option Nat) × Int32 × Int32 × Int32 × (Option Nat) × (Option Nat) × Int32) → wv_W → Prop} (hK57 : ∀ a w, K57 a w → wv_J G p e R s m args below meth c 8 P w 57 [(0, va_rf a.1), (1, .int a.2.1), (2, .int a.2.2.1), (3, .int a.2.2.2.1), (4, va_rf a.2.2.2.2.1), (5, va_rf a.2.2.2.2.2.1), (6, .int a.2.2.2.2.2.2)] []) {v0 : Option Nat} {v1 : Int32} {v3 : Int32} {v4 : Option Nat} {v5 : Option Nat} {v6 : Int32} {s0 : Int32} {s1 : Int32} {w : wv_W} (hv : vc_X4_pairs_125 G fr P K4 K32 K57 v0 v1 v3 v4 v5 v6 s0 s1 w) : wv_J G p e R s m args below meth c 8 P w 125 [(0, va_rf v0), (1, .int v1), (3, .int v3), (4, va_rf v4), (5, va_rf v5), (6, .int v6)] [.int s0, .int s1] := by
  intro H locs cells slots ls S hl
  unfold vc_X4_pairs_125 at hv
  refine lv_iadd X.hx X.hb dX4_pairs_125 ?_
  refine lv_istore_n X.hx X.hb (i := 2) (lv' := [(2, .int (s1 + s0)), (0, va_rf v0), (1, .int v1), (3, .int v3), (4, va_rf v4), (5, va_rf v5), (6, .int v6)]) dX4_pairs_126 rfl hl (by decide) (by simp [wv_rfc, wv_kI, wv_kJ, wv_kF, wv_kD]) (fun ls hl => ?_)
  refine lv_iinc (v := (v6 + (1 : Int32))) (lv' := [(6, .int (v6 + (1 : Int32))), (2, .int (s1 + s0)), (0, va_rf v0), (1, .int v1), (3, .int v3), (4, va_rf v4), (5, va_rf v5)]) X.hx X.hb dX4_pairs_127 hl (k := 6) rfl (by rfl) (by decide) (by simp [wv_rfc, wv_kI, wv_kJ, wv_kF, wv_kD]) (fun ls hl => ?_)
  refine lv_goto (tgt := 57) X.hx X.hb dX4_pairs_130 (by decide) ?_
  exact hK57 _ _ hv H locs cells slots ls S (lv_sub hl [2, 3, 1, 4, 5, 6, 0] rfl)
set_option maxHeartbeats 4000000 in
theorem wk_X4_pairs_112 {G : wv_G} {p : Program} {e : Env} {R : Room} {s : State} {m : MethodId} {args : Array Value} {below : List Frame} {meth : Method} {c : Code} {fr : Nat} {P : wv_R → wv_H → Prop} (X : wv_ok G p R s m args meth c fr "WeaversgateModel" cX4_pairs 8 (Option.some Jvm.ClassFile.FieldType.int) "pairs" []) {K4 : ((Option Nat) × Int32 × Int32 × Int32) → wv_W → Prop} (hK4 : ∀ a w, K4 a w → wv_J G p e R s m args below meth c 8 P w 4 [(0, va_rf a.1), (1, .int a.2.1), (2, .int a.2.2.1), (3, .int a.2.2.2)] []) {K32 : ((Option Nat) × Int32 × Int32 × Int32 × (Option Nat)) → wv_W → Prop} (hK32 : ∀ a w, K32 a w → wv_J G p e R s m args below meth c 8 P w 32 [(0, va_rf a.1), (1, .int a.2.1), (2, .int a.2.2.1), (3, .int a.2.2.2.1), (4, va_rf a.2.2.2.2)] []) {K57 : ((Option Nat) × Int32 × Int32 × Int32 × (Option Nat) × (Option Nat) × Int32) → wv_W → Prop} (hK57 : ∀ a w, K57 a w → wv_J G p e R s m args below meth c 8 P w 57 [(0, va_rf a.1), (1, .int a.2.1), (2, .int a.2.2.1), (3, .int a.2.2.2.1), (4, va_rf a.2.2.2.2.1), (5, va_rf a.2.2.2.2.2.1), (6, .int a.2.2.2.2.2.2)] []) {v0 : Option Nat} {v1 : Int32} {v2 : Int32} {v3 : Int32} {v4 : Option Nat} {v5 : Option Nat} {v6 : Int32} {s0 : Int32} {w : wv_W} (hv : vc_X4_pairs_112 G fr P K4 K32 K57 v0 v1 v2 v3 v4 v5 v6 s0 w) : wv_J G p e R s m args below meth c 8 P w 112 [(0, va_rf v0), (1, .int v1), (2, .int v2), (3, .int v3), (4, va_rf v4), (5, va_rf v5), (6, .int v6)] [.int s0] := by
  intro H locs cells slots ls S hl
  unfold vc_X4_pairs_112 at hv
  refine lv_istore X.hx X.hb (i := 7) (lv' := [(7, .int s0), (0, va_rf v0), (1, .int v1), (2, .int v2), (3, .int v3), (4, va_rf v4), (5, va_rf v5), (6, .int v6)]) dX4_pairs_112 hl (by decide) (by simp [wv_rfc, wv_kI, wv_kJ, wv_kF, wv_kD]) (fun ls hl => ?_)
  refine lv_iload_n X.hx X.hb dX4_pairs_114 rfl (lv_at hl 3 rfl) ?_
  refine lv_iload X.hx X.hb dX4_pairs_115 (lv_at hl 0 rfl) ?_
  refine lv_if_eq (tgt := 124) X.hx X.hb dX4_pairs_117 (by decide) (fun c117 => ?_) (fun c117 => ?_)
  · have hv := hv.1 c117
    refine lv_iconst (v := (0 : Int32)) X.hx X.hb dX4_pairs_124 (by decide) ?_
    exact wk_X4_pairs_125 X hK4 hK32 hK57 hv H locs cells slots ls S (lv_sub hl [1, 2, 4, 5, 6, 7] rfl)
  · have hv := hv.2 c117
    refine lv_iconst (v := (1 : Int32)) X.hx X.hb dX4_pairs_120 (by decide) ?_
    refine lv_goto (tgt := 125) X.hx X.hb dX4_pairs_121 (by decide) ?_
    exact wk_X4_pairs_125 X hK4 hK32 hK57 hv H locs cells slots ls S (lv_sub hl [1, 2, 4, 5, 6, 7] rfl)
set_option maxHeartbeats 4000000 in
theorem wk_X4_pairs_57 {G : wv_G} {p : Program} {e : Env} {R : Room} {s : State} {m : MethodId} {args : Array Value} {below : List Frame} {meth : Method} {c : Code} {fr : Nat} {P : wv_R → wv_H → Prop} (X : wv_ok G p R s m args meth c fr "WeaversgateModel" cX4_pairs 8 (Option.some Jvm.ClassFile.FieldType.int) "pairs" []) {K4 : ((Option Nat) × Int32 × Int32 × Int32) → wv_W → Prop} (hK4 : ∀ a w, K4 a w → wv_J G p e R s m args below meth c 8 P w 4 [(0, va_rf a.1), (1, .int a.2.1), (2, .int a.2.2.1), (3, .int a.2.2.2)] []) {K32 : ((Option Nat) × Int32 × Int32 × Int32 × (Option Nat)) → wv_W → Prop} (hK32 : ∀ a w, K32 a w → wv_J G p e R s m args below meth c 8 P w 32 [(0, va_rf a.1), (1, .int a.2.1), (2, .int a.2.2.1), (3, .int a.2.2.2.1), (4, va_rf a.2.2.2.2)] []) {K57 : ((Option Nat) × Int32 × Int32 × Int32 × (Option Nat) × (Option Nat) × Int32) → wv_W → Prop} (hK57 : ∀ a w, K57 a w → wv_J G p e R s m args below meth c 8 P w 57 [(0, va_rf a.1), (1, .int a.2.1), (2, .int a.2.2.1), (3, .int a.2.2.2.1), (4, va_rf a.2.2.2.2.1), (5, va_rf a.2.2.2.2.2.1), (6, .int a.2.2.2.2.2.2)] []) {v0 : Option Nat} {v1 : Int32} {v2 : Int32} {v3 : Int32} {v4 : Option Nat} {v5 : Option Nat} {v6 : Int32} {w : wv_W} (hv : vc_X4_pairs_57 G fr P K4 K32 K57 v0 v1 v2 v3 v4 v5 v6 w) : wv_J G p e R s m args below meth c 8 P w 57 [(0, va_rf v0), (1, .int v1), (2, .int v2), (3, .int v3), (4, va_rf v4), (5, va_rf v5), (6, .int v6)] [] := by
  intro H locs cells slots ls S hl
  unfold vc_X4_pairs_57 at hv
  refine lv_iload X.hx X.hb dX4_pairs_57 (lv_at hl 6 rfl) ?_
  refine wq_aload_n X dX4_pairs_59 rfl (lv_at hl 0 rfl) ?_
  refine wq_gI X S hv ccX4 in_X4 (k := 15) (by decide) q1825 dX4_pairs_60 (fun x60 hv => ?_)
  refine lv_icmp_ge (tgt := 133) X.hx X.hb dX4_pairs_63 (by decide) (fun c63 => ?_) (fun c63 => ?_)
  · have hv := hv.1 c63
    refine lv_goto (tgt := 32) X.hx X.hb dX4_pairs_133 (by decide) ?_
    exact hK32 _ _ hv H locs cells slots ls S (lv_sub hl [0, 1, 2, 3, 4] rfl)
  · have hv := hv.2 c63
    refine wq_aload_n X dX4_pairs_66 rfl (lv_at hl 0 rfl) ?_
    refine wq_gA X S hv ccX4 in_X4 (k := 10) (by decide) q1818 dX4_pairs_67 (fun x67 hv => ?_)
    refine lv_iload X.hx X.hb dX4_pairs_70 (lv_at hl 6 rfl) ?_
    refine wq_li2 X S hv dX4_pairs_72 (fun x72 hv => ?_)
    refine lv_if_eq (tgt := 111) X.hx X.hb dX4_pairs_73 (by decide) (fun c73 => ?_) (fun c73 => ?_)
    · have hv := hv.1 c73
      refine lv_iconst (v := (0 : Int32)) X.hx X.hb dX4_pairs_111 (by decide) ?_
      exact wk_X4_pairs_112 X hK4 hK32 hK57 hv H locs cells slots ls S (lv_sub hl [0, 1, 2, 3, 4, 5, 6] rfl)
    · have hv := hv.2 c73
      refine lv_iload_n X.hx X.hb dX4_pairs_76 rfl (lv_at hl 1 rfl) ?_
      refine lv_bipush (v := (32 : Int32)) X.hx X.hb dX4_pairs_77 (by decide) ?_
      refine lv_icmp_eq (tgt := 107) X.hx X.hb dX4_pairs_79 (by decide) (fun c79 => ?_) (fun c79 => ?_)
      · have hv := hv.1 c79
        refine lv_iconst (v := (1 : Int32)) X.hx X.hb dX4_pairs_107 (by decide) ?_
        refine lv_goto (tgt := 112) X.hx X.hb dX4_pairs_108 (by decide) ?_
        exact wk_X4_pairs_112 X hK4 hK32 hK57 hv H locs cells slots ls S (lv_sub hl [0, 1, 2, 3, 4, 5, 6] rfl)
      · have hv := hv.2 c79
        refine wq_aload_n X dX4_pairs_82 rfl (lv_at hl 0 rfl) ?_
        refine wq_aload X dX4_pairs_83 (lv_at hl 5 rfl) ?_
        refine lv_iload_n X.hx X.hb dX4_pairs_85 rfl (lv_at hl 3 rfl) ?_
        refine lv_bipush (v := (6 : Int32)) X.hx X.hb dX4_pairs_86 (by decide) ?_
        refine lv_idiv X.hx X.hb dX4_pairs_88 hv.1 ?_
        have hv := hv.2
        refine lv_iload_n X.hx X.hb dX4_pairs_89 rfl (lv_at hl 3 rfl) ?_
        refine lv_bipush (v := (6 : Int32)) X.hx X.hb dX4_pairs_90 (by decide) ?_
        refine lv_irem X.hx X.hb dX4_pairs_92 hv.1 ?_
        have hv := hv.2
        refine wq_aload_n X dX4_pairs_93 rfl (lv_at hl 0 rfl) ?_
        refine wq_gA X S hv ccX4 in_X4 (k := 5) (by decide) q1808 dX4_pairs_94 (fun x94 hv => ?_)
        refine lv_iload X.hx X.hb dX4_pairs_97 (lv_at hl 6 rfl) ?_
        refine wq_li0 X S hv dX4_pairs_99 (fun x99 hv => ?_)
        refine wq_cV_I X S hv q2129 q2131 qs47 q66 ⟨by decide +kernel, by decide +kernel⟩ (nA := 4) (As := [va_rf v5, .int (v3 / (6 : Int32)), .int (v3 - v3 / (6 : Int32) * (6 : Int32)), .int x99]) (by decide +kernel) rfl rfl (by simp [wv_rfc, wv_kI, wv_kJ, wv_kF, wv_kD]) hl.1 dX4_pairs_100 (fun x100 w100 H locs cells slots S hv => ?_) (wq_kx X rfl)
        refine lv_iload_n X.hx X.hb dX4_pairs_103 rfl (lv_at hl 1 rfl) ?_
        refine lv_icmp_ne (tgt := 111) X.hx X.hb dX4_pairs_104 (by decide) (fun c104 => ?_) (fun c104 => ?_)
        · have hv := hv.1 c104
          refine lv_iconst (v := (0 : Int32)) X.hx X.hb dX4_pairs_111 (by decide) ?_
          exact wk_X4_pairs_112 X hK4 hK32 hK57 hv H locs cells slots ls S (lv_sub hl [0, 1, 2, 3, 4, 5, 6] rfl)
        · have hv := hv.2 c104
          refine lv_iconst (v := (1 : Int32)) X.hx X.hb dX4_pairs_107 (by decide) ?_
          refine lv_goto (tgt := 112) X.hx X.hb dX4_pairs_108 (by decide) ?_
          exact wk_X4_pairs_112 X hK4 hK32 hK57 hv H locs cells slots ls S (lv_sub hl [0, 1, 2, 3, 4, 5, 6] rfl)
set_option maxHeartbeats 4000000 in
theorem wk_X4_pairs_32 {G : wv_G} {p : Program} {e : Env} {R : Room} {s : State} {m : MethodId} {args : Array Value} {below : List Frame} {meth : Method} {c : Code} {fr : Nat} {P : wv_R → wv_H → Prop} (X : wv_ok G p R s m args meth c fr "WeaversgateModel" cX4_pairs 8 (Option.some Jvm.ClassFile.FieldType.int) "pairs" []) {K4 : ((Option Nat) × Int32 × Int32 × Int32) → wv_W → Prop} (hK4 : ∀ a w, K4 a w → wv_J G p e R s m args below meth c 8 P w 4 [(0, va_rf a.1), (1, .int a.2.1), (2, .int a.2.2.1), (3, .int a.2.2.2)] []) {K32 : ((Option Nat) × Int32 × Int32 × Int32 × (Option Nat)) → wv_W → Prop} (hK32 : ∀ a w, K32 a w → wv_J G p e R s m args below meth c 8 P w 32 [(0, va_rf a.1), (1, .int a.2.1), (2, .int a.2.2.1), (3, .int a.2.2.2.1), (4, va_rf a.2.2.2.2)] []) {v0 : Option Nat} {v1 : Int32} {v2 : Int32} {v3 : Int32} {v4 : Option Nat} {w : wv_W} (hv : vc_X4_pairs_32 G fr P K4 K32 v0 v1 v2 v3 v4 w) : wv_J G p e R s m args below meth c 8 P w 32 [(0, va_rf v0), (1, .int v1), (2, .int v2), (3, .int v3), (4, va_rf v4)] [] := by
  intro H locs cells slots ls S hl
  unfold vc_X4_pairs_32 at hv
  refine wq_aload X dX4_pairs_32 (lv_at hl 4 rfl) ?_
  refine wq_cF_I X S hv q2198 ⟨by decide +kernel, by decide +kernel⟩ (nA := 0) (As := []) (by decide +kernel) rfl rfl (by simp [wv_rfc, wv_kI, wv_kJ, wv_kF, wv_kD]) hl.1 dX4_pairs_34 (fun x34 w34 H locs cells slots S hv => ?_) (wq_kx X rfl)
  refine lv_if_eq (tgt := 136) X.hx X.hb dX4_pairs_39 (by decide) (fun c39 => ?_) (fun c39 => ?_)
  · have hv := hv.1 c39
    refine lv_iinc (v := (v3 + (1 : Int32))) (lv' := [(3, .int (v3 + (1 : Int32))), (0, va_rf v0), (1, .int v1), (2, .int v2), (4, va_rf v4)]) X.hx X.hb dX4_pairs_136 hl (k := 3) rfl (by rfl) (by decide) (by simp [wv_rfc, wv_kI, wv_kJ, wv_kF, wv_kD]) (fun ls hl => ?_)
    refine lv_goto (tgt := 4) X.hx X.hb dX4_pairs_139 (by decide) ?_
    exact hK4 _ _ hv H locs cells slots ls S (lv_sub hl [1, 2, 3, 0] rfl)
  · have hv := hv.2 c39
    refine wq_aload X dX4_pairs_42 (lv_at hl 4 rfl) ?_
    refine wq_cF_A X S hv q2208 ⟨by decide +kernel, by decide +kernel⟩ (nA := 0) (As := []) (by decide +kernel) rfl rfl (by simp [wv_rfc, wv_kI, wv_kJ, wv_kF, wv_kD]) hl.1 dX4_pairs_44 (fun x44 w44 H locs cells slots S hv => ?_) (wq_kx X rfl)
    refine wq_cc X S hv q2102 dX4_pairs_49 (fun hv => ?_)
    refine wq_astore X (i := 5) (lv' := [(5, va_rf x44), (0, va_rf v0), (1, .int v1), (2, .int v2), (3, .int v3), (4, va_rf v4)]) dX4_pairs_52 hl (by decide) (by simp [wv_rfc, wv_kI, wv_kJ, wv_kF, wv_kD]) (fun ls hl => ?_)
    refine lv_iconst (v := (0 : Int32)) X.hx X.hb dX4_pairs_54 (by decide) ?_
    refine lv_istore X.hx X.hb (i := 6) (lv' := [(6, .int (0 : Int32)), (5, va_rf x44), (0, va_rf v0), (1, .int v1), (2, .int v2), (3, .int v3), (4, va_rf v4)]) dX4_pairs_55 hl (by decide) (by simp [wv_rfc, wv_kI, wv_kJ, wv_kF, wv_kD]) (fun ls hl => ?_)
    exact wv_loop (A := (Option Nat) × Int32 × Int32 × Int32 × (Option Nat) × (Option Nat) × Int32) (fun a w => wv_J G p e R s m args below meth c 8 P w 57 [(0, va_rf a.1), (1, .int a.2.1), (2, .int a.2.2.1), (3, .int a.2.2.2.1), (4, va_rf a.2.2.2.2.1), (5, va_rf a.2.2.2.2.2.1), (6, .int a.2.2.2.2.2.2)] []) (fun K57 hK57 a w hv => wk_X4_pairs_57 X hK4 hK32 hK57 hv) hv H locs cells slots ls S (lv_sub hl [2, 3, 4, 5, 6, 1, 0] rfl)
set_option maxHeartbeats 4000000 in
theorem wk_X4_pairs_4 {G : wv_G} {p : Program} {e : Env} {R : Room} {s : State} {m : MethodId} {args : Array Value} {below : List Frame} {meth : Method} {c : Code} {fr : Nat} {P : wv_R → wv_H → Prop} (X : wv_ok G p R s m args meth c fr "WeaversgateModel" cX4_pairs 8 (Option.some Jvm.ClassFile.FieldType.int) "pairs" []) {K4 : ((Option Nat) × Int32 × Int32 × Int32) → wv_W → Prop} (hK4 : ∀ a w, K4 a w → wv_J G p e R s m args below meth c 8 P w 4 [(0, va_rf a.1), (1, .int a.2.1), (2, .int a.2.2.1), (3, .int a.2.2.2)] []) {v0 : Option Nat} {v1 : Int32} {v2 : Int32} {v3 : Int32} {w : wv_W} (hv : vc_X4_pairs_4 G fr P K4 v0 v1 v2 v3 w) : wv_J G p e R s m args below meth c 8 P w 4 [(0, va_rf v0), (1, .int v1), (2, .int v2), (3, .int v3)] [] := by
  intro H locs cells slots ls S hl
  unfold vc_X4_pairs_4 at hv
  refine lv_iload_n X.hx X.hb dX4_pairs_4 rfl (lv_at hl 3 rfl) ?_
  refine lv_bipush (v := (6 : Int32)) X.hx X.hb dX4_pairs_5 (by decide) ?_
  refine wq_aload_n X dX4_pairs_7 rfl (lv_at hl 0 rfl) ?_
  refine wq_gI X S hv ccX4 in_X4 (k := 13) (by decide) q1822 dX4_pairs_8 (fun x8 hv => ?_)
  refine lv_imul X.hx X.hb dX4_pairs_11 ?_
  refine lv_icmp_ge (tgt := 142) X.hx X.hb dX4_pairs_12 (by decide) (fun c12 => ?_) (fun c12 => ?_)
  · have hv := hv.1 c12
    refine lv_iload_n X.hx X.hb dX4_pairs_142 rfl (lv_at hl 2 rfl) ?_
    exact wr_iret X S rfl hv dX4_pairs_143
  · have hv := hv.2 c12
    refine wq_aload_n X dX4_pairs_15 rfl (lv_at hl 0 rfl) ?_
    refine lv_iload_n X.hx X.hb dX4_pairs_16 rfl (lv_at hl 3 rfl) ?_
    refine lv_bipush (v := (6 : Int32)) X.hx X.hb dX4_pairs_17 (by decide) ?_
    refine lv_idiv X.hx X.hb dX4_pairs_19 hv.1 ?_
    have hv := hv.2
    refine lv_iload_n X.hx X.hb dX4_pairs_20 rfl (lv_at hl 3 rfl) ?_
    refine lv_bipush (v := (6 : Int32)) X.hx X.hb dX4_pairs_21 (by decide) ?_
    refine lv_irem X.hx X.hb dX4_pairs_23 hv.1 ?_
    have hv := hv.2
    refine wq_cV_A X S hv q2098 q2100 qs46 q66 ⟨by decide +kernel, by decide +kernel⟩ (nA := 2) (As := [.int (v3 / (6 : Int32)), .int (v3 - v3 / (6 : Int32) * (6 : Int32))]) (by decide +kernel) rfl rfl (by simp [wv_rfc, wv_kI, wv_kJ, wv_kF, wv_kD]) hl.1 dX4_pairs_24 (fun x24 w24 H locs cells slots S hv => ?_) (wq_kx X rfl)
    refine wq_cV_A X S hv q2174 q2175 q2176 q63 ⟨by decide +kernel, by decide +kernel⟩ (nA := 0) (As := []) (by decide +kernel) rfl rfl (by simp [wv_rfc, wv_kI, wv_kJ, wv_kF, wv_kD]) hl.1 dX4_pairs_27 (fun x27 w27 H locs cells slots S hv => ?_) (wq_kx X rfl)
    refine wq_astore X (i := 4) (lv' := [(4, va_rf x27), (0, va_rf v0), (1, .int v1), (2, .int v2), (3, .int v3)]) dX4_pairs_30 hl (by decide) (by simp [wv_rfc, wv_kI, wv_kJ, wv_kF, wv_kD]) (fun ls hl => ?_)
    exact wv_loop (A := (Option Nat) × Int32 × Int32 × Int32 × (Option Nat)) (fun a w => wv_J G p e R s m args below meth c 8 P w 32 [(0, va_rf a.1), (1, .int a.2.1), (2, .int a.2.2.1), (3, .int a.2.2.2.1), (4, va_rf a.2.2.2.2)] []) (fun K32 hK32 a w hv => wk_X4_pairs_32 X hK4 hK32 hv) hv H locs cells slots ls S (lv_sub hl [1, 2, 3, 4, 0] rfl)
set_option maxHeartbeats 4000000 in
theorem wk_X4_pairs_0 {G : wv_G} {p : Program} {e : Env} {R : Room} {s : State} {m : MethodId} {args : Array Value} {below : List Frame} {meth : Method} {c : Code} {fr : Nat} {P : wv_R → wv_H → Prop} (X : wv_ok G p R s m args meth c fr "WeaversgateModel" cX4_pairs 8 (Option.some Jvm.ClassFile.FieldType.int) "pairs" []) {v0 : Option Nat} {v1 : Int32} {w : wv_W} (hv : vc_X4_pairs_0 G fr P v0 v1 w) : wv_J G p e R s m args below meth c 8 P w 0 [(0, va_rf v0), (1, .int v1)] [] := by
  intro H locs cells slots ls S hl
  unfold vc_X4_pairs_0 at hv
  refine lv_iconst (v := (0 : Int32)) X.hx X.hb dX4_pairs_0 (by decide) ?_
  refine lv_istore_n X.hx X.hb (i := 2) (lv' := [(2, .int (0 : Int32)), (0, va_rf v0), (1, .int v1)]) dX4_pairs_1 rfl hl (by decide) (by simp [wv_rfc, wv_kI, wv_kJ, wv_kF, wv_kD]) (fun ls hl => ?_)
  refine lv_iconst (v := (0 : Int32)) X.hx X.hb dX4_pairs_2 (by decide) ?_
  refine lv_istore_n X.hx X.hb (i := 3) (lv' := [(3, .int (0 : Int32)), (2, .int (0 : Int32)), (0, va_rf v0), (1, .int v1)]) dX4_pairs_3 rfl hl (by decide) (by simp [wv_rfc, wv_kI, wv_kJ, wv_kF, wv_kD]) (fun ls hl => ?_)
  exact wv_loop (A := (Option Nat) × Int32 × Int32 × Int32) (fun a w => wv_J G p e R s m args below meth c 8 P w 4 [(0, va_rf a.1), (1, .int a.2.1), (2, .int a.2.2.1), (3, .int a.2.2.2)] []) (fun K4 hK4 a w hv => wk_X4_pairs_4 X hK4 hv) hv H locs cells slots ls S (lv_sub hl [2, 3, 1, 0] rfl)
theorem wk_X4_pairs {G : wv_G} (hG : wv_G0 G) {v0 : Option Nat} {v1 : Int32} {h : wv_H} {fr kc ks : Nat} {P : wv_R → wv_H → Prop} (hv : vc_X4_pairs_0 G fr P v0 v1 (h, kc, ks)) : wv_C G yX4_pairs [va_rf v0, .int v1] h fr kc ks P := by
  refine wv_enter (lv := [(0, va_rf v0), (1, .int v1)]) hG (by decide +kernel) q2173 (by decide) (by simp [lg_sl, wv_rfc, wv_kI, wv_kJ, wv_kF, wv_kD]) (by simp [lv_args, wv_rfc, wv_kI, wv_kJ, wv_kF, wv_kD]) ?_
  intro p e R s m args below meth c X H locs cells slots ls S hl
  exact wk_X4_pairs_0 X hv H locs cells slots ls S (lv_sub hl [0, 1] rfl)

def vc_X4_places_0 (G : wv_G) (fr : Nat) (P : wv_R → wv_H → Prop) (v0 : Option Nat) (v1 : Int32) (v2 : Int32) (w : wv_W) : Prop :=
  wv_cV G fr yX4_wrong v0 [.int v1, .int v2] w (wv_rI (fun x4 w4 => wv_pt w4 v0 ciX4 12 (.int x4) (fun w7 => wv_gI w7 v0 ciX4 12 (fun x11 => (x11 ≤ 0 → wv_cV G fr yX4_spots v0 [.int v1, .int v2] w7 (wv_rA (fun x24 w24 => wv_cV G fr yJ2_size x24 [] w24 (wv_rI (fun x27 w27 => P (.inl (some (.int x27))) w27.1) (wv_pr P))) (wv_pr P))) ∧ (¬ x11 ≤ 0 → P (.inl (some (.int (0 : Int32)))) w7.1)))) (wv_pr P))
set_option maxHeartbeats 4000000 in
theorem wk_X4_places_0 {G : wv_G} {p : Program} {e : Env} {R : Room} {s : State} {m : MethodId} {args : Array Value} {below : List Frame} {meth : Method} {c : Code} {fr : Nat} {P : wv_R → wv_H → Prop} (X : wv_ok G p R s m args meth c fr "WeaversgateModel" cX4_places 3 (Option.some Jvm.ClassFile.FieldType.int) "places" []) {v0 : Option Nat} {v1 : Int32} {v2 : Int32} {w : wv_W} (hv : vc_X4_places_0 G fr P v0 v1 v2 w) : wv_J G p e R s m args below meth c 3 P w 0 [(0, va_rf v0), (1, .int v1), (2, .int v2)] [] := by
  intro H locs cells slots ls S hl
  unfold vc_X4_places_0 at hv
  refine wq_aload_n X dX4_places_0 rfl (lv_at hl 0 rfl) ?_
  refine wq_aload_n X dX4_places_1 rfl (lv_at hl 0 rfl) ?_
  refine lv_iload_n X.hx X.hb dX4_places_2 rfl (lv_at hl 1 rfl) ?_
  refine lv_iload_n X.hx X.hb dX4_places_3 rfl (lv_at hl 2 rfl) ?_
  refine wq_cV_I X S hv q1923 q1925 qs38 q66 ⟨by decide +kernel, by decide +kernel⟩ (nA := 2) (As := [.int v1, .int v2]) (by decide +kernel) rfl rfl (by simp [wv_rfc, wv_kI, wv_kJ, wv_kF, wv_kD]) hl.1 dX4_places_4 (fun x4 w4 H locs cells slots S hv => ?_) (wq_kx X rfl)
  refine wq_pt X S hv tyX4 tyX4_ok nmX4 ccX4 in_X4 (k := 12) (by decide) q1821 rfl rfl rfl rfl dX4_places_7 (fun w7 H locs S hv => ?_)
  refine wq_aload_n X dX4_places_10 rfl (lv_at hl 0 rfl) ?_
  refine wq_gI X S hv ccX4 in_X4 (k := 12) (by decide) q1821 dX4_places_11 (fun x11 hv => ?_)
  refine lv_if_le (tgt := 21) X.hx X.hb dX4_places_14 (by decide) (fun c14 => ?_) (fun c14 => ?_)
  · have hv := hv.1 c14
    refine wq_aload_n X dX4_places_21 rfl (lv_at hl 0 rfl) ?_
    refine lv_iload_n X.hx X.hb dX4_places_22 rfl (lv_at hl 1 rfl) ?_
    refine lv_iload_n X.hx X.hb dX4_places_23 rfl (lv_at hl 2 rfl) ?_
    refine wq_cV_A X S hv q2098 q2100 qs46 q66 ⟨by decide +kernel, by decide +kernel⟩ (nA := 2) (As := [.int v1, .int v2]) (by decide +kernel) rfl rfl (by simp [wv_rfc, wv_kI, wv_kJ, wv_kF, wv_kD]) hl.1 dX4_places_24 (fun x24 w24 H locs cells slots S hv => ?_) (wq_kx X rfl)
    refine wq_cV_I X S hv q2086 q270 q271 q63 ⟨by decide +kernel, by decide +kernel⟩ (nA := 0) (As := []) (by decide +kernel) rfl rfl (by simp [wv_rfc, wv_kI, wv_kJ, wv_kF, wv_kD]) hl.1 dX4_places_27 (fun x27 w27 H locs cells slots S hv => ?_) (wq_kx X rfl)
    exact wr_iret X S rfl hv dX4_places_30
  · have hv := hv.2 c14
    refine lv_iconst (v := (0 : Int32)) X.hx X.hb dX4_places_17 (by decide) ?_
    refine lv_goto (tgt := 30) X.hx X.hb dX4_places_18 (by decide) ?_
    exact wr_iret X S rfl hv dX4_places_30
theorem wk_X4_places {G : wv_G} (hG : wv_G0 G) {v0 : Option Nat} {v1 : Int32} {v2 : Int32} {h : wv_H} {fr kc ks : Nat} {P : wv_R → wv_H → Prop} (hv : vc_X4_places_0 G fr P v0 v1 v2 (h, kc, ks)) : wv_C G yX4_places [va_rf v0, .int v1, .int v2] h fr kc ks P := by
  refine wv_enter (lv := [(0, va_rf v0), (1, .int v1), (2, .int v2)]) hG (by decide +kernel) q2097 (by decide) (by simp [lg_sl, wv_rfc, wv_kI, wv_kJ, wv_kF, wv_kD]) (by simp [lv_args, wv_rfc, wv_kI, wv_kJ, wv_kF, wv_kD]) ?_
  intro p e R s m args below meth c X H locs cells slots ls S hl
  exact wk_X4_places_0 X hv H locs cells slots ls S (lv_sub hl [0, 1, 2] rfl)

def vc_X4_plain_0 (G : wv_G) (fr : Nat) (P : wv_R → wv_H → Prop) (v0 : Option Nat) (v1 : Int32) (w : wv_W) : Prop :=
  wv_pt w v0 ciX4 12 (.int (0 : Int32)) (fun w2 => P (.inl (some (.int v1))) w2.1)
set_option maxHeartbeats 4000000 in
theorem wk_X4_plain_0 {G : wv_G} {p : Program} {e : Env} {R : Room} {s : State} {m : MethodId} {args : Array Value} {below : List Frame} {meth : Method} {c : Code} {fr : Nat} {P : wv_R → wv_H → Prop} (X : wv_ok G p R s m args meth c fr "WeaversgateModel" cX4_plain 2 (Option.some Jvm.ClassFile.FieldType.int) "plain" []) {v0 : Option Nat} {v1 : Int32} {w : wv_W} (hv : vc_X4_plain_0 G fr P v0 v1 w) : wv_J G p e R s m args below meth c 2 P w 0 [(0, va_rf v0), (1, .int v1)] [] := by
  intro H locs cells slots ls S hl
  unfold vc_X4_plain_0 at hv
  refine wq_aload_n X dX4_plain_0 rfl (lv_at hl 0 rfl) ?_
  refine lv_iconst (v := (0 : Int32)) X.hx X.hb dX4_plain_1 (by decide) ?_
  refine wq_pt X S hv tyX4 tyX4_ok nmX4 ccX4 in_X4 (k := 12) (by decide) q1821 rfl rfl rfl rfl dX4_plain_2 (fun w2 H locs S hv => ?_)
  refine lv_iload_n X.hx X.hb dX4_plain_5 rfl (lv_at hl 1 rfl) ?_
  exact wr_iret X S rfl hv dX4_plain_6
theorem wk_X4_plain {G : wv_G} (hG : wv_G0 G) {v0 : Option Nat} {v1 : Int32} {h : wv_H} {fr kc ks : Nat} {P : wv_R → wv_H → Prop} (hv : vc_X4_plain_0 G fr P v0 v1 (h, kc, ks)) : wv_C G yX4_plain [va_rf v0, .int v1] h fr kc ks P := by
  refine wv_enter (lv := [(0, va_rf v0), (1, .int v1)]) hG (by decide +kernel) q2225 (by decide) (by simp [lg_sl, wv_rfc, wv_kI, wv_kJ, wv_kF, wv_kD]) (by simp [lv_args, wv_rfc, wv_kI, wv_kJ, wv_kF, wv_kD]) ?_
  intro p e R s m args below meth c X H locs cells slots ls S hl
  exact wk_X4_plain_0 X hv H locs cells slots ls S (lv_sub hl [0, 1] rfl)

def vc_X4_points_0 (G : wv_G) (fr : Nat) (P : wv_R → wv_H → Prop) (v0 : Option Nat) (w : wv_W) : Prop :=
  wv_gA w v0 ciX4 16 (fun x2 => wv_gI w x2 ciX5 3 (fun x5 => wv_cV G fr yX4_plain v0 [.int x5] w (wv_rI (fun x8 w8 => P (.inl (some (.int x8))) w8.1) (wv_pr P))))
set_option maxHeartbeats 4000000 in
theorem wk_X4_points_0 {G : wv_G} {p : Program} {e : Env} {R : Room} {s : State} {m : MethodId} {args : Array Value} {below : List Frame} {meth : Method} {c : Code} {fr : Nat} {P : wv_R → wv_H → Prop} (X : wv_ok G p R s m args meth c fr "WeaversgateModel" cX4_points 1 (Option.some Jvm.ClassFile.FieldType.int) "points" []) {v0 : Option Nat} {w : wv_W} (hv : vc_X4_points_0 G fr P v0 w) : wv_J G p e R s m args below meth c 1 P w 0 [(0, va_rf v0)] [] := by
  intro H locs cells slots ls S hl
  unfold vc_X4_points_0 at hv
  refine wq_aload_n X dX4_points_0 rfl (lv_at hl 0 rfl) ?_
  refine wq_aload_n X dX4_points_1 rfl (lv_at hl 0 rfl) ?_
  refine wq_gA X S hv ccX4 in_X4 (k := 16) (by decide) q1827 dX4_points_2 (fun x2 hv => ?_)
  refine wq_gI X S hv ccX5 in_X5 (k := 3) (by decide) q1785 dX4_points_5 (fun x5 hv => ?_)
  refine wq_cV_I X S hv q2222 q2224 qs52 q66 ⟨by decide +kernel, by decide +kernel⟩ (nA := 1) (As := [.int x5]) (by decide +kernel) rfl rfl (by simp [wv_rfc, wv_kI, wv_kJ, wv_kF, wv_kD]) hl.1 dX4_points_8 (fun x8 w8 H locs cells slots S hv => ?_) (wq_kx X rfl)
  exact wr_iret X S rfl hv dX4_points_11
theorem wk_X4_points {G : wv_G} (hG : wv_G0 G) {v0 : Option Nat} {h : wv_H} {fr kc ks : Nat} {P : wv_R → wv_H → Prop} (hv : vc_X4_points_0 G fr P v0 (h, kc, ks)) : wv_C G yX4_points [va_rf v0] h fr kc ks P := by
  refine wv_enter (lv := [(0, va_rf v0)]) hG (by decide +kernel) q2487 (by decide) (by simp [lg_sl, wv_rfc, wv_kI, wv_kJ, wv_kF, wv_kD]) (by simp [lv_args, wv_rfc, wv_kI, wv_kJ, wv_kF, wv_kD]) ?_
  intro p e R s m args below meth c X H locs cells slots ls S hl
  exact wk_X4_points_0 X hv H locs cells slots ls S (lv_sub hl [0] rfl)

def vc_X4_precede_25 (G : wv_G) (fr : Nat) (P : wv_R → wv_H → Prop) (v0 : Option Nat) (v1 : Int32) (v2 : Int32) (v3 : Int32) (s0 : Int32) (s1 : Option Nat) (w : wv_W) : Prop :=
  wv_cV G fr yX4_checked s1 [.int s0] w (wv_rI (fun x25 w25 => (x25 ≤ 0 → wv_gA w25 v0 ciX4 11 (fun x34 => wv_li G 2 w25 x34 (((4 : Int32) * v1) + v2) (fun x42 => wv_gA w25 v0 ciX4 11 (fun x46 => wv_si G 2 w25 x46 (((4 : Int32) * v1) + v2) (vp_nar .boolean v3) (fun w55 => narrow .boolean (.int x42) = .int x42 ∧ P (.inl (some (.int x42))) w55.1))))) ∧ (¬ x25 ≤ 0 → narrow .boolean (.int (0 : Int32)) = .int (0 : Int32) ∧ P (.inl (some (.int (0 : Int32)))) w25.1)) (wv_pr P))
def vc_X4_precede_0 (G : wv_G) (fr : Nat) (P : wv_R → wv_H → Prop) (v0 : Option Nat) (v1 : Int32) (v2 : Int32) (v3 : Int32) (w : wv_W) : Prop :=
  wv_c0 G fr yX4_isAspect [.int v1] w (wv_rI (fun x2 w2 => (x2 = 0 → vc_X4_precede_25 G fr P v0 v1 v2 v3 (0 : Int32) v0 w2) ∧ (¬ x2 = 0 → wv_c0 G fr yX4_isAspect [.int v2] w2 (wv_rI (fun x9 w9 => (x9 = 0 → vc_X4_precede_25 G fr P v0 v1 v2 v3 (0 : Int32) v0 w9) ∧ (¬ x9 = 0 → (v1 = v2 → vc_X4_precede_25 G fr P v0 v1 v2 v3 (0 : Int32) v0 w9) ∧ (¬ v1 = v2 → vc_X4_precede_25 G fr P v0 v1 v2 v3 (1 : Int32) v0 w9))) (wv_pr P)))) (wv_pr P))
set_option maxHeartbeats 4000000 in
theorem wk_X4_precede_25 {G : wv_G} {p : Program} {e : Env} {R : Room} {s : State} {m : MethodId} {args : Array Value} {below : List Frame} {meth : Method} {c : Code} {fr : Nat} {P : wv_R → wv_H → Prop} (X : wv_ok G p R s m args meth c fr "WeaversgateModel" cX4_precede 5 (Option.some Jvm.ClassFile.FieldType.boolean) "precede" []) {v0 : Option Nat} {v1 : Int32} {v2 : Int32} {v3 : Int32} {s0 : Int32} {s1 : Option Nat} {w : wv_W} (hv : vc_X4_precede_25 G fr P v0 v1 v2 v3 s0 s1 w) : wv_J G p e R s m args below meth c 5 P w 25 [(0, va_rf v0), (1, .int v1), (2, .int v2), (3, .int v3)] [.int s0, va_rf s1] := by
  intro H locs cells slots ls S hl
  unfold vc_X4_precede_25 at hv
  refine wq_cV_I X S hv q1975 q1977 qs43 q66 ⟨by decide +kernel, by decide +kernel⟩ (nA := 1) (As := [.int s0]) (by decide +kernel) rfl rfl (by simp [wv_rfc, wv_kI, wv_kJ, wv_kF, wv_kD]) hl.1 dX4_precede_25 (fun x25 w25 H locs cells slots S hv => ?_) (wq_kx X rfl)
  refine lv_if_le (tgt := 33) X.hx X.hb dX4_precede_28 (by decide) (fun c28 => ?_) (fun c28 => ?_)
  · have hv := hv.1 c28
    refine wq_aload_n X dX4_precede_33 rfl (lv_at hl 0 rfl) ?_
    refine wq_gA X S hv ccX4 in_X4 (k := 11) (by decide) q1820 dX4_precede_34 (fun x34 hv => ?_)
    refine lv_iconst (v := (4 : Int32)) X.hx X.hb dX4_precede_37 (by decide) ?_
    refine lv_iload_n X.hx X.hb dX4_precede_38 rfl (lv_at hl 1 rfl) ?_
    refine lv_imul X.hx X.hb dX4_precede_39 ?_
    refine lv_iload_n X.hx X.hb dX4_precede_40 rfl (lv_at hl 2 rfl) ?_
    refine lv_iadd X.hx X.hb dX4_precede_41 ?_
    refine wq_li2 X S hv dX4_precede_42 (fun x42 hv => ?_)
    refine lv_istore X.hx X.hb (i := 4) (lv' := [(4, .int x42), (0, va_rf v0), (1, .int v1), (2, .int v2), (3, .int v3)]) dX4_precede_43 hl (by decide) (by simp [wv_rfc, wv_kI, wv_kJ, wv_kF, wv_kD]) (fun ls hl => ?_)
    refine wq_aload_n X dX4_precede_45 rfl (lv_at hl 1 rfl) ?_
    refine wq_gA X S hv ccX4 in_X4 (k := 11) (by decide) q1820 dX4_precede_46 (fun x46 hv => ?_)
    refine lv_iconst (v := (4 : Int32)) X.hx X.hb dX4_precede_49 (by decide) ?_
    refine lv_iload_n X.hx X.hb dX4_precede_50 rfl (lv_at hl 2 rfl) ?_
    refine lv_imul X.hx X.hb dX4_precede_51 ?_
    refine lv_iload_n X.hx X.hb dX4_precede_52 rfl (lv_at hl 3 rfl) ?_
    refine lv_iadd X.hx X.hb dX4_precede_53 ?_
    refine lv_iload_n X.hx X.hb dX4_precede_54 rfl (lv_at hl 4 rfl) ?_
    refine wq_si2 X S hv dX4_precede_55 (fun w55 H locs S hv => ?_)
    refine lv_iload X.hx X.hb dX4_precede_56 (lv_at hl 0 rfl) ?_
    exact wr_iret X S hv.1 hv.2 dX4_precede_58
  · have hv := hv.2 c28
    refine lv_iconst (v := (0 : Int32)) X.hx X.hb dX4_precede_31 (by decide) ?_
    exact wr_iret X S hv.1 hv.2 dX4_precede_32
set_option maxHeartbeats 4000000 in
theorem wk_X4_precede_0 {G : wv_G} {p : Program} {e : Env} {R : Room} {s : State} {m : MethodId} {args : Array Value} {below : List Frame} {meth : Method} {c : Code} {fr : Nat} {P : wv_R → wv_H → Prop} (X : wv_ok G p R s m args meth c fr "WeaversgateModel" cX4_precede 5 (Option.some Jvm.ClassFile.FieldType.boolean) "precede" []) {v0 : Option Nat} {v1 : Int32} {v2 : Int32} {v3 : Int32} {w : wv_W} (hv : vc_X4_precede_0 G fr P v0 v1 v2 v3 w) : wv_J G p e R s m args below meth c 5 P w 0 [(0, va_rf v0), (1, .int v1), (2, .int v2), (3, .int v3)] [] := by
  intro H locs cells slots ls S hl
  unfold vc_X4_precede_0 at hv
  refine wq_aload_n X dX4_precede_0 rfl (lv_at hl 0 rfl) ?_
  refine lv_iload_n X.hx X.hb dX4_precede_1 rfl (lv_at hl 1 rfl) ?_
  refine wq_cS_I X S hv q1963 q1964 q66 ⟨by decide +kernel, by decide +kernel⟩ (nA := 1) (As := [.int v1]) (by decide +kernel) rfl rfl (by simp [wv_rfc, wv_kI, wv_kJ, wv_kF, wv_kD]) hl.1 dX4_precede_2 (fun x2 w2 H locs cells slots S hv => ?_) (wq_kx X rfl)
  refine lv_if_eq (tgt := 24) X.hx X.hb dX4_precede_5 (by decide) (fun c5 => ?_) (fun c5 => ?_)
  · have hv := hv.1 c5
    refine lv_iconst (v := (0 : Int32)) X.hx X.hb dX4_precede_24 (by decide) ?_
    exact wk_X4_precede_25 X  hv H locs cells slots ls S (lv_sub hl [0, 1, 2, 3] rfl)
  · have hv := hv.2 c5
    refine lv_iload_n X.hx X.hb dX4_precede_8 rfl (lv_at hl 2 rfl) ?_
    refine wq_cS_I X S hv q1963 q1964 q66 ⟨by decide +kernel, by decide +kernel⟩ (nA := 1) (As := [.int v2]) (by decide +kernel) rfl rfl (by simp [wv_rfc, wv_kI, wv_kJ, wv_kF, wv_kD]) hl.1 dX4_precede_9 (fun x9 w9 H locs cells slots S hv => ?_) (wq_kx X rfl)
    refine lv_if_eq (tgt := 24) X.hx X.hb dX4_precede_12 (by decide) (fun c12 => ?_) (fun c12 => ?_)
    · have hv := hv.1 c12
      refine lv_iconst (v := (0 : Int32)) X.hx X.hb dX4_precede_24 (by decide) ?_
      exact wk_X4_precede_25 X  hv H locs cells slots ls S (lv_sub hl [0, 1, 2, 3] rfl)
    · have hv := hv.2 c12
      refine lv_iload_n X.hx X.hb dX4_precede_15 rfl (lv_at hl 1 rfl) ?_
      refine lv_iload_n X.hx X.hb dX4_precede_16 rfl (lv_at hl 2 rfl) ?_
      refine lv_icmp_eq (tgt := 24) X.hx X.hb dX4_precede_17 (by decide) (fun c17 => ?_) (fun c17 => ?_)
      · have hv := hv.1 c17
        refine lv_iconst (v := (0 : Int32)) X.hx X.hb dX4_precede_24 (by decide) ?_
        exact wk_X4_precede_25 X  hv H locs cells slots ls S (lv_sub hl [0, 1, 2, 3] rfl)
      · have hv := hv.2 c17
        refine lv_iconst (v := (1 : Int32)) X.hx X.hb dX4_precede_20 (by decide) ?_
        refine lv_goto (tgt := 25) X.hx X.hb dX4_precede_21 (by decide) ?_
        exact wk_X4_precede_25 X  hv H locs cells slots ls S (lv_sub hl [0, 1, 2, 3] rfl)
theorem wk_X4_precede {G : wv_G} (hG : wv_G0 G) {v0 : Option Nat} {v1 : Int32} {v2 : Int32} {v3 : Int32} {h : wv_H} {fr kc ks : Nat} {P : wv_R → wv_H → Prop} (hv : vc_X4_precede_0 G fr P v0 v1 v2 v3 (h, kc, ks)) : wv_C G yX4_precede [va_rf v0, .int v1, .int v2, .int v3] h fr kc ks P := by
  refine wv_enter (lv := [(0, va_rf v0), (1, .int v1), (2, .int v2), (3, .int v3)]) hG (by decide +kernel) q1982 (by decide) (by simp [lg_sl, wv_rfc, wv_kI, wv_kJ, wv_kF, wv_kD]) (by simp [lv_args, wv_rfc, wv_kI, wv_kJ, wv_kF, wv_kD]) ?_
  intro p e R s m args below meth c X H locs cells slots ls S hl
  exact wk_X4_precede_0 X hv H locs cells slots ls S (lv_sub hl [0, 1, 2, 3] rfl)

def vc_X4_ran_52 (G : wv_G) (fr : Nat) (P : wv_R → wv_H → Prop) (v0 : Option Nat) (v1 : Int32) (v2 : Int32) (v3 : Int32) (v4 : Int32) (s0 : Int32) (s1 : Option Nat) (w : wv_W) : Prop :=
  wv_pt w s1 ciX4 12 (.int s0) (fun w52 => wv_gI w52 v0 ciX4 12 (fun x56 => (x56 ≤ 0 → wv_no G w52 (wo_o ciX26 [va_rf none, va_rf none, va_rf none, .int 0, va_rf none]) 5 (fun a66 w66 => wv_cI G fr yX26_init (some a66) [va_rf v0, .int v1] w66 (wv_rV (fun w72 => wv_cV G fr yX26_runs (some a66) [.int v2, .int v3, .int v4] w72 (wv_rA (fun x79 w79 => wv_pt w79 v0 ciX4 16 (va_rf x79) (fun w82 => wv_gA w82 v0 ciX4 16 (fun x86 => wv_gI w82 x86 ciX5 1 (fun x89 => narrow .char (.int x89) = .int x89 ∧ P (.inl (some (.int x89))) w82.1)))) (wv_pr P))) (wv_pr P)))) ∧ (¬ x56 ≤ 0 → narrow .char (.int (32 : Int32)) = .int (32 : Int32) ∧ P (.inl (some (.int (32 : Int32)))) w52.1)))
def vc_X4_ran_0 (G : wv_G) (fr : Nat) (P : wv_R → wv_H → Prop) (v0 : Option Nat) (v1 : Int32) (v2 : Int32) (v3 : Int32) (v4 : Int32) (w : wv_W) : Prop :=
  wv_cV G fr yX4_isClass v0 [.int v2] w (wv_rI (fun x3 w3 => (¬ x3 = 0 → wv_c0 G fr yX4_isMethod [.int v3] w3 (wv_rI (fun x14 w14 => (x14 = 0 → vc_X4_ran_52 G fr P v0 v1 v2 v3 v4 (2 : Int32) v0 w14) ∧ (¬ x14 = 0 → wv_c0 G fr yX4_in [.int v4, .int (-99 : Int32), .int (99 : Int32)] w14 (wv_rI (fun x26 w26 => (¬ x26 = 0 → wv_cV G fr yX4_order v0 [] w26 (wv_rA (fun x37 w37 => wv_cV G fr yJ2_size x37 [] w37 (wv_rI (fun x40 w40 => ((4 : Int32) ≤ x40 → vc_X4_ran_52 G fr P v0 v1 v2 v3 v4 (0 : Int32) v0 w40) ∧ (¬ (4 : Int32) ≤ x40 → vc_X4_ran_52 G fr P v0 v1 v2 v3 v4 (3 : Int32) v0 w40)) (wv_pr P))) (wv_pr P))) ∧ (x26 = 0 → vc_X4_ran_52 G fr P v0 v1 v2 v3 v4 (2 : Int32) v0 w26)) (wv_pr P)))) (wv_pr P))) ∧ (x3 = 0 → vc_X4_ran_52 G fr P v0 v1 v2 v3 v4 (1 : Int32) v0 w3)) (wv_pr P))
set_option maxHeartbeats 4000000 in
theorem wk_X4_ran_52 {G : wv_G} {p : Program} {e : Env} {R : Room} {s : State} {m : MethodId} {args : Array Value} {below : List Frame} {meth : Method} {c : Code} {fr : Nat} {P : wv_R → wv_H → Prop} (X : wv_ok G p R s m args meth c fr "WeaversgateModel" cX4_ran 5 (Option.some Jvm.ClassFile.FieldType.char) "ran" []) {v0 : Option Nat} {v1 : Int32} {v2 : Int32} {v3 : Int32} {v4 : Int32} {s0 : Int32} {s1 : Option Nat} {w : wv_W} (hv : vc_X4_ran_52 G fr P v0 v1 v2 v3 v4 s0 s1 w) : wv_J G p e R s m args below meth c 5 P w 52 [(0, va_rf v0), (1, .int v1), (2, .int v2), (3, .int v3), (4, .int v4)] [.int s0, va_rf s1] := by
  intro H locs cells slots ls S hl
  unfold vc_X4_ran_52 at hv
  refine wq_pt X S hv tyX4 tyX4_ok nmX4 ccX4 in_X4 (k := 12) (by decide) q1821 rfl rfl rfl rfl dX4_ran_52 (fun w52 H locs S hv => ?_)
  refine wq_aload_n X dX4_ran_55 rfl (lv_at hl 0 rfl) ?_
  refine wq_gI X S hv ccX4 in_X4 (k := 12) (by decide) q1821 dX4_ran_56 (fun x56 hv => ?_)
  refine lv_if_le (tgt := 65) X.hx X.hb dX4_ran_59 (by decide) (fun c59 => ?_) (fun c59 => ?_)
  · have hv := hv.1 c59
    refine wq_aload_n X dX4_ran_65 rfl (lv_at hl 0 rfl) ?_
    refine wq_new X S hv tyX26 tyX26_ok ccX26 in_X26 q2238 q2239 q112 (fun j hj => by have hj : j < 5 := hj; rcases (show j = 0 ∨ j = 1 ∨ j = 2 ∨ j = 3 ∨ j = 4 by omega) with rfl | rfl | rfl | rfl | rfl <;> rfl) dX4_ran_66 (fun a66 w66 H cells slots S hv => ?_)
    refine lv_dup X.hx X.hb dX4_ran_69 (wv_rfc _) ?_
    refine wq_aload_n X dX4_ran_70 rfl (lv_at hl 0 rfl) ?_
    refine lv_iload_n X.hx X.hb dX4_ran_71 rfl (lv_at hl 1 rfl) ?_
    refine wq_cI_V X S hv rfl q2240 q2241 q2242 q112 ⟨by decide +kernel, by decide +kernel⟩ (nA := 2) (As := [va_rf v0, .int v1]) (by decide +kernel) rfl rfl (by simp [wv_rfc, wv_kI, wv_kJ, wv_kF, wv_kD]) hl.1 dX4_ran_72 (fun w72 H locs cells slots S hv => ?_) (wq_kx X rfl)
    refine lv_iload_n X.hx X.hb dX4_ran_75 rfl (lv_at hl 2 rfl) ?_
    refine lv_iload_n X.hx X.hb dX4_ran_76 rfl (lv_at hl 3 rfl) ?_
    refine lv_iload X.hx X.hb dX4_ran_77 (lv_at hl 4 rfl) ?_
    refine wq_cV_A X S hv q2265 q2266 q2267 q112 ⟨by decide +kernel, by decide +kernel⟩ (nA := 3) (As := [.int v2, .int v3, .int v4]) (by decide +kernel) rfl rfl (by simp [wv_rfc, wv_kI, wv_kJ, wv_kF, wv_kD]) hl.1 dX4_ran_79 (fun x79 w79 H locs cells slots S hv => ?_) (wq_kx X rfl)
    refine wq_pt X S hv tyX4 tyX4_ok nmX4 ccX4 in_X4 (k := 16) (by decide) q1827 rfl rfl (wv_fnA (Or.inl ⟨_, rfl⟩)).1 (wv_fnA (Or.inl ⟨_, rfl⟩)).2 dX4_ran_82 (fun w82 H locs S hv => ?_)
    refine wq_aload_n X dX4_ran_85 rfl (lv_at hl 0 rfl) ?_
    refine wq_gA X S hv ccX4 in_X4 (k := 16) (by decide) q1827 dX4_ran_86 (fun x86 hv => ?_)
    refine wq_gI X S hv ccX5 in_X5 (k := 1) (by decide) q1779 dX4_ran_89 (fun x89 hv => ?_)
    exact wr_iret X S hv.1 hv.2 dX4_ran_92
  · have hv := hv.2 c59
    refine lv_bipush (v := (32 : Int32)) X.hx X.hb dX4_ran_62 (by decide) ?_
    exact wr_iret X S hv.1 hv.2 dX4_ran_64
set_option maxHeartbeats 4000000 in
theorem wk_X4_ran_0 {G : wv_G} {p : Program} {e : Env} {R : Room} {s : State} {m : MethodId} {args : Array Value} {below : List Frame} {meth : Method} {c : Code} {fr : Nat} {P : wv_R → wv_H → Prop} (X : wv_ok G p R s m args meth c fr "WeaversgateModel" cX4_ran 5 (Option.some Jvm.ClassFile.FieldType.char) "ran" []) {v0 : Option Nat} {v1 : Int32} {v2 : Int32} {v3 : Int32} {v4 : Int32} {w : wv_W} (hv : vc_X4_ran_0 G fr P v0 v1 v2 v3 v4 w) : wv_J G p e R s m args below meth c 5 P w 0 [(0, va_rf v0), (1, .int v1), (2, .int v2), (3, .int v3), (4, .int v4)] [] := by
  intro H locs cells slots ls S hl
  unfold vc_X4_ran_0 at hv
  refine wq_aload_n X dX4_ran_0 rfl (lv_at hl 0 rfl) ?_
  refine wq_aload_n X dX4_ran_1 rfl (lv_at hl 0 rfl) ?_
  refine lv_iload_n X.hx X.hb dX4_ran_2 rfl (lv_at hl 2 rfl) ?_
  refine wq_cV_I X S hv q1871 q1873 qs35 q66 ⟨by decide +kernel, by decide +kernel⟩ (nA := 1) (As := [.int v2]) (by decide +kernel) rfl rfl (by simp [wv_rfc, wv_kI, wv_kJ, wv_kF, wv_kD]) hl.1 dX4_ran_3 (fun x3 w3 H locs cells slots S hv => ?_) (wq_kx X rfl)
  refine lv_if_ne (tgt := 13) X.hx X.hb dX4_ran_6 (by decide) (fun c6 => ?_) (fun c6 => ?_)
  · have hv := hv.1 c6
    refine lv_iload_n X.hx X.hb dX4_ran_13 rfl (lv_at hl 3 rfl) ?_
    refine wq_cS_I X S hv q1882 q1883 q66 ⟨by decide +kernel, by decide +kernel⟩ (nA := 1) (As := [.int v3]) (by decide +kernel) rfl rfl (by simp [wv_rfc, wv_kI, wv_kJ, wv_kF, wv_kD]) hl.1 dX4_ran_14 (fun x14 w14 H locs cells slots S hv => ?_) (wq_kx X rfl)
    refine lv_if_eq (tgt := 32) X.hx X.hb dX4_ran_17 (by decide) (fun c17 => ?_) (fun c17 => ?_)
    · have hv := hv.1 c17
      refine lv_iconst (v := (2 : Int32)) X.hx X.hb dX4_ran_32 (by decide) ?_
      refine lv_goto (tgt := 52) X.hx X.hb dX4_ran_33 (by decide) ?_
      exact wk_X4_ran_52 X  hv H locs cells slots ls S (lv_sub hl [0, 1, 2, 3, 4] rfl)
    · have hv := hv.2 c17
      refine lv_iload X.hx X.hb dX4_ran_20 (lv_at hl 4 rfl) ?_
      refine lv_bipush (v := (-99 : Int32)) X.hx X.hb dX4_ran_22 (by decide) ?_
      refine lv_bipush (v := (99 : Int32)) X.hx X.hb dX4_ran_24 (by decide) ?_
      refine wq_cS_I X S hv q1875 q1876 q66 ⟨by decide +kernel, by decide +kernel⟩ (nA := 3) (As := [.int v4, .int (-99 : Int32), .int (99 : Int32)]) (by decide +kernel) rfl rfl (by simp [wv_rfc, wv_kI, wv_kJ, wv_kF, wv_kD]) hl.1 dX4_ran_26 (fun x26 w26 H locs cells slots S hv => ?_) (wq_kx X rfl)
      refine lv_if_ne (tgt := 36) X.hx X.hb dX4_ran_29 (by decide) (fun c29 => ?_) (fun c29 => ?_)
      · have hv := hv.1 c29
        refine wq_aload_n X dX4_ran_36 rfl (lv_at hl 0 rfl) ?_
        refine wq_cV_A X S hv q1987 q1989 qs44 q66 ⟨by decide +kernel, by decide +kernel⟩ (nA := 0) (As := []) (by decide +kernel) rfl rfl (by simp [wv_rfc, wv_kI, wv_kJ, wv_kF, wv_kD]) hl.1 dX4_ran_37 (fun x37 w37 H locs cells slots S hv => ?_) (wq_kx X rfl)
        refine wq_cV_I X S hv q2086 q270 q271 q63 ⟨by decide +kernel, by decide +kernel⟩ (nA := 0) (As := []) (by decide +kernel) rfl rfl (by simp [wv_rfc, wv_kI, wv_kJ, wv_kF, wv_kD]) hl.1 dX4_ran_40 (fun x40 w40 H locs cells slots S hv => ?_) (wq_kx X rfl)
        refine lv_iconst (v := (4 : Int32)) X.hx X.hb dX4_ran_43 (by decide) ?_
        refine lv_icmp_ge (tgt := 51) X.hx X.hb dX4_ran_44 (by decide) (fun c44 => ?_) (fun c44 => ?_)
        · have hv := hv.1 c44
          refine lv_iconst (v := (0 : Int32)) X.hx X.hb dX4_ran_51 (by decide) ?_
          exact wk_X4_ran_52 X  hv H locs cells slots ls S (lv_sub hl [0, 1, 2, 3, 4] rfl)
        · have hv := hv.2 c44
          refine lv_iconst (v := (3 : Int32)) X.hx X.hb dX4_ran_47 (by decide) ?_
          refine lv_goto (tgt := 52) X.hx X.hb dX4_ran_48 (by decide) ?_
          exact wk_X4_ran_52 X  hv H locs cells slots ls S (lv_sub hl [0, 1, 2, 3, 4] rfl)
      · have hv := hv.2 c29
        refine lv_iconst (v := (2 : Int32)) X.hx X.hb dX4_ran_32 (by decide) ?_
        refine lv_goto (tgt := 52) X.hx X.hb dX4_ran_33 (by decide) ?_
        exact wk_X4_ran_52 X  hv H locs cells slots ls S (lv_sub hl [0, 1, 2, 3, 4] rfl)
  · have hv := hv.2 c6
    refine lv_iconst (v := (1 : Int32)) X.hx X.hb dX4_ran_9 (by decide) ?_
    refine lv_goto (tgt := 52) X.hx X.hb dX4_ran_10 (by decide) ?_
    exact wk_X4_ran_52 X  hv H locs cells slots ls S (lv_sub hl [0, 1, 2, 3, 4] rfl)
theorem wk_X4_ran {G : wv_G} (hG : wv_G0 G) {v0 : Option Nat} {v1 : Int32} {v2 : Int32} {v3 : Int32} {v4 : Int32} {h : wv_H} {fr kc ks : Nat} {P : wv_R → wv_H → Prop} (hv : vc_X4_ran_0 G fr P v0 v1 v2 v3 v4 (h, kc, ks)) : wv_C G yX4_ran [va_rf v0, .int v1, .int v2, .int v3, .int v4] h fr kc ks P := by
  refine wv_enter (lv := [(0, va_rf v0), (1, .int v1), (2, .int v2), (3, .int v3), (4, .int v4)]) hG (by decide +kernel) q2237 (by decide) (by simp [lg_sl, wv_rfc, wv_kI, wv_kJ, wv_kF, wv_kD]) (by simp [lv_args, wv_rfc, wv_kI, wv_kJ, wv_kF, wv_kD]) ?_
  intro p e R s m args below meth c X H locs cells slots ls S hl
  exact wk_X4_ran_0 X hv H locs cells slots ls S (lv_sub hl [0, 1, 2, 3, 4] rfl)

def vc_X4_residues_0 (G : wv_G) (fr : Nat) (P : wv_R → wv_H → Prop) (v0 : Option Nat) (w : wv_W) : Prop :=
  wv_cV G fr yX4_pairs v0 [.int (109 : Int32)] w (wv_rI (fun x4 w4 => wv_cV G fr yX4_plain v0 [.int x4] w4 (wv_rI (fun x7 w7 => P (.inl (some (.int x7))) w7.1) (wv_pr P))) (wv_pr P))
set_option maxHeartbeats 4000000 in
theorem wk_X4_residues_0 {G : wv_G} {p : Program} {e : Env} {R : Room} {s : State} {m : MethodId} {args : Array Value} {below : List Frame} {meth : Method} {c : Code} {fr : Nat} {P : wv_R → wv_H → Prop} (X : wv_ok G p R s m args meth c fr "WeaversgateModel" cX4_residues 1 (Option.some Jvm.ClassFile.FieldType.int) "residues" []) {v0 : Option Nat} {w : wv_W} (hv : vc_X4_residues_0 G fr P v0 w) : wv_J G p e R s m args below meth c 1 P w 0 [(0, va_rf v0)] [] := by
  intro H locs cells slots ls S hl
  unfold vc_X4_residues_0 at hv
  refine wq_aload_n X dX4_residues_0 rfl (lv_at hl 0 rfl) ?_
  refine wq_aload_n X dX4_residues_1 rfl (lv_at hl 0 rfl) ?_
  refine lv_bipush (v := (109 : Int32)) X.hx X.hb dX4_residues_2 (by decide) ?_
  refine wq_cV_I X S hv q2170 q2172 qs51 q66 ⟨by decide +kernel, by decide +kernel⟩ (nA := 1) (As := [.int (109 : Int32)]) (by decide +kernel) rfl rfl (by simp [wv_rfc, wv_kI, wv_kJ, wv_kF, wv_kD]) hl.1 dX4_residues_4 (fun x4 w4 H locs cells slots S hv => ?_) (wq_kx X rfl)
  refine wq_cV_I X S hv q2222 q2224 qs52 q66 ⟨by decide +kernel, by decide +kernel⟩ (nA := 1) (As := [.int x4]) (by decide +kernel) rfl rfl (by simp [wv_rfc, wv_kI, wv_kJ, wv_kF, wv_kD]) hl.1 dX4_residues_7 (fun x7 w7 H locs cells slots S hv => ?_) (wq_kx X rfl)
  exact wr_iret X S rfl hv dX4_residues_10
theorem wk_X4_residues {G : wv_G} (hG : wv_G0 G) {v0 : Option Nat} {h : wv_H} {fr kc ks : Nat} {P : wv_R → wv_H → Prop} (hv : vc_X4_residues_0 G fr P v0 (h, kc, ks)) : wv_C G yX4_residues [va_rf v0] h fr kc ks P := by
  refine wv_enter (lv := [(0, va_rf v0)]) hG (by decide +kernel) q2169 (by decide) (by simp [lg_sl, wv_rfc, wv_kI, wv_kJ, wv_kF, wv_kD]) (by simp [lv_args, wv_rfc, wv_kI, wv_kJ, wv_kF, wv_kD]) ?_
  intro p e R s m args below meth c X H locs cells slots ls S hl
  exact wk_X4_residues_0 X hv H locs cells slots ls S (lv_sub hl [0] rfl)

def vc_X4_result_30 (G : wv_G) (fr : Nat) (P : wv_R → wv_H → Prop) (v0 : Option Nat) (s0 : Int32) (s1 : Option Nat) (w : wv_W) : Prop :=
  wv_cV G fr yX4_checked s1 [.int s0] w (wv_rI (fun x30 w30 => (x30 ≤ 0 → wv_gA w30 v0 ciX4 16 (fun x41 => wv_gI w30 x41 ciX5 2 (fun x44 => P (.inl (some (.int x44))) w30.1))) ∧ (¬ x30 ≤ 0 → P (.inl (some (.int (0 : Int32)))) w30.1)) (wv_pr P))
def vc_X4_result_0 (G : wv_G) (fr : Nat) (P : wv_R → wv_H → Prop) (v0 : Option Nat) (w : wv_W) : Prop :=
  wv_gA w v0 ciX4 16 (fun x2 => wv_gI w x2 ciX5 1 (fun x5 => (x5 = (114 : Int32) → vc_X4_result_30 G fr P v0 (1 : Int32) v0 w) ∧ (¬ x5 = (114 : Int32) → wv_gA w v0 ciX4 16 (fun x14 => wv_gI w x14 ciX5 1 (fun x17 => (¬ x17 = (120 : Int32) → vc_X4_result_30 G fr P v0 (0 : Int32) v0 w) ∧ (x17 = (120 : Int32) → vc_X4_result_30 G fr P v0 (1 : Int32) v0 w))))))
set_option maxHeartbeats 4000000 in
theorem wk_X4_result_30 {G : wv_G} {p : Program} {e : Env} {R : Room} {s : State} {m : MethodId} {args : Array Value} {below : List Frame} {meth : Method} {c : Code} {fr : Nat} {P : wv_R → wv_H → Prop} (X : wv_ok G p R s m args meth c fr "WeaversgateModel" cX4_result 1 (Option.some Jvm.ClassFile.FieldType.int) "result" []) {v0 : Option Nat} {s0 : Int32} {s1 : Option Nat} {w : wv_W} (hv : vc_X4_result_30 G fr P v0 s0 s1 w) : wv_J G p e R s m args below meth c 1 P w 30 [(0, va_rf v0)] [.int s0, va_rf s1] := by
  intro H locs cells slots ls S hl
  unfold vc_X4_result_30 at hv
  refine wq_cV_I X S hv q1975 q1977 qs43 q66 ⟨by decide +kernel, by decide +kernel⟩ (nA := 1) (As := [.int s0]) (by decide +kernel) rfl rfl (by simp [wv_rfc, wv_kI, wv_kJ, wv_kF, wv_kD]) hl.1 dX4_result_30 (fun x30 w30 H locs cells slots S hv => ?_) (wq_kx X rfl)
  refine lv_if_le (tgt := 40) X.hx X.hb dX4_result_33 (by decide) (fun c33 => ?_) (fun c33 => ?_)
  · have hv := hv.1 c33
    refine wq_aload_n X dX4_result_40 rfl (lv_at hl 0 rfl) ?_
    refine wq_gA X S hv ccX4 in_X4 (k := 16) (by decide) q1827 dX4_result_41 (fun x41 hv => ?_)
    refine wq_gI X S hv ccX5 in_X5 (k := 2) (by decide) q1782 dX4_result_44 (fun x44 hv => ?_)
    exact wr_iret X S rfl hv dX4_result_47
  · have hv := hv.2 c33
    refine lv_iconst (v := (0 : Int32)) X.hx X.hb dX4_result_36 (by decide) ?_
    refine lv_goto (tgt := 47) X.hx X.hb dX4_result_37 (by decide) ?_
    exact wr_iret X S rfl hv dX4_result_47
set_option maxHeartbeats 4000000 in
theorem wk_X4_result_0 {G : wv_G} {p : Program} {e : Env} {R : Room} {s : State} {m : MethodId} {args : Array Value} {below : List Frame} {meth : Method} {c : Code} {fr : Nat} {P : wv_R → wv_H → Prop} (X : wv_ok G p R s m args meth c fr "WeaversgateModel" cX4_result 1 (Option.some Jvm.ClassFile.FieldType.int) "result" []) {v0 : Option Nat} {w : wv_W} (hv : vc_X4_result_0 G fr P v0 w) : wv_J G p e R s m args below meth c 1 P w 0 [(0, va_rf v0)] [] := by
  intro H locs cells slots ls S hl
  unfold vc_X4_result_0 at hv
  refine wq_aload_n X dX4_result_0 rfl (lv_at hl 0 rfl) ?_
  refine wq_aload_n X dX4_result_1 rfl (lv_at hl 0 rfl) ?_
  refine wq_gA X S hv ccX4 in_X4 (k := 16) (by decide) q1827 dX4_result_2 (fun x2 hv => ?_)
  refine wq_gI X S hv ccX5 in_X5 (k := 1) (by decide) q1779 dX4_result_5 (fun x5 hv => ?_)
  refine lv_bipush (v := (114 : Int32)) X.hx X.hb dX4_result_8 (by decide) ?_
  refine lv_icmp_eq (tgt := 25) X.hx X.hb dX4_result_10 (by decide) (fun c10 => ?_) (fun c10 => ?_)
  · have hv := hv.1 c10
    refine lv_iconst (v := (1 : Int32)) X.hx X.hb dX4_result_25 (by decide) ?_
    refine lv_goto (tgt := 30) X.hx X.hb dX4_result_26 (by decide) ?_
    exact wk_X4_result_30 X  hv H locs cells slots ls S (lv_sub hl [0] rfl)
  · have hv := hv.2 c10
    refine wq_aload_n X dX4_result_13 rfl (lv_at hl 0 rfl) ?_
    refine wq_gA X S hv ccX4 in_X4 (k := 16) (by decide) q1827 dX4_result_14 (fun x14 hv => ?_)
    refine wq_gI X S hv ccX5 in_X5 (k := 1) (by decide) q1779 dX4_result_17 (fun x17 hv => ?_)
    refine lv_bipush (v := (120 : Int32)) X.hx X.hb dX4_result_20 (by decide) ?_
    refine lv_icmp_ne (tgt := 29) X.hx X.hb dX4_result_22 (by decide) (fun c22 => ?_) (fun c22 => ?_)
    · have hv := hv.1 c22
      refine lv_iconst (v := (0 : Int32)) X.hx X.hb dX4_result_29 (by decide) ?_
      exact wk_X4_result_30 X  hv H locs cells slots ls S (lv_sub hl [0] rfl)
    · have hv := hv.2 c22
      refine lv_iconst (v := (1 : Int32)) X.hx X.hb dX4_result_25 (by decide) ?_
      refine lv_goto (tgt := 30) X.hx X.hb dX4_result_26 (by decide) ?_
      exact wk_X4_result_30 X  hv H locs cells slots ls S (lv_sub hl [0] rfl)
theorem wk_X4_result {G : wv_G} (hG : wv_G0 G) {v0 : Option Nat} {h : wv_H} {fr kc ks : Nat} {P : wv_R → wv_H → Prop} (hv : vc_X4_result_0 G fr P v0 (h, kc, ks)) : wv_C G yX4_result [va_rf v0] h fr kc ks P := by
  refine wv_enter (lv := [(0, va_rf v0)]) hG (by decide +kernel) q2483 (by decide) (by simp [lg_sl, wv_rfc, wv_kI, wv_kJ, wv_kF, wv_kD]) (by simp [lv_args, wv_rfc, wv_kI, wv_kJ, wv_kF, wv_kD]) ?_
  intro p e R s m args below meth c X H locs cells slots ls S hl
  exact wk_X4_result_0 X hv H locs cells slots ls S (lv_sub hl [0] rfl)

def vc_X4_run_0 (G : wv_G) (fr : Nat) (P : wv_R → wv_H → Prop) (v0 : Option Nat) (v1 : Int32) (v2 : Int32) (v3 : Int32) (w : wv_W) : Prop :=
  wv_cV G fr yX4_ran v0 [.int (1 : Int32), .int v1, .int v2, .int v3] w (wv_rI (fun x5 w5 => narrow .char (.int x5) = .int x5 ∧ P (.inl (some (.int x5))) w5.1) (wv_pr P))
set_option maxHeartbeats 4000000 in
theorem wk_X4_run_0 {G : wv_G} {p : Program} {e : Env} {R : Room} {s : State} {m : MethodId} {args : Array Value} {below : List Frame} {meth : Method} {c : Code} {fr : Nat} {P : wv_R → wv_H → Prop} (X : wv_ok G p R s m args meth c fr "WeaversgateModel" cX4_run 4 (Option.some Jvm.ClassFile.FieldType.char) "run" []) {v0 : Option Nat} {v1 : Int32} {v2 : Int32} {v3 : Int32} {w : wv_W} (hv : vc_X4_run_0 G fr P v0 v1 v2 v3 w) : wv_J G p e R s m args below meth c 4 P w 0 [(0, va_rf v0), (1, .int v1), (2, .int v2), (3, .int v3)] [] := by
  intro H locs cells slots ls S hl
  unfold vc_X4_run_0 at hv
  refine wq_aload_n X dX4_run_0 rfl (lv_at hl 0 rfl) ?_
  refine lv_iconst (v := (1 : Int32)) X.hx X.hb dX4_run_1 (by decide) ?_
  refine lv_iload_n X.hx X.hb dX4_run_2 rfl (lv_at hl 1 rfl) ?_
  refine lv_iload_n X.hx X.hb dX4_run_3 rfl (lv_at hl 2 rfl) ?_
  refine lv_iload_n X.hx X.hb dX4_run_4 rfl (lv_at hl 3 rfl) ?_
  refine wq_cV_I X S hv q2234 q2236 qs53 q66 ⟨by decide +kernel, by decide +kernel⟩ (nA := 4) (As := [.int (1 : Int32), .int v1, .int v2, .int v3]) (by decide +kernel) rfl rfl (by simp [wv_rfc, wv_kI, wv_kJ, wv_kF, wv_kD]) hl.1 dX4_run_5 (fun x5 w5 H locs cells slots S hv => ?_) (wq_kx X rfl)
  exact wr_iret X S hv.1 hv.2 dX4_run_8
theorem wk_X4_run {G : wv_G} (hG : wv_G0 G) {v0 : Option Nat} {v1 : Int32} {v2 : Int32} {v3 : Int32} {h : wv_H} {fr kc ks : Nat} {P : wv_R → wv_H → Prop} (hv : vc_X4_run_0 G fr P v0 v1 v2 v3 (h, kc, ks)) : wv_C G yX4_run [va_rf v0, .int v1, .int v2, .int v3] h fr kc ks P := by
  refine wv_enter (lv := [(0, va_rf v0), (1, .int v1), (2, .int v2), (3, .int v3)]) hG (by decide +kernel) q2233 (by decide) (by simp [lg_sl, wv_rfc, wv_kI, wv_kJ, wv_kF, wv_kD]) (by simp [lv_args, wv_rfc, wv_kI, wv_kJ, wv_kF, wv_kD]) ?_
  intro p e R s m args below meth c X H locs cells slots ls S hl
  exact wk_X4_run_0 X hv H locs cells slots ls S (lv_sub hl [0, 1, 2, 3] rfl)

def vc_X4_runAsking_0 (G : wv_G) (fr : Nat) (P : wv_R → wv_H → Prop) (v0 : Option Nat) (v1 : Int32) (v2 : Int32) (v3 : Int32) (w : wv_W) : Prop :=
  wv_cV G fr yX4_ran v0 [.int (0 : Int32), .int v1, .int v2, .int v3] w (wv_rI (fun x5 w5 => narrow .char (.int x5) = .int x5 ∧ P (.inl (some (.int x5))) w5.1) (wv_pr P))
set_option maxHeartbeats 4000000 in
theorem wk_X4_runAsking_0 {G : wv_G} {p : Program} {e : Env} {R : Room} {s : State} {m : MethodId} {args : Array Value} {below : List Frame} {meth : Method} {c : Code} {fr : Nat} {P : wv_R → wv_H → Prop} (X : wv_ok G p R s m args meth c fr "WeaversgateModel" cX4_runAsking 4 (Option.some Jvm.ClassFile.FieldType.char) "runAsking" []) {v0 : Option Nat} {v1 : Int32} {v2 : Int32} {v3 : Int32} {w : wv_W} (hv : vc_X4_runAsking_0 G fr P v0 v1 v2 v3 w) : wv_J G p e R s m args below meth c 4 P w 0 [(0, va_rf v0), (1, .int v1), (2, .int v2), (3, .int v3)] [] := by
  intro H locs cells slots ls S hl
  unfold vc_X4_runAsking_0 at hv
  refine wq_aload_n X dX4_runAsking_0 rfl (lv_at hl 0 rfl) ?_
  refine lv_iconst (v := (0 : Int32)) X.hx X.hb dX4_runAsking_1 (by decide) ?_
  refine lv_iload_n X.hx X.hb dX4_runAsking_2 rfl (lv_at hl 1 rfl) ?_
  refine lv_iload_n X.hx X.hb dX4_runAsking_3 rfl (lv_at hl 2 rfl) ?_
  refine lv_iload_n X.hx X.hb dX4_runAsking_4 rfl (lv_at hl 3 rfl) ?_
  refine wq_cV_I X S hv q2234 q2236 qs53 q66 ⟨by decide +kernel, by decide +kernel⟩ (nA := 4) (As := [.int (0 : Int32), .int v1, .int v2, .int v3]) (by decide +kernel) rfl rfl (by simp [wv_rfc, wv_kI, wv_kJ, wv_kF, wv_kD]) hl.1 dX4_runAsking_5 (fun x5 w5 H locs cells slots S hv => ?_) (wq_kx X rfl)
  exact wr_iret X S hv.1 hv.2 dX4_runAsking_8
theorem wk_X4_runAsking {G : wv_G} (hG : wv_G0 G) {v0 : Option Nat} {v1 : Int32} {v2 : Int32} {v3 : Int32} {h : wv_H} {fr kc ks : Nat} {P : wv_R → wv_H → Prop} (hv : vc_X4_runAsking_0 G fr P v0 v1 v2 v3 (h, kc, ks)) : wv_C G yX4_runAsking [va_rf v0, .int v1, .int v2, .int v3] h fr kc ks P := by
  refine wv_enter (lv := [(0, va_rf v0), (1, .int v1), (2, .int v2), (3, .int v3)]) hG (by decide +kernel) q2479 (by decide) (by simp [lg_sl, wv_rfc, wv_kI, wv_kJ, wv_kF, wv_kD]) (by simp [lv_args, wv_rfc, wv_kI, wv_kJ, wv_kF, wv_kD]) ?_
  intro p e R s m args below meth c X H locs cells slots ls S hl
  exact wk_X4_runAsking_0 X hv H locs cells slots ls S (lv_sub hl [0, 1, 2, 3] rfl)

def vc_X4_spots_172 (G : wv_G) (fr : Nat) (P : wv_R → wv_H → Prop) (K43 : ((Option Nat) × (Option Nat) × Int32) → wv_W → Prop) (v3 : Option Nat) (v4 : Option Nat) (v5 : Int32) (w : wv_W) : Prop :=
  K43 (v3, v4, (v5 + (1 : Int32))) w
def vc_X4_spots_98 (G : wv_G) (fr : Nat) (P : wv_R → wv_H → Prop) (K43 : ((Option Nat) × (Option Nat) × Int32) → wv_W → Prop) (v3 : Option Nat) (v4 : Option Nat) (v5 : Int32) (v6 : Int32) (w : wv_W) : Prop :=
  (v6 = (109 : Int32) → wv_no G w (wo_o ciX20 [.int 0, .int 0, .int 0, .int 0]) 4 (fun a109 w109 => wv_gA w109 v4 ciX8 1 (fun x117 => wv_li G 0 w109 x117 v5 (fun x122 => wv_gA w109 v4 ciX8 1 (fun x125 => wv_li G 0 w109 x125 v5 (fun x130 => wv_cI G fr yX20_init (some a109) [.int (109 : Int32), .int x122, .int x130, .int v5] w109 (wv_rV (fun w133 => wv_cV G fr yJ2_add v3 [va_rf (some a109)] w133 (wv_rI (fun x136 w136 => wv_no G w136 (wo_o ciX20 [.int 0, .int 0, .int 0, .int 0]) 4 (fun a141 w141 => wv_gA w141 v4 ciX8 2 (fun x149 => wv_li G 0 w141 x149 v5 (fun x154 => wv_gA w141 v4 ciX8 1 (fun x157 => wv_li G 0 w141 x157 v5 (fun x162 => wv_cI G fr yX20_init (some a141) [.int (99 : Int32), .int x154, .int x162, .int v5] w141 (wv_rV (fun w165 => wv_cV G fr yJ2_add v3 [va_rf (some a141)] w165 (wv_rI (fun x168 w168 => vc_X4_spots_172 G fr P K43 v3 v4 v5 w168) (wv_pr P))) (wv_pr P)))))))) (wv_pr P))) (wv_pr P)))))))) ∧ (¬ v6 = (109 : Int32) → vc_X4_spots_172 G fr P K43 v3 v4 v5 w)
def vc_X4_spots_43 (G : wv_G) (fr : Nat) (P : wv_R → wv_H → Prop) (K43 : ((Option Nat) × (Option Nat) × Int32) → wv_W → Prop) (v3 : Option Nat) (v4 : Option Nat) (v5 : Int32) (w : wv_W) : Prop :=
  wv_gI w v4 ciX8 3 (fun x47 => (x47 ≤ v5 → P (.inl (some (va_rf v3))) w.1) ∧ (¬ x47 ≤ v5 → wv_gA w v4 ciX8 0 (fun x55 => wv_li G 1 w x55 v5 (fun x60 => wv_c0 G fr yX4_isOneOf [va_rf (some (G.2.2.2.2 418)), .int x60] w (wv_rI (fun x67 w67 => (x67 = 0 → vc_X4_spots_98 G fr P K43 v3 v4 v5 x60 w67) ∧ (¬ x67 = 0 → wv_no G w67 (wo_o ciX20 [.int 0, .int 0, .int 0, .int 0]) 4 (fun a74 w74 => wv_gA w74 v4 ciX8 1 (fun x82 => wv_li G 0 w74 x82 v5 (fun x87 => wv_cI G fr yX20_init (some a74) [.int x60, .int x87, .int (-1 : Int32), .int v5] w74 (wv_rV (fun w91 => wv_cV G fr yJ2_add v3 [va_rf (some a74)] w91 (wv_rI (fun x94 w94 => vc_X4_spots_98 G fr P K43 v3 v4 v5 x60 w94) (wv_pr P))) (wv_pr P))))))) (wv_pr P))))))
def vc_X4_spots_0 (G : wv_G) (fr : Nat) (P : wv_R → wv_H → Prop) (v0 : Option Nat) (v1 : Int32) (v2 : Int32) (w : wv_W) : Prop :=
  wv_no G w (wo_o ciJ2 [.int 0, va_rf none, .int 0]) 3 (fun a0 w0 => wv_cI G fr yJ2_init (some a0) [] w0 (wv_rV (fun w4 => wv_cV G fr yX4_body v0 [.int v1, .int v2] w4 (wv_rA (fun x11 w11 => (¬ x11 = none → wv_no G w11 (wo_o ciX20 [.int 0, .int 0, .int 0, .int 0]) 4 (fun a24 w24 => wv_cI G fr yX20_init (some a24) [.int (101 : Int32), .int v2, .int (-1 : Int32), .int (-1 : Int32)] w24 (wv_rV (fun w33 => wv_cV G fr yJ2_add (some a0) [va_rf (some a24)] w33 (wv_rI (fun x36 w36 => wv_L (fun K43 a w => vc_X4_spots_43 G fr P K43 a.1 a.2.1 a.2.2 w) ((some a0), x11, (0 : Int32)) w36) (wv_pr P))) (wv_pr P)))) ∧ (x11 = none → P (.inl (some (va_rf (some a0)))) w11.1)) (wv_pr P))) (wv_pr P)))
set_option maxHeartbeats 4000000 in
theorem wk_X4_spots_172 {G : wv_G} {p : Program} {e : Env} {R : Room} {s : State} {m : MethodId} {args : Array Value} {below : List Frame} {meth : Method} {c : Code} {fr : Nat} {P : wv_R → wv_H → Prop} (X : wv_ok G p R s m args meth c fr "WeaversgateModel" cX4_spots 7 (Option.some (Jvm.ClassFile.FieldType.object "java/util/ArrayList")) "spots" []) {K43 : ((Option Nat) × (Option Nat) × Int32) → wv_W → Prop} (hK43 : ∀ a w, K43 a w → wv_J G p e R s m args below meth c 7 P w 43 [(3, va_rf a.1), (4, va_rf a.2.1), (5, .int a.2.2)] []) {v3 : Option Nat} {v4 : Option Nat} {v5 : Int32} {w : wv_W} (hv : vc_X4_spots_172 G fr P K43 v3 v4 v5 w) : wv_J G p e R s m args below meth c 7 P w 172 [(3, va_rf v3), (4, va_rf v4), (5, .int v5)] [] := by
  intro H locs cells slots ls S hl
  unfold vc_X4_spots_172 at hv
  refine lv_iinc (v := (v5 + (1 : Int32))) (lv' := [(5, .int (v5 + (1 : Int32))), (3, va_rf v3), (4, va_rf v4)]) X.hx X.hb dX4_spots_172 hl (k := 2) rfl (by rfl) (by decide) (by simp [wv_rfc, wv_kI, wv_kJ, wv_kF, wv_kD]) (fun ls hl => ?_)
  refine lv_goto (tgt := 43) X.hx X.hb dX4_spots_175 (by decide) ?_
  exact hK43 _ _ hv H locs cells slots ls S (lv_sub hl [1, 2, 0] rfl)
set_option maxHeartbeats 4000000 in
theorem wk_X4_spots_98 {G : wv_G} {p : Program} {e : Env} {R : Room} {s : State} {m : MethodId} {args : Array Value} {below : List Frame} {meth : Method} {c : Code} {fr : Nat} {P : wv_R → wv_H → Prop} (X : wv_ok G p R s m args meth c fr "WeaversgateModel" cX4_spots 7 (Option.some (Jvm.ClassFile.FieldType.object "java/util/ArrayList")) "spots" []) {K43 : ((Option Nat) × (Option Nat) × Int32) → wv_W → Prop} (hK43 : ∀ a w, K43 a w → wv_J G p e R s m args below meth c 7 P w 43 [(3, va_rf a.1), (4, va_rf a.2.1), (5, .int a.2.2)] []) {v3 : Option Nat} {v4 : Option Nat} {v5 : Int32} {v6 : Int32} {w : wv_W} (hv : vc_X4_spots_98 G fr P K43 v3 v4 v5 v6 w) : wv_J G p e R s m args below meth c 7 P w 98 [(3, va_rf v3), (4, va_rf v4), (5, .int v5), (6, .int v6)] [] := by
  intro H locs cells slots ls S hl
  unfold vc_X4_spots_98 at hv
  refine lv_iload X.hx X.hb dX4_spots_98 (lv_at hl 3 rfl) ?_
  refine lv_bipush (v := (109 : Int32)) X.hx X.hb dX4_spots_100 (by decide) ?_
  refine lv_icmp_eq (tgt := 108) X.hx X.hb dX4_spots_102 (by decide) (fun c102 => ?_) (fun c102 => ?_)
  · have hv := hv.1 c102
    refine wq_aload_n X dX4_spots_108 rfl (lv_at hl 0 rfl) ?_
    refine wq_new X S hv tyX20 tyX20_ok ccX20 in_X20 q2102 q2103 q105 (fun j hj => by have hj : j < 4 := hj; rcases (show j = 0 ∨ j = 1 ∨ j = 2 ∨ j = 3 by omega) with rfl | rfl | rfl | rfl <;> rfl) dX4_spots_109 (fun a109 w109 H cells slots S hv => ?_)
    refine lv_dup X.hx X.hb dX4_spots_112 (wv_rfc _) ?_
    refine lv_bipush (v := (109 : Int32)) X.hx X.hb dX4_spots_113 (by decide) ?_
    refine wq_aload X dX4_spots_115 (lv_at hl 1 rfl) ?_
    refine wq_gA X S hv ccX8 in_X8 (k := 1) (by decide) q1902 dX4_spots_117 (fun x117 hv => ?_)
    refine lv_iload X.hx X.hb dX4_spots_120 (lv_at hl 2 rfl) ?_
    refine wq_li0 X S hv dX4_spots_122 (fun x122 hv => ?_)
    refine wq_aload X dX4_spots_123 (lv_at hl 1 rfl) ?_
    refine wq_gA X S hv ccX8 in_X8 (k := 1) (by decide) q1902 dX4_spots_125 (fun x125 hv => ?_)
    refine lv_iload X.hx X.hb dX4_spots_128 (lv_at hl 2 rfl) ?_
    refine wq_li0 X S hv dX4_spots_130 (fun x130 hv => ?_)
    refine lv_iload X.hx X.hb dX4_spots_131 (lv_at hl 2 rfl) ?_
    refine wq_cIN_V X S hv rfl q2104 q2105 q2106 q105 ⟨by decide +kernel, by decide +kernel⟩ (nA := 4) (As := [.int (109 : Int32), .int x122, .int x130, .int v5]) (by decide +kernel) rfl rfl (by simp [wv_rfc, wv_kI, wv_kJ, wv_kF, wv_kD]) hl.1 dX4_spots_133 (fun w133 H locs cells slots S hv => ?_) (wq_kx X rfl)
    refine wq_cV_I X S hv q2085 q752 q753 q63 ⟨by decide +kernel, by decide +kernel⟩ (nA := 1) (As := [va_rf (some a109)]) (by decide +kernel) rfl rfl (by simp [wv_rfc, wv_kI, wv_kJ, wv_kF, wv_kD]) hl.1 dX4_spots_136 (fun x136 w136 H locs cells slots S hv => ?_) (wq_kx X rfl)
    refine lv_pop X.hx X.hb dX4_spots_139 rfl ?_
    refine wq_aload_n X dX4_spots_140 rfl (lv_at hl 0 rfl) ?_
    refine wq_new X S hv tyX20 tyX20_ok ccX20 in_X20 q2102 q2103 q105 (fun j hj => by have hj : j < 4 := hj; rcases (show j = 0 ∨ j = 1 ∨ j = 2 ∨ j = 3 by omega) with rfl | rfl | rfl | rfl <;> rfl) dX4_spots_141 (fun a141 w141 H cells slots S hv => ?_)
    refine lv_dup X.hx X.hb dX4_spots_144 (wv_rfc _) ?_
    refine lv_bipush (v := (99 : Int32)) X.hx X.hb dX4_spots_145 (by decide) ?_
    refine wq_aload X dX4_spots_147 (lv_at hl 1 rfl) ?_
    refine wq_gA X S hv ccX8 in_X8 (k := 2) (by decide) q1905 dX4_spots_149 (fun x149 hv => ?_)
    refine lv_iload X.hx X.hb dX4_spots_152 (lv_at hl 2 rfl) ?_
    refine wq_li0 X S hv dX4_spots_154 (fun x154 hv => ?_)
    refine wq_aload X dX4_spots_155 (lv_at hl 1 rfl) ?_
    refine wq_gA X S hv ccX8 in_X8 (k := 1) (by decide) q1902 dX4_spots_157 (fun x157 hv => ?_)
    refine lv_iload X.hx X.hb dX4_spots_160 (lv_at hl 2 rfl) ?_
    refine wq_li0 X S hv dX4_spots_162 (fun x162 hv => ?_)
    refine lv_iload X.hx X.hb dX4_spots_163 (lv_at hl 2 rfl) ?_
    refine wq_cIN_V X S hv rfl q2104 q2105 q2106 q105 ⟨by decide +kernel, by decide +kernel⟩ (nA := 4) (As := [.int (99 : Int32), .int x154, .int x162, .int v5]) (by decide +kernel) rfl rfl (by simp [wv_rfc, wv_kI, wv_kJ, wv_kF, wv_kD]) hl.1 dX4_spots_165 (fun w165 H locs cells slots S hv => ?_) (wq_kx X rfl)
    refine wq_cV_I X S hv q2085 q752 q753 q63 ⟨by decide +kernel, by decide +kernel⟩ (nA := 1) (As := [va_rf (some a141)]) (by decide +kernel) rfl rfl (by simp [wv_rfc, wv_kI, wv_kJ, wv_kF, wv_kD]) hl.1 dX4_spots_168 (fun x168 w168 H locs cells slots S hv => ?_) (wq_kx X rfl)
    refine lv_pop X.hx X.hb dX4_spots_171 rfl ?_
    exact wk_X4_spots_172 X hK43 hv H locs cells slots ls S (lv_sub hl [0, 1, 2] rfl)
  · have hv := hv.2 c102
    refine lv_goto (tgt := 172) X.hx X.hb dX4_spots_105 (by decide) ?_
    exact wk_X4_spots_172 X hK43 hv H locs cells slots ls S (lv_sub hl [0, 1, 2] rfl)
set_option maxHeartbeats 4000000 in
theorem wk_X4_spots_43 {G : wv_G} {p : Program} {e : Env} {R : Room} {s : State} {m : MethodId} {args : Array Value} {below : List Frame} {meth : Method} {c : Code} {fr : Nat} {P : wv_R → wv_H → Prop} (X : wv_ok G p R s m args meth c fr "WeaversgateModel" cX4_spots 7 (Option.some (Jvm.ClassFile.FieldType.object "java/util/ArrayList")) "spots" []) {K43 : ((Option Nat) × (Option Nat) × Int32) → wv_W → Prop} (hK43 : ∀ a w, K43 a w → wv_J G p e R s m args below meth c 7 P w 43 [(3, va_rf a.1), (4, va_rf a.2.1), (5, .int a.2.2)] []) {v3 : Option Nat} {v4 : Option Nat} {v5 : Int32} {w : wv_W} (hv : vc_X4_spots_43 G fr P K43 v3 v4 v5 w) : wv_J G p e R s m args below meth c 7 P w 43 [(3, va_rf v3), (4, va_rf v4), (5, .int v5)] [] := by
  intro H locs cells slots ls S hl
  unfold vc_X4_spots_43 at hv
  refine lv_iload X.hx X.hb dX4_spots_43 (lv_at hl 2 rfl) ?_
  refine wq_aload X dX4_spots_45 (lv_at hl 1 rfl) ?_
  refine wq_gI X S hv ccX8 in_X8 (k := 3) (by decide) q1908 dX4_spots_47 (fun x47 hv => ?_)
  refine lv_icmp_ge (tgt := 178) X.hx X.hb dX4_spots_50 (by decide) (fun c50 => ?_) (fun c50 => ?_)
  · have hv := hv.1 c50
    refine wq_aload_n X dX4_spots_178 rfl (lv_at hl 0 rfl) ?_
    exact wr_aret X S (Or.inl ⟨_, rfl⟩) hv dX4_spots_179
  · have hv := hv.2 c50
    refine wq_aload X dX4_spots_53 (lv_at hl 1 rfl) ?_
    refine wq_gA X S hv ccX8 in_X8 (k := 0) (by decide) q1899 dX4_spots_55 (fun x55 hv => ?_)
    refine lv_iload X.hx X.hb dX4_spots_58 (lv_at hl 2 rfl) ?_
    refine wq_li1 X S hv dX4_spots_60 (fun x60 hv => ?_)
    refine lv_istore X.hx X.hb (i := 6) (lv' := [(6, .int x60), (3, va_rf v3), (4, va_rf v4), (5, .int v5)]) dX4_spots_61 hl (by decide) (by simp [wv_rfc, wv_kI, wv_kJ, wv_kF, wv_kD]) (fun ls hl => ?_)
    refine wq_ldcS X S (k := 18) rfl q2124 dX4_spots_63 ?_
    refine lv_iload X.hx X.hb dX4_spots_65 (lv_at hl 0 rfl) ?_
    refine wq_cS_I X S hv q1940 q1941 q66 ⟨by decide +kernel, by decide +kernel⟩ (nA := 2) (As := [va_rf (some (G.2.2.2.2 418)), .int x60]) (by decide +kernel) rfl rfl (by simp [wv_rfc, wv_kI, wv_kJ, wv_kF, wv_kD]) hl.1 dX4_spots_67 (fun x67 w67 H locs cells slots S hv => ?_) (wq_kx X rfl)
    refine lv_if_eq (tgt := 98) X.hx X.hb dX4_spots_70 (by decide) (fun c70 => ?_) (fun c70 => ?_)
    · have hv := hv.1 c70
      exact wk_X4_spots_98 X hK43 hv H locs cells slots ls S (lv_sub hl [1, 2, 3, 0] rfl)
    · have hv := hv.2 c70
      refine wq_aload_n X dX4_spots_73 rfl (lv_at hl 1 rfl) ?_
      refine wq_new X S hv tyX20 tyX20_ok ccX20 in_X20 q2102 q2103 q105 (fun j hj => by have hj : j < 4 := hj; rcases (show j = 0 ∨ j = 1 ∨ j = 2 ∨ j = 3 by omega) with rfl | rfl | rfl | rfl <;> rfl) dX4_spots_74 (fun a74 w74 H cells slots S hv => ?_)
      refine lv_dup X.hx X.hb dX4_spots_77 (wv_rfc _) ?_
      refine lv_iload X.hx X.hb dX4_spots_78 (lv_at hl 0 rfl) ?_
      refine wq_aload X dX4_spots_80 (lv_at hl 2 rfl) ?_
      refine wq_gA X S hv ccX8 in_X8 (k := 1) (by decide) q1902 dX4_spots_82 (fun x82 hv => ?_)
      refine lv_iload X.hx X.hb dX4_spots_85 (lv_at hl 3 rfl) ?_
      refine wq_li0 X S hv dX4_spots_87 (fun x87 hv => ?_)
      refine lv_iconst (v := (-1 : Int32)) X.hx X.hb dX4_spots_88 (by decide) ?_
      refine lv_iload X.hx X.hb dX4_spots_89 (lv_at hl 3 rfl) ?_
      refine wq_cIN_V X S hv rfl q2104 q2105 q2106 q105 ⟨by decide +kernel, by decide +kernel⟩ (nA := 4) (As := [.int x60, .int x87, .int (-1 : Int32), .int v5]) (by decide +kernel) rfl rfl (by simp [wv_rfc, wv_kI, wv_kJ, wv_kF, wv_kD]) hl.1 dX4_spots_91 (fun w91 H locs cells slots S hv => ?_) (wq_kx X rfl)
      refine wq_cV_I X S hv q2085 q752 q753 q63 ⟨by decide +kernel, by decide +kernel⟩ (nA := 1) (As := [va_rf (some a74)]) (by decide +kernel) rfl rfl (by simp [wv_rfc, wv_kI, wv_kJ, wv_kF, wv_kD]) hl.1 dX4_spots_94 (fun x94 w94 H locs cells slots S hv => ?_) (wq_kx X rfl)
      refine lv_pop X.hx X.hb dX4_spots_97 rfl ?_
      exact wk_X4_spots_98 X hK43 hv H locs cells slots ls S (lv_sub hl [1, 2, 3, 0] rfl)
set_option maxHeartbeats 4000000 in
theorem wk_X4_spots_0 {G : wv_G} {p : Program} {e : Env} {R : Room} {s : State} {m : MethodId} {args : Array Value} {below : List Frame} {meth : Method} {c : Code} {fr : Nat} {P : wv_R → wv_H → Prop} (X : wv_ok G p R s m args meth c fr "WeaversgateModel" cX4_spots 7 (Option.some (Jvm.ClassFile.FieldType.object "java/util/ArrayList")) "spots" []) {v0 : Option Nat} {v1 : Int32} {v2 : Int32} {w : wv_W} (hv : vc_X4_spots_0 G fr P v0 v1 v2 w) : wv_J G p e R s m args below meth c 7 P w 0 [(0, va_rf v0), (1, .int v1), (2, .int v2)] [] := by
  intro H locs cells slots ls S hl
  unfold vc_X4_spots_0 at hv
  refine wq_new X S hv tyJ2 tyJ2_ok ccJ2 in_J2 q1991 q128 q63 (fun j hj => by have hj : j < 3 := hj; rcases (show j = 0 ∨ j = 1 ∨ j = 2 by omega) with rfl | rfl | rfl <;> rfl) dX4_spots_0 (fun a0 w0 H cells slots S hv => ?_)
  refine lv_dup X.hx X.hb dX4_spots_3 (wv_rfc _) ?_
  refine wq_cI_V X S hv rfl q1992 q130 q131 q63 ⟨by decide +kernel, by decide +kernel⟩ (nA := 0) (As := []) (by decide +kernel) rfl rfl (by simp [wv_rfc, wv_kI, wv_kJ, wv_kF, wv_kD]) hl.1 dX4_spots_4 (fun w4 H locs cells slots S hv => ?_) (wq_kx X rfl)
  refine wq_astore_n X (i := 3) (lv' := [(3, va_rf (some a0)), (0, va_rf v0), (1, .int v1), (2, .int v2)]) dX4_spots_7 rfl hl (by decide) (by simp [wv_rfc, wv_kI, wv_kJ, wv_kF, wv_kD]) (fun ls hl => ?_)
  refine wq_aload_n X dX4_spots_8 rfl (lv_at hl 1 rfl) ?_
  refine lv_iload_n X.hx X.hb dX4_spots_9 rfl (lv_at hl 2 rfl) ?_
  refine lv_iload_n X.hx X.hb dX4_spots_10 rfl (lv_at hl 3 rfl) ?_
  refine wq_cV_A X S hv q1889 q1891 qs37 q66 ⟨by decide +kernel, by decide +kernel⟩ (nA := 2) (As := [.int v1, .int v2]) (by decide +kernel) rfl rfl (by simp [wv_rfc, wv_kI, wv_kJ, wv_kF, wv_kD]) hl.1 dX4_spots_11 (fun x11 w11 H locs cells slots S hv => ?_) (wq_kx X rfl)
  refine wq_astore X (i := 4) (lv' := [(4, va_rf x11), (3, va_rf (some a0)), (0, va_rf v0), (1, .int v1), (2, .int v2)]) dX4_spots_14 hl (by decide) (by simp [wv_rfc, wv_kI, wv_kJ, wv_kF, wv_kD]) (fun ls hl => ?_)
  refine wq_aload X dX4_spots_16 (lv_at hl 0 rfl) ?_
  refine wq_ifnonnull (tgt := 23) X dX4_spots_18 (by decide) (fun c18 => ?_) (fun c18 => ?_)
  · have hv := hv.1 c18
    refine wq_aload_n X dX4_spots_23 rfl (lv_at hl 1 rfl) ?_
    refine wq_new X S hv tyX20 tyX20_ok ccX20 in_X20 q2102 q2103 q105 (fun j hj => by have hj : j < 4 := hj; rcases (show j = 0 ∨ j = 1 ∨ j = 2 ∨ j = 3 by omega) with rfl | rfl | rfl | rfl <;> rfl) dX4_spots_24 (fun a24 w24 H cells slots S hv => ?_)
    refine lv_dup X.hx X.hb dX4_spots_27 (wv_rfc _) ?_
    refine lv_bipush (v := (101 : Int32)) X.hx X.hb dX4_spots_28 (by decide) ?_
    refine lv_iload_n X.hx X.hb dX4_spots_30 rfl (lv_at hl 4 rfl) ?_
    refine lv_iconst (v := (-1 : Int32)) X.hx X.hb dX4_spots_31 (by decide) ?_
    refine lv_iconst (v := (-1 : Int32)) X.hx X.hb dX4_spots_32 (by decide) ?_
    refine wq_cIN_V X S hv rfl q2104 q2105 q2106 q105 ⟨by decide +kernel, by decide +kernel⟩ (nA := 4) (As := [.int (101 : Int32), .int v2, .int (-1 : Int32), .int (-1 : Int32)]) (by decide +kernel) rfl rfl (by simp [wv_rfc, wv_kI, wv_kJ, wv_kF, wv_kD]) hl.1 dX4_spots_33 (fun w33 H locs cells slots S hv => ?_) (wq_kx X rfl)
    refine wq_cV_I X S hv q2085 q752 q753 q63 ⟨by decide +kernel, by decide +kernel⟩ (nA := 1) (As := [va_rf (some a24)]) (by decide +kernel) rfl rfl (by simp [wv_rfc, wv_kI, wv_kJ, wv_kF, wv_kD]) hl.1 dX4_spots_36 (fun x36 w36 H locs cells slots S hv => ?_) (wq_kx X rfl)
    refine lv_pop X.hx X.hb dX4_spots_39 rfl ?_
    refine lv_iconst (v := (0 : Int32)) X.hx X.hb dX4_spots_40 (by decide) ?_
    refine lv_istore X.hx X.hb (i := 5) (lv' := [(5, .int (0 : Int32)), (4, va_rf x11), (3, va_rf (some a0)), (0, va_rf v0), (1, .int v1), (2, .int v2)]) dX4_spots_41 hl (by decide) (by simp [wv_rfc, wv_kI, wv_kJ, wv_kF, wv_kD]) (fun ls hl => ?_)
    exact wv_loop (A := (Option Nat) × (Option Nat) × Int32) (fun a w => wv_J G p e R s m args below meth c 7 P w 43 [(3, va_rf a.1), (4, va_rf a.2.1), (5, .int a.2.2)] []) (fun K43 hK43 a w hv => wk_X4_spots_43 X hK43 hv) hv H locs cells slots ls S (lv_sub hl [2, 1, 0] rfl)
  · have hv := hv.2 c18
    refine wq_aload_n X dX4_spots_21 rfl (lv_at hl 1 rfl) ?_
    exact wr_aret X S (Or.inl ⟨_, rfl⟩) hv dX4_spots_22
theorem wk_X4_spots {G : wv_G} (hG : wv_G0 G) {v0 : Option Nat} {v1 : Int32} {v2 : Int32} {h : wv_H} {fr kc ks : Nat} {P : wv_R → wv_H → Prop} (hv : vc_X4_spots_0 G fr P v0 v1 v2 (h, kc, ks)) : wv_C G yX4_spots [va_rf v0, .int v1, .int v2] h fr kc ks P := by
  refine wv_enter (lv := [(0, va_rf v0), (1, .int v1), (2, .int v2)]) hG (by decide +kernel) q2101 (by decide) (by simp [lg_sl, wv_rfc, wv_kI, wv_kJ, wv_kF, wv_kD]) (by simp [lv_args, wv_rfc, wv_kI, wv_kJ, wv_kF, wv_kD]) ?_
  intro p e R s m args below meth c X H locs cells slots ls S hl
  exact wk_X4_spots_0 X hv H locs cells slots ls S (lv_sub hl [0, 1, 2] rfl)

def vc_X4_sure_0 (G : wv_G) (fr : Nat) (P : wv_R → wv_H → Prop) (v0 : Int32) (w : wv_W) : Prop :=
  (v0 = 0 → narrow .char (.int (110 : Int32)) = .int (110 : Int32) ∧ P (.inl (some (.int (110 : Int32)))) w.1) ∧ (¬ v0 = 0 → narrow .char (.int (121 : Int32)) = .int (121 : Int32) ∧ P (.inl (some (.int (121 : Int32)))) w.1)
set_option maxHeartbeats 4000000 in
theorem wk_X4_sure_0 {G : wv_G} {p : Program} {e : Env} {R : Room} {s : State} {m : MethodId} {args : Array Value} {below : List Frame} {meth : Method} {c : Code} {fr : Nat} {P : wv_R → wv_H → Prop} (X : wv_ok G p R s m args meth c fr "WeaversgateModel" cX4_sure 1 (Option.some Jvm.ClassFile.FieldType.char) "sure" []) {v0 : Int32} {w : wv_W} (hv : vc_X4_sure_0 G fr P v0 w) : wv_J G p e R s m args below meth c 1 P w 0 [(0, .int v0)] [] := by
  intro H locs cells slots ls S hl
  unfold vc_X4_sure_0 at hv
  refine lv_iload_n X.hx X.hb dX4_sure_0 rfl (lv_at hl 0 rfl) ?_
  refine lv_if_eq (tgt := 9) X.hx X.hb dX4_sure_1 (by decide) (fun c1 => ?_) (fun c1 => ?_)
  · have hv := hv.1 c1
    refine lv_bipush (v := (110 : Int32)) X.hx X.hb dX4_sure_9 (by decide) ?_
    exact wr_iret X S hv.1 hv.2 dX4_sure_11
  · have hv := hv.2 c1
    refine lv_bipush (v := (121 : Int32)) X.hx X.hb dX4_sure_4 (by decide) ?_
    refine lv_goto (tgt := 11) X.hx X.hb dX4_sure_6 (by decide) ?_
    exact wr_iret X S hv.1 hv.2 dX4_sure_11
theorem wk_X4_sure {G : wv_G} (hG : wv_G0 G) {v0 : Int32} {h : wv_H} {fr kc ks : Nat} {P : wv_R → wv_H → Prop} (hv : vc_X4_sure_0 G fr P v0 (h, kc, ks)) : wv_C G yX4_sure [.int v0] h fr kc ks P := by
  refine wv_enter (lv := [(0, .int v0)]) hG (by decide +kernel) q2147 (by decide) (by simp [lg_sl, wv_rfc, wv_kI, wv_kJ, wv_kF, wv_kD]) (by simp [lv_args, wv_rfc, wv_kI, wv_kJ, wv_kF, wv_kD]) ?_
  intro p e R s m args below meth c X H locs cells slots ls S hl
  exact wk_X4_sure_0 X hv H locs cells slots ls S (lv_sub hl [0] rfl)

def vc_X4_sureShare_39 (G : wv_G) (fr : Nat) (P : wv_R → wv_H → Prop) (s0 : UInt32) (w : wv_W) : Prop :=
  P (.inl (some (.float s0))) w.1
def vc_X4_sureShare_17 (G : wv_G) (fr : Nat) (P : wv_R → wv_H → Prop) (v0 : Option Nat) (v1 : Int32) (s0 : Int32) (s1 : Option Nat) (w : wv_W) : Prop :=
  wv_cV G fr yX4_checked s1 [.int s0] w (wv_rI (fun x17 w17 => (x17 ≤ 0 → wv_cV G fr yX4_pairs v0 [.int (109 : Int32)] w17 (wv_rI (fun x31 w31 => (vf_n32 (FP.fdiv (FP.i2f (v1 - x31)) (FP.i2f v1))) ∧ (vc_X4_sureShare_39 G fr P (FP.fdiv (FP.i2f (v1 - x31)) (FP.i2f v1)) w31)) (wv_pr P))) ∧ (¬ x17 ≤ 0 → vc_X4_sureShare_39 G fr P FP.fconst0 w17)) (wv_pr P))
def vc_X4_sureShare_0 (G : wv_G) (fr : Nat) (P : wv_R → wv_H → Prop) (v0 : Option Nat) (w : wv_W) : Prop :=
  wv_cV G fr yX4_pairs v0 [.int (32 : Int32)] w (wv_rI (fun x3 w3 => (x3 ≤ 0 → vc_X4_sureShare_17 G fr P v0 x3 (0 : Int32) v0 w3) ∧ (¬ x3 ≤ 0 → vc_X4_sureShare_17 G fr P v0 x3 (1 : Int32) v0 w3)) (wv_pr P))
set_option maxHeartbeats 4000000 in
theorem wk_X4_sureShare_39 {G : wv_G} {p : Program} {e : Env} {R : Room} {s : State} {m : MethodId} {args : Array Value} {below : List Frame} {meth : Method} {c : Code} {fr : Nat} {P : wv_R → wv_H → Prop} (X : wv_ok G p R s m args meth c fr "WeaversgateModel" cX4_sureShare 2 (Option.some Jvm.ClassFile.FieldType.float) "sureShare" []) {s0 : UInt32} {w : wv_W} (hv : vc_X4_sureShare_39 G fr P s0 w) : wv_J G p e R s m args below meth c 2 P w 39 [] [.float s0] := by
  intro H locs cells slots ls S hl
  unfold vc_X4_sureShare_39 at hv
  exact wr_fret X S hv dX4_sureShare_39
set_option maxHeartbeats 4000000 in
theorem wk_X4_sureShare_17 {G : wv_G} {p : Program} {e : Env} {R : Room} {s : State} {m : MethodId} {args : Array Value} {below : List Frame} {meth : Method} {c : Code} {fr : Nat} {P : wv_R → wv_H → Prop} (X : wv_ok G p R s m args meth c fr "WeaversgateModel" cX4_sureShare 2 (Option.some Jvm.ClassFile.FieldType.float) "sureShare" []) {v0 : Option Nat} {v1 : Int32} {s0 : Int32} {s1 : Option Nat} {w : wv_W} (hv : vc_X4_sureShare_17 G fr P v0 v1 s0 s1 w) : wv_J G p e R s m args below meth c 2 P w 17 [(0, va_rf v0), (1, .int v1)] [.int s0, va_rf s1] := by
  intro H locs cells slots ls S hl
  unfold vc_X4_sureShare_17 at hv
  refine wq_cV_I X S hv q1975 q1977 qs43 q66 ⟨by decide +kernel, by decide +kernel⟩ (nA := 1) (As := [.int s0]) (by decide +kernel) rfl rfl (by simp [wv_rfc, wv_kI, wv_kJ, wv_kF, wv_kD]) hl.1 dX4_sureShare_17 (fun x17 w17 H locs cells slots S hv => ?_) (wq_kx X rfl)
  refine lv_if_le (tgt := 27) X.hx X.hb dX4_sureShare_20 (by decide) (fun c20 => ?_) (fun c20 => ?_)
  · have hv := hv.1 c20
    refine lv_iload_n X.hx X.hb dX4_sureShare_27 rfl (lv_at hl 1 rfl) ?_
    refine wq_aload_n X dX4_sureShare_28 rfl (lv_at hl 0 rfl) ?_
    refine lv_bipush (v := (109 : Int32)) X.hx X.hb dX4_sureShare_29 (by decide) ?_
    refine wq_cV_I X S hv q2170 q2172 qs51 q66 ⟨by decide +kernel, by decide +kernel⟩ (nA := 1) (As := [.int (109 : Int32)]) (by decide +kernel) rfl rfl (by simp [wv_rfc, wv_kI, wv_kJ, wv_kF, wv_kD]) hl.1 dX4_sureShare_31 (fun x31 w31 H locs cells slots S hv => ?_) (wq_kx X rfl)
    refine lv_isub X.hx X.hb dX4_sureShare_34 ?_
    refine lv_i2f X.hx X.hb dX4_sureShare_35 ?_
    refine lv_iload_n X.hx X.hb dX4_sureShare_36 rfl (lv_at hl 1 rfl) ?_
    refine lv_i2f X.hx X.hb dX4_sureShare_37 ?_
    refine lv_fdiv X.hx X.hb dX4_sureShare_38 hv.1 ?_
    have hv := hv.2
    exact wk_X4_sureShare_39 X  hv H locs cells slots ls S (lv_sub hl [] rfl)
  · have hv := hv.2 c20
    refine lv_fconst0 X.hx X.hb dX4_sureShare_23 ?_
    refine lv_goto (tgt := 39) X.hx X.hb dX4_sureShare_24 (by decide) ?_
    exact wk_X4_sureShare_39 X  hv H locs cells slots ls S (lv_sub hl [] rfl)
set_option maxHeartbeats 4000000 in
theorem wk_X4_sureShare_0 {G : wv_G} {p : Program} {e : Env} {R : Room} {s : State} {m : MethodId} {args : Array Value} {below : List Frame} {meth : Method} {c : Code} {fr : Nat} {P : wv_R → wv_H → Prop} (X : wv_ok G p R s m args meth c fr "WeaversgateModel" cX4_sureShare 2 (Option.some Jvm.ClassFile.FieldType.float) "sureShare" []) {v0 : Option Nat} {w : wv_W} (hv : vc_X4_sureShare_0 G fr P v0 w) : wv_J G p e R s m args below meth c 2 P w 0 [(0, va_rf v0)] [] := by
  intro H locs cells slots ls S hl
  unfold vc_X4_sureShare_0 at hv
  refine wq_aload_n X dX4_sureShare_0 rfl (lv_at hl 0 rfl) ?_
  refine lv_bipush (v := (32 : Int32)) X.hx X.hb dX4_sureShare_1 (by decide) ?_
  refine wq_cV_I X S hv q2170 q2172 qs51 q66 ⟨by decide +kernel, by decide +kernel⟩ (nA := 1) (As := [.int (32 : Int32)]) (by decide +kernel) rfl rfl (by simp [wv_rfc, wv_kI, wv_kJ, wv_kF, wv_kD]) hl.1 dX4_sureShare_3 (fun x3 w3 H locs cells slots S hv => ?_) (wq_kx X rfl)
  refine lv_istore_n X.hx X.hb (i := 1) (lv' := [(1, .int x3), (0, va_rf v0)]) dX4_sureShare_6 rfl hl (by decide) (by simp [wv_rfc, wv_kI, wv_kJ, wv_kF, wv_kD]) (fun ls hl => ?_)
  refine wq_aload_n X dX4_sureShare_7 rfl (lv_at hl 1 rfl) ?_
  refine lv_iload_n X.hx X.hb dX4_sureShare_8 rfl (lv_at hl 0 rfl) ?_
  refine lv_if_le (tgt := 16) X.hx X.hb dX4_sureShare_9 (by decide) (fun c9 => ?_) (fun c9 => ?_)
  · have hv := hv.1 c9
    refine lv_iconst (v := (0 : Int32)) X.hx X.hb dX4_sureShare_16 (by decide) ?_
    exact wk_X4_sureShare_17 X  hv H locs cells slots ls S (lv_sub hl [1, 0] rfl)
  · have hv := hv.2 c9
    refine lv_iconst (v := (1 : Int32)) X.hx X.hb dX4_sureShare_12 (by decide) ?_
    refine lv_goto (tgt := 17) X.hx X.hb dX4_sureShare_13 (by decide) ?_
    exact wk_X4_sureShare_17 X  hv H locs cells slots ls S (lv_sub hl [1, 0] rfl)
theorem wk_X4_sureShare {G : wv_G} (hG : wv_G0 G) {v0 : Option Nat} {h : wv_H} {fr kc ks : Nat} {P : wv_R → wv_H → Prop} (hv : vc_X4_sureShare_0 G fr P v0 (h, kc, ks)) : wv_C G yX4_sureShare [va_rf v0] h fr kc ks P := by
  refine wv_enter (lv := [(0, va_rf v0)]) hG (by decide +kernel) q2537 (by decide) (by simp [lg_sl, wv_rfc, wv_kI, wv_kJ, wv_kF, wv_kD]) (by simp [lv_args, wv_rfc, wv_kI, wv_kJ, wv_kF, wv_kD]) ?_
  intro p e R s m args below meth c X H locs cells slots ls S hl
  exact wk_X4_sureShare_0 X hv H locs cells slots ls S (lv_sub hl [0] rfl)

def vc_X4_thrown_0 (G : wv_G) (fr : Nat) (P : wv_R → wv_H → Prop) (v0 : Option Nat) (w : wv_W) : Prop :=
  wv_gI w v0 ciX4 12 (fun x1 => P (.inl (some (.int x1))) w.1)
set_option maxHeartbeats 4000000 in
theorem wk_X4_thrown_0 {G : wv_G} {p : Program} {e : Env} {R : Room} {s : State} {m : MethodId} {args : Array Value} {below : List Frame} {meth : Method} {c : Code} {fr : Nat} {P : wv_R → wv_H → Prop} (X : wv_ok G p R s m args meth c fr "WeaversgateModel" cX4_thrown 1 (Option.some Jvm.ClassFile.FieldType.int) "thrown" []) {v0 : Option Nat} {w : wv_W} (hv : vc_X4_thrown_0 G fr P v0 w) : wv_J G p e R s m args below meth c 1 P w 0 [(0, va_rf v0)] [] := by
  intro H locs cells slots ls S hl
  unfold vc_X4_thrown_0 at hv
  refine wq_aload_n X dX4_thrown_0 rfl (lv_at hl 0 rfl) ?_
  refine wq_gI X S hv ccX4 in_X4 (k := 12) (by decide) q1821 dX4_thrown_1 (fun x1 hv => ?_)
  exact wr_iret X S rfl hv dX4_thrown_4
theorem wk_X4_thrown {G : wv_G} (hG : wv_G0 G) {v0 : Option Nat} {h : wv_H} {fr kc ks : Nat} {P : wv_R → wv_H → Prop} (hv : vc_X4_thrown_0 G fr P v0 (h, kc, ks)) : wv_C G yX4_thrown [va_rf v0] h fr kc ks P := by
  refine wv_enter (lv := [(0, va_rf v0)]) hG (by decide +kernel) q1866 (by decide) (by simp [lg_sl, wv_rfc, wv_kI, wv_kJ, wv_kF, wv_kD]) (by simp [lv_args, wv_rfc, wv_kI, wv_kJ, wv_kF, wv_kD]) ?_
  intro p e R s m args below meth c X H locs cells slots ls S hl
  exact wk_X4_thrown_0 X hv H locs cells slots ls S (lv_sub hl [0] rfl)

def vc_X4_traceAdvice_0 (G : wv_G) (fr : Nat) (P : wv_R → wv_H → Prop) (v0 : Option Nat) (v1 : Int32) (w : wv_W) : Prop :=
  wv_cV G fr yX4_wrongIndex v0 [.int v1] w (wv_rI (fun x2 w2 => (x2 ≤ 0 → wv_gA w2 v0 ciX4 16 (fun x13 => wv_gA w2 x13 ciX5 0 (fun x16 => wv_cV G fr yJ2_get x16 [.int v1] w2 (wv_rA (fun x20 w20 => wv_cc G w20 x20 "WeaversgateModel$Act" (wv_cV G fr yX31_advice x20 [] w20 (wv_rI (fun x26 w26 => P (.inl (some (.int x26))) w26.1) (wv_pr P)))) (wv_pr P))))) ∧ (¬ x2 ≤ 0 → P (.inl (some (.int (0 : Int32)))) w2.1)) (wv_pr P))
set_option maxHeartbeats 4000000 in
theorem wk_X4_traceAdvice_0 {G : wv_G} {p : Program} {e : Env} {R : Room} {s : State} {m : MethodId} {args : Array Value} {below : List Frame} {meth : Method} {c : Code} {fr : Nat} {P : wv_R → wv_H → Prop} (X : wv_ok G p R s m args meth c fr "WeaversgateModel" cX4_traceAdvice 2 (Option.some Jvm.ClassFile.FieldType.int) "traceAdvice" []) {v0 : Option Nat} {v1 : Int32} {w : wv_W} (hv : vc_X4_traceAdvice_0 G fr P v0 v1 w) : wv_J G p e R s m args below meth c 2 P w 0 [(0, va_rf v0), (1, .int v1)] [] := by
  intro H locs cells slots ls S hl
  unfold vc_X4_traceAdvice_0 at hv
  refine wq_aload_n X dX4_traceAdvice_0 rfl (lv_at hl 0 rfl) ?_
  refine lv_iload_n X.hx X.hb dX4_traceAdvice_1 rfl (lv_at hl 1 rfl) ?_
  refine wq_cV_I X S hv q2500 q2502 qs55 q66 ⟨by decide +kernel, by decide +kernel⟩ (nA := 1) (As := [.int v1]) (by decide +kernel) rfl rfl (by simp [wv_rfc, wv_kI, wv_kJ, wv_kF, wv_kD]) hl.1 dX4_traceAdvice_2 (fun x2 w2 H locs cells slots S hv => ?_) (wq_kx X rfl)
  refine lv_if_le (tgt := 12) X.hx X.hb dX4_traceAdvice_5 (by decide) (fun c5 => ?_) (fun c5 => ?_)
  · have hv := hv.1 c5
    refine wq_aload_n X dX4_traceAdvice_12 rfl (lv_at hl 0 rfl) ?_
    refine wq_gA X S hv ccX4 in_X4 (k := 16) (by decide) q1827 dX4_traceAdvice_13 (fun x13 hv => ?_)
    refine wq_gA X S hv ccX5 in_X5 (k := 0) (by decide) q1776 dX4_traceAdvice_16 (fun x16 hv => ?_)
    refine lv_iload_n X.hx X.hb dX4_traceAdvice_19 rfl (lv_at hl 1 rfl) ?_
    refine wq_cV_A X S hv q2091 q274 q275 q63 ⟨by decide +kernel, by decide +kernel⟩ (nA := 1) (As := [.int v1]) (by decide +kernel) rfl rfl (by simp [wv_rfc, wv_kI, wv_kJ, wv_kF, wv_kD]) hl.1 dX4_traceAdvice_20 (fun x20 w20 H locs cells slots S hv => ?_) (wq_kx X rfl)
    refine wq_cc X S hv q2504 dX4_traceAdvice_23 (fun hv => ?_)
    refine wq_cV_I X S hv q2521 q2522 q2523 q117 ⟨by decide +kernel, by decide +kernel⟩ (nA := 0) (As := []) (by decide +kernel) rfl rfl (by simp [wv_rfc, wv_kI, wv_kJ, wv_kF, wv_kD]) hl.1 dX4_traceAdvice_26 (fun x26 w26 H locs cells slots S hv => ?_) (wq_kx X rfl)
    exact wr_iret X S rfl hv dX4_traceAdvice_29
  · have hv := hv.2 c5
    refine lv_iconst (v := (0 : Int32)) X.hx X.hb dX4_traceAdvice_8 (by decide) ?_
    refine lv_goto (tgt := 29) X.hx X.hb dX4_traceAdvice_9 (by decide) ?_
    exact wr_iret X S rfl hv dX4_traceAdvice_29
theorem wk_X4_traceAdvice {G : wv_G} (hG : wv_G0 G) {v0 : Option Nat} {v1 : Int32} {h : wv_H} {fr kc ks : Nat} {P : wv_R → wv_H → Prop} (hv : vc_X4_traceAdvice_0 G fr P v0 v1 (h, kc, ks)) : wv_C G yX4_traceAdvice [va_rf v0, .int v1] h fr kc ks P := by
  refine wv_enter (lv := [(0, va_rf v0), (1, .int v1)]) hG (by decide +kernel) q2520 (by decide) (by simp [lg_sl, wv_rfc, wv_kI, wv_kJ, wv_kF, wv_kD]) (by simp [lv_args, wv_rfc, wv_kI, wv_kJ, wv_kF, wv_kD]) ?_
  intro p e R s m args below meth c X H locs cells slots ls S hl
  exact wk_X4_traceAdvice_0 X hv H locs cells slots ls S (lv_sub hl [0, 1] rfl)

def vc_X4_traceKind_0 (G : wv_G) (fr : Nat) (P : wv_R → wv_H → Prop) (v0 : Option Nat) (v1 : Int32) (w : wv_W) : Prop :=
  wv_cV G fr yX4_wrongIndex v0 [.int v1] w (wv_rI (fun x2 w2 => (x2 ≤ 0 → wv_gA w2 v0 ciX4 16 (fun x14 => wv_gA w2 x14 ciX5 0 (fun x17 => wv_cV G fr yJ2_get x17 [.int v1] w2 (wv_rA (fun x21 w21 => wv_cc G w21 x21 "WeaversgateModel$Act" (wv_cV G fr yX31_kind x21 [] w21 (wv_rI (fun x27 w27 => narrow .char (.int x27) = .int x27 ∧ P (.inl (some (.int x27))) w27.1) (wv_pr P)))) (wv_pr P))))) ∧ (¬ x2 ≤ 0 → narrow .char (.int (32 : Int32)) = .int (32 : Int32) ∧ P (.inl (some (.int (32 : Int32)))) w2.1)) (wv_pr P))
set_option maxHeartbeats 4000000 in
theorem wk_X4_traceKind_0 {G : wv_G} {p : Program} {e : Env} {R : Room} {s : State} {m : MethodId} {args : Array Value} {below : List Frame} {meth : Method} {c : Code} {fr : Nat} {P : wv_R → wv_H → Prop} (X : wv_ok G p R s m args meth c fr "WeaversgateModel" cX4_traceKind 2 (Option.some Jvm.ClassFile.FieldType.char) "traceKind" []) {v0 : Option Nat} {v1 : Int32} {w : wv_W} (hv : vc_X4_traceKind_0 G fr P v0 v1 w) : wv_J G p e R s m args below meth c 2 P w 0 [(0, va_rf v0), (1, .int v1)] [] := by
  intro H locs cells slots ls S hl
  unfold vc_X4_traceKind_0 at hv
  refine wq_aload_n X dX4_traceKind_0 rfl (lv_at hl 0 rfl) ?_
  refine lv_iload_n X.hx X.hb dX4_traceKind_1 rfl (lv_at hl 1 rfl) ?_
  refine wq_cV_I X S hv q2500 q2502 qs55 q66 ⟨by decide +kernel, by decide +kernel⟩ (nA := 1) (As := [.int v1]) (by decide +kernel) rfl rfl (by simp [wv_rfc, wv_kI, wv_kJ, wv_kF, wv_kD]) hl.1 dX4_traceKind_2 (fun x2 w2 H locs cells slots S hv => ?_) (wq_kx X rfl)
  refine lv_if_le (tgt := 13) X.hx X.hb dX4_traceKind_5 (by decide) (fun c5 => ?_) (fun c5 => ?_)
  · have hv := hv.1 c5
    refine wq_aload_n X dX4_traceKind_13 rfl (lv_at hl 0 rfl) ?_
    refine wq_gA X S hv ccX4 in_X4 (k := 16) (by decide) q1827 dX4_traceKind_14 (fun x14 hv => ?_)
    refine wq_gA X S hv ccX5 in_X5 (k := 0) (by decide) q1776 dX4_traceKind_17 (fun x17 hv => ?_)
    refine lv_iload_n X.hx X.hb dX4_traceKind_20 rfl (lv_at hl 1 rfl) ?_
    refine wq_cV_A X S hv q2091 q274 q275 q63 ⟨by decide +kernel, by decide +kernel⟩ (nA := 1) (As := [.int v1]) (by decide +kernel) rfl rfl (by simp [wv_rfc, wv_kI, wv_kJ, wv_kF, wv_kD]) hl.1 dX4_traceKind_21 (fun x21 w21 H locs cells slots S hv => ?_) (wq_kx X rfl)
    refine wq_cc X S hv q2504 dX4_traceKind_24 (fun hv => ?_)
    refine wq_cV_I X S hv q2505 q2506 q2507 q117 ⟨by decide +kernel, by decide +kernel⟩ (nA := 0) (As := []) (by decide +kernel) rfl rfl (by simp [wv_rfc, wv_kI, wv_kJ, wv_kF, wv_kD]) hl.1 dX4_traceKind_27 (fun x27 w27 H locs cells slots S hv => ?_) (wq_kx X rfl)
    exact wr_iret X S hv.1 hv.2 dX4_traceKind_30
  · have hv := hv.2 c5
    refine lv_bipush (v := (32 : Int32)) X.hx X.hb dX4_traceKind_8 (by decide) ?_
    refine lv_goto (tgt := 30) X.hx X.hb dX4_traceKind_10 (by decide) ?_
    exact wr_iret X S hv.1 hv.2 dX4_traceKind_30
theorem wk_X4_traceKind {G : wv_G} (hG : wv_G0 G) {v0 : Option Nat} {v1 : Int32} {h : wv_H} {fr kc ks : Nat} {P : wv_R → wv_H → Prop} (hv : vc_X4_traceKind_0 G fr P v0 v1 (h, kc, ks)) : wv_C G yX4_traceKind [va_rf v0, .int v1] h fr kc ks P := by
  refine wv_enter (lv := [(0, va_rf v0), (1, .int v1)]) hG (by decide +kernel) q2499 (by decide) (by simp [lg_sl, wv_rfc, wv_kI, wv_kJ, wv_kF, wv_kD]) (by simp [lv_args, wv_rfc, wv_kI, wv_kJ, wv_kF, wv_kD]) ?_
  intro p e R s m args below meth c X H locs cells slots ls S hl
  exact wk_X4_traceKind_0 X hv H locs cells slots ls S (lv_sub hl [0, 1] rfl)

def vc_X4_traceLength_0 (G : wv_G) (fr : Nat) (P : wv_R → wv_H → Prop) (v0 : Option Nat) (w : wv_W) : Prop :=
  wv_gA w v0 ciX4 16 (fun x2 => wv_gA w x2 ciX5 0 (fun x5 => wv_cV G fr yJ2_size x5 [] w (wv_rI (fun x8 w8 => wv_cV G fr yX4_plain v0 [.int x8] w8 (wv_rI (fun x11 w11 => P (.inl (some (.int x11))) w11.1) (wv_pr P))) (wv_pr P))))
set_option maxHeartbeats 4000000 in
theorem wk_X4_traceLength_0 {G : wv_G} {p : Program} {e : Env} {R : Room} {s : State} {m : MethodId} {args : Array Value} {below : List Frame} {meth : Method} {c : Code} {fr : Nat} {P : wv_R → wv_H → Prop} (X : wv_ok G p R s m args meth c fr "WeaversgateModel" cX4_traceLength 1 (Option.some Jvm.ClassFile.FieldType.int) "traceLength" []) {v0 : Option Nat} {w : wv_W} (hv : vc_X4_traceLength_0 G fr P v0 w) : wv_J G p e R s m args below meth c 1 P w 0 [(0, va_rf v0)] [] := by
  intro H locs cells slots ls S hl
  unfold vc_X4_traceLength_0 at hv
  refine wq_aload_n X dX4_traceLength_0 rfl (lv_at hl 0 rfl) ?_
  refine wq_aload_n X dX4_traceLength_1 rfl (lv_at hl 0 rfl) ?_
  refine wq_gA X S hv ccX4 in_X4 (k := 16) (by decide) q1827 dX4_traceLength_2 (fun x2 hv => ?_)
  refine wq_gA X S hv ccX5 in_X5 (k := 0) (by decide) q1776 dX4_traceLength_5 (fun x5 hv => ?_)
  refine wq_cV_I X S hv q2086 q270 q271 q63 ⟨by decide +kernel, by decide +kernel⟩ (nA := 0) (As := []) (by decide +kernel) rfl rfl (by simp [wv_rfc, wv_kI, wv_kJ, wv_kF, wv_kD]) hl.1 dX4_traceLength_8 (fun x8 w8 H locs cells slots S hv => ?_) (wq_kx X rfl)
  refine wq_cV_I X S hv q2222 q2224 qs52 q66 ⟨by decide +kernel, by decide +kernel⟩ (nA := 1) (As := [.int x8]) (by decide +kernel) rfl rfl (by simp [wv_rfc, wv_kI, wv_kJ, wv_kF, wv_kD]) hl.1 dX4_traceLength_11 (fun x11 w11 H locs cells slots S hv => ?_) (wq_kx X rfl)
  exact wr_iret X S rfl hv dX4_traceLength_14
theorem wk_X4_traceLength {G : wv_G} (hG : wv_G0 G) {v0 : Option Nat} {h : wv_H} {fr kc ks : Nat} {P : wv_R → wv_H → Prop} (hv : vc_X4_traceLength_0 G fr P v0 (h, kc, ks)) : wv_C G yX4_traceLength [va_rf v0] h fr kc ks P := by
  refine wv_enter (lv := [(0, va_rf v0)]) hG (by decide +kernel) q2495 (by decide) (by simp [lg_sl, wv_rfc, wv_kI, wv_kJ, wv_kF, wv_kD]) (by simp [lv_args, wv_rfc, wv_kI, wv_kJ, wv_kF, wv_kD]) ?_
  intro p e R s m args below meth c X H locs cells slots ls S hl
  exact wk_X4_traceLength_0 X hv H locs cells slots ls S (lv_sub hl [0] rfl)

def vc_X4_traceSum_4 (G : wv_G) (fr : Nat) (P : wv_R → wv_H → Prop) (K4 : ((Option Nat) × Int64 × Int32) → wv_W → Prop) (v0 : Option Nat) (v1 : Int64) (v3 : Int32) (w : wv_W) : Prop :=
  wv_gA w v0 ciX4 16 (fun x6 => wv_gA w x6 ciX5 0 (fun x9 => wv_cV G fr yJ2_size x9 [] w (wv_rI (fun x12 w12 => (x12 ≤ v3 → wv_pt w12 v0 ciX4 12 (.int (0 : Int32)) (fun w75 => P (.inl (some (.long v1))) w75.1)) ∧ (¬ x12 ≤ v3 → wv_gA w12 v0 ciX4 16 (fun x24 => wv_gA w12 x24 ciX5 0 (fun x27 => wv_cV G fr yJ2_get x27 [.int v3] w12 (wv_rA (fun x31 w31 => wv_cc G w31 x31 "WeaversgateModel$Act" (wv_cV G fr yX31_number x31 [] w31 (wv_rI (fun x37 w37 => wv_gA w37 v0 ciX4 16 (fun x45 => wv_gA w37 x45 ciX5 0 (fun x48 => wv_cV G fr yJ2_get x48 [.int v3] w37 (wv_rA (fun x52 w52 => wv_cc G w52 x52 "WeaversgateModel$Act" (wv_cV G fr yX31_advice x52 [] w52 (wv_rI (fun x58 w58 => K4 (v0, (v1 + (((Int32.toInt64 v3) + (1 : Int64)) * ((Int32.toInt64 x37) + ((131 : Int64) * (Int32.toInt64 x58))))), (v3 + (1 : Int32))) w58) (wv_pr P)))) (wv_pr P))))) (wv_pr P)))) (wv_pr P)))))) (wv_pr P))))
def vc_X4_traceSum_0 (G : wv_G) (fr : Nat) (P : wv_R → wv_H → Prop) (v0 : Option Nat) (w : wv_W) : Prop :=
  wv_L (fun K4 a w => vc_X4_traceSum_4 G fr P K4 a.1 a.2.1 a.2.2 w) (v0, (0 : Int64), (0 : Int32)) w
set_option maxHeartbeats 4000000 in
theorem wk_X4_traceSum_4 {G : wv_G} {p : Program} {e : Env} {R : Room} {s : State} {m : MethodId} {args : Array Value} {below : List Frame} {meth : Method} {c : Code} {fr : Nat} {P : wv_R → wv_H → Prop} (X : wv_ok G p R s m args meth c fr "WeaversgateModel" cX4_traceSum 4 (Option.some Jvm.ClassFile.FieldType.long) "traceSum" []) {K4 : ((Option Nat) × Int64 × Int32) → wv_W → Prop} (hK4 : ∀ a w, K4 a w → wv_J G p e R s m args below meth c 4 P w 4 [(0, va_rf a.1), (1, .long a.2.1), (3, .int a.2.2)] []) {v0 : Option Nat} {v1 : Int64} {v3 : Int32} {w : wv_W} (hv : vc_X4_traceSum_4 G fr P K4 v0 v1 v3 w) : wv_J G p e R s m args below meth c 4 P w 4 [(0, va_rf v0), (1, .long v1), (3, .int v3)] [] := by
  intro H locs cells slots ls S hl
  unfold vc_X4_traceSum_4 at hv
  refine lv_iload_n X.hx X.hb dX4_traceSum_4 rfl (lv_at hl 2 rfl) ?_
  refine wq_aload_n X dX4_traceSum_5 rfl (lv_at hl 0 rfl) ?_
  refine wq_gA X S hv ccX4 in_X4 (k := 16) (by decide) q1827 dX4_traceSum_6 (fun x6 hv => ?_)
  refine wq_gA X S hv ccX5 in_X5 (k := 0) (by decide) q1776 dX4_traceSum_9 (fun x9 hv => ?_)
  refine wq_cV_I X S hv q2086 q270 q271 q63 ⟨by decide +kernel, by decide +kernel⟩ (nA := 0) (As := []) (by decide +kernel) rfl rfl (by simp [wv_rfc, wv_kI, wv_kJ, wv_kF, wv_kD]) hl.1 dX4_traceSum_12 (fun x12 w12 H locs cells slots S hv => ?_) (wq_kx X rfl)
  refine lv_icmp_ge (tgt := 73) X.hx X.hb dX4_traceSum_15 (by decide) (fun c15 => ?_) (fun c15 => ?_)
  · have hv := hv.1 c15
    refine wq_aload_n X dX4_traceSum_73 rfl (lv_at hl 0 rfl) ?_
    refine lv_iconst (v := (0 : Int32)) X.hx X.hb dX4_traceSum_74 (by decide) ?_
    refine wq_pt X S hv tyX4 tyX4_ok nmX4 ccX4 in_X4 (k := 12) (by decide) q1821 rfl rfl rfl rfl dX4_traceSum_75 (fun w75 H locs S hv => ?_)
    refine lv_lload_n X.hx X.hb dX4_traceSum_78 rfl (lv_at hl 1 rfl) ?_
    exact wr_lret X S hv dX4_traceSum_79
  · have hv := hv.2 c15
    refine lv_lload_n X.hx X.hb dX4_traceSum_18 rfl (lv_at hl 1 rfl) ?_
    refine lv_iload_n X.hx X.hb dX4_traceSum_19 rfl (lv_at hl 2 rfl) ?_
    refine lv_i2l X.hx X.hb dX4_traceSum_20 rfl ?_
    refine lv_lconst (v := 1) X.hx X.hb dX4_traceSum_21 (by decide) ?_
    refine lv_ladd X.hx X.hb dX4_traceSum_22 ?_
    refine wq_aload_n X dX4_traceSum_23 rfl (lv_at hl 0 rfl) ?_
    refine wq_gA X S hv ccX4 in_X4 (k := 16) (by decide) q1827 dX4_traceSum_24 (fun x24 hv => ?_)
    refine wq_gA X S hv ccX5 in_X5 (k := 0) (by decide) q1776 dX4_traceSum_27 (fun x27 hv => ?_)
    refine lv_iload_n X.hx X.hb dX4_traceSum_30 rfl (lv_at hl 2 rfl) ?_
    refine wq_cV_A X S hv q2091 q274 q275 q63 ⟨by decide +kernel, by decide +kernel⟩ (nA := 1) (As := [.int v3]) (by decide +kernel) rfl rfl (by simp [wv_rfc, wv_kI, wv_kJ, wv_kF, wv_kD]) hl.1 dX4_traceSum_31 (fun x31 w31 H locs cells slots S hv => ?_) (wq_kx X rfl)
    refine wq_cc X S hv q2504 dX4_traceSum_34 (fun hv => ?_)
    refine wq_cV_I X S hv q2513 q2514 q2515 q117 ⟨by decide +kernel, by decide +kernel⟩ (nA := 0) (As := []) (by decide +kernel) rfl rfl (by simp [wv_rfc, wv_kI, wv_kJ, wv_kF, wv_kD]) hl.1 dX4_traceSum_37 (fun x37 w37 H locs cells slots S hv => ?_) (wq_kx X rfl)
    refine lv_i2l X.hx X.hb dX4_traceSum_40 rfl ?_
    refine lv_ldc2 X.hx X.hb X.hown (X.hts _ q2529) dX4_traceSum_41 ?_
    refine wq_aload_n X dX4_traceSum_44 rfl (lv_at hl 0 rfl) ?_
    refine wq_gA X S hv ccX4 in_X4 (k := 16) (by decide) q1827 dX4_traceSum_45 (fun x45 hv => ?_)
    refine wq_gA X S hv ccX5 in_X5 (k := 0) (by decide) q1776 dX4_traceSum_48 (fun x48 hv => ?_)
    refine lv_iload_n X.hx X.hb dX4_traceSum_51 rfl (lv_at hl 2 rfl) ?_
    refine wq_cV_A X S hv q2091 q274 q275 q63 ⟨by decide +kernel, by decide +kernel⟩ (nA := 1) (As := [.int v3]) (by decide +kernel) rfl rfl (by simp [wv_rfc, wv_kI, wv_kJ, wv_kF, wv_kD]) hl.1 dX4_traceSum_52 (fun x52 w52 H locs cells slots S hv => ?_) (wq_kx X rfl)
    refine wq_cc X S hv q2504 dX4_traceSum_55 (fun hv => ?_)
    refine wq_cV_I X S hv q2521 q2522 q2523 q117 ⟨by decide +kernel, by decide +kernel⟩ (nA := 0) (As := []) (by decide +kernel) rfl rfl (by simp [wv_rfc, wv_kI, wv_kJ, wv_kF, wv_kD]) hl.1 dX4_traceSum_58 (fun x58 w58 H locs cells slots S hv => ?_) (wq_kx X rfl)
    refine lv_i2l X.hx X.hb dX4_traceSum_61 rfl ?_
    refine lv_lmul X.hx X.hb dX4_traceSum_62 ?_
    refine lv_ladd X.hx X.hb dX4_traceSum_63 ?_
    refine lv_lmul X.hx X.hb dX4_traceSum_64 ?_
    refine lv_ladd X.hx X.hb dX4_traceSum_65 ?_
    refine lv_lstore_n X.hx X.hb (i := 1) (lv' := [(1, .long (v1 + (((Int32.toInt64 v3) + (1 : Int64)) * ((Int32.toInt64 x37) + ((131 : Int64) * (Int32.toInt64 x58)))))), (0, va_rf v0), (3, .int v3)]) dX4_traceSum_66 rfl hl (by decide) (by simp [wv_rfc, wv_kI, wv_kJ, wv_kF, wv_kD]) (fun ls hl => ?_)
    refine lv_iinc (v := (v3 + (1 : Int32))) (lv' := [(3, .int (v3 + (1 : Int32))), (1, .long (v1 + (((Int32.toInt64 v3) + (1 : Int64)) * ((Int32.toInt64 x37) + ((131 : Int64) * (Int32.toInt64 x58)))))), (0, va_rf v0)]) X.hx X.hb dX4_traceSum_67 hl (k := 2) rfl (by rfl) (by decide) rfl (fun ls hl => ?_)
    refine lv_goto (tgt := 4) X.hx X.hb dX4_traceSum_70 (by decide) ?_
    exact hK4 _ _ hv H locs cells slots ls S (lv_sub hl [2, 1, 0] rfl)
set_option maxHeartbeats 4000000 in
theorem wk_X4_traceSum_0 {G : wv_G} {p : Program} {e : Env} {R : Room} {s : State} {m : MethodId} {args : Array Value} {below : List Frame} {meth : Method} {c : Code} {fr : Nat} {P : wv_R → wv_H → Prop} (X : wv_ok G p R s m args meth c fr "WeaversgateModel" cX4_traceSum 4 (Option.some Jvm.ClassFile.FieldType.long) "traceSum" []) {v0 : Option Nat} {w : wv_W} (hv : vc_X4_traceSum_0 G fr P v0 w) : wv_J G p e R s m args below meth c 4 P w 0 [(0, va_rf v0)] [] := by
  intro H locs cells slots ls S hl
  unfold vc_X4_traceSum_0 at hv
  refine lv_lconst (v := 0) X.hx X.hb dX4_traceSum_0 (by decide) ?_
  refine lv_lstore_n X.hx X.hb (i := 1) (lv' := [(1, .long (0 : Int64)), (0, va_rf v0)]) dX4_traceSum_1 rfl hl (by decide) (by simp [wv_rfc, wv_kI, wv_kJ, wv_kF, wv_kD]) (fun ls hl => ?_)
  refine lv_iconst (v := (0 : Int32)) X.hx X.hb dX4_traceSum_2 (by decide) ?_
  refine lv_istore_n X.hx X.hb (i := 3) (lv' := [(3, .int (0 : Int32)), (1, .long (0 : Int64)), (0, va_rf v0)]) dX4_traceSum_3 rfl hl (by decide) rfl (fun ls hl => ?_)
  exact wv_loop (A := (Option Nat) × Int64 × Int32) (fun a w => wv_J G p e R s m args below meth c 4 P w 4 [(0, va_rf a.1), (1, .long a.2.1), (3, .int a.2.2)] []) (fun K4 hK4 a w hv => wk_X4_traceSum_4 X hK4 hv) hv H locs cells slots ls S (lv_sub hl [2, 1, 0] rfl)
theorem wk_X4_traceSum {G : wv_G} (hG : wv_G0 G) {v0 : Option Nat} {h : wv_H} {fr kc ks : Nat} {P : wv_R → wv_H → Prop} (hv : vc_X4_traceSum_0 G fr P v0 (h, kc, ks)) : wv_C G yX4_traceSum [va_rf v0] h fr kc ks P := by
  refine wv_enter (lv := [(0, va_rf v0)]) hG (by decide +kernel) q2528 (by decide) (by simp [lg_sl, wv_rfc, wv_kI, wv_kJ, wv_kF, wv_kD]) (by simp [lv_args, wv_rfc, wv_kI, wv_kJ, wv_kF, wv_kD]) ?_
  intro p e R s m args below meth c X H locs cells slots ls S hl
  exact wk_X4_traceSum_0 X hv H locs cells slots ls S (lv_sub hl [0] rfl)

def vc_X4_traceValue_0 (G : wv_G) (fr : Nat) (P : wv_R → wv_H → Prop) (v0 : Option Nat) (v1 : Int32) (w : wv_W) : Prop :=
  wv_cV G fr yX4_wrongIndex v0 [.int v1] w (wv_rI (fun x2 w2 => (x2 ≤ 0 → wv_gA w2 v0 ciX4 16 (fun x13 => wv_gA w2 x13 ciX5 0 (fun x16 => wv_cV G fr yJ2_get x16 [.int v1] w2 (wv_rA (fun x20 w20 => wv_cc G w20 x20 "WeaversgateModel$Act" (wv_cV G fr yX31_number x20 [] w20 (wv_rI (fun x26 w26 => P (.inl (some (.int x26))) w26.1) (wv_pr P)))) (wv_pr P))))) ∧ (¬ x2 ≤ 0 → P (.inl (some (.int (0 : Int32)))) w2.1)) (wv_pr P))
set_option maxHeartbeats 4000000 in
theorem wk_X4_traceValue_0 {G : wv_G} {p : Program} {e : Env} {R : Room} {s : State} {m : MethodId} {args : Array Value} {below : List Frame} {meth : Method} {c : Code} {fr : Nat} {P : wv_R → wv_H → Prop} (X : wv_ok G p R s m args meth c fr "WeaversgateModel" cX4_traceValue 2 (Option.some Jvm.ClassFile.FieldType.int) "traceValue" []) {v0 : Option Nat} {v1 : Int32} {w : wv_W} (hv : vc_X4_traceValue_0 G fr P v0 v1 w) : wv_J G p e R s m args below meth c 2 P w 0 [(0, va_rf v0), (1, .int v1)] [] := by
  intro H locs cells slots ls S hl
  unfold vc_X4_traceValue_0 at hv
  refine wq_aload_n X dX4_traceValue_0 rfl (lv_at hl 0 rfl) ?_
  refine lv_iload_n X.hx X.hb dX4_traceValue_1 rfl (lv_at hl 1 rfl) ?_
  refine wq_cV_I X S hv q2500 q2502 qs55 q66 ⟨by decide +kernel, by decide +kernel⟩ (nA := 1) (As := [.int v1]) (by decide +kernel) rfl rfl (by simp [wv_rfc, wv_kI, wv_kJ, wv_kF, wv_kD]) hl.1 dX4_traceValue_2 (fun x2 w2 H locs cells slots S hv => ?_) (wq_kx X rfl)
  refine lv_if_le (tgt := 12) X.hx X.hb dX4_traceValue_5 (by decide) (fun c5 => ?_) (fun c5 => ?_)
  · have hv := hv.1 c5
    refine wq_aload_n X dX4_traceValue_12 rfl (lv_at hl 0 rfl) ?_
    refine wq_gA X S hv ccX4 in_X4 (k := 16) (by decide) q1827 dX4_traceValue_13 (fun x13 hv => ?_)
    refine wq_gA X S hv ccX5 in_X5 (k := 0) (by decide) q1776 dX4_traceValue_16 (fun x16 hv => ?_)
    refine lv_iload_n X.hx X.hb dX4_traceValue_19 rfl (lv_at hl 1 rfl) ?_
    refine wq_cV_A X S hv q2091 q274 q275 q63 ⟨by decide +kernel, by decide +kernel⟩ (nA := 1) (As := [.int v1]) (by decide +kernel) rfl rfl (by simp [wv_rfc, wv_kI, wv_kJ, wv_kF, wv_kD]) hl.1 dX4_traceValue_20 (fun x20 w20 H locs cells slots S hv => ?_) (wq_kx X rfl)
    refine wq_cc X S hv q2504 dX4_traceValue_23 (fun hv => ?_)
    refine wq_cV_I X S hv q2513 q2514 q2515 q117 ⟨by decide +kernel, by decide +kernel⟩ (nA := 0) (As := []) (by decide +kernel) rfl rfl (by simp [wv_rfc, wv_kI, wv_kJ, wv_kF, wv_kD]) hl.1 dX4_traceValue_26 (fun x26 w26 H locs cells slots S hv => ?_) (wq_kx X rfl)
    exact wr_iret X S rfl hv dX4_traceValue_29
  · have hv := hv.2 c5
    refine lv_iconst (v := (0 : Int32)) X.hx X.hb dX4_traceValue_8 (by decide) ?_
    refine lv_goto (tgt := 29) X.hx X.hb dX4_traceValue_9 (by decide) ?_
    exact wr_iret X S rfl hv dX4_traceValue_29
theorem wk_X4_traceValue {G : wv_G} (hG : wv_G0 G) {v0 : Option Nat} {v1 : Int32} {h : wv_H} {fr kc ks : Nat} {P : wv_R → wv_H → Prop} (hv : vc_X4_traceValue_0 G fr P v0 v1 (h, kc, ks)) : wv_C G yX4_traceValue [va_rf v0, .int v1] h fr kc ks P := by
  refine wv_enter (lv := [(0, va_rf v0), (1, .int v1)]) hG (by decide +kernel) q2512 (by decide) (by simp [lg_sl, wv_rfc, wv_kI, wv_kJ, wv_kF, wv_kD]) (by simp [lv_args, wv_rfc, wv_kI, wv_kJ, wv_kF, wv_kD]) ?_
  intro p e R s m args below meth c X H locs cells slots ls S hl
  exact wk_X4_traceValue_0 X hv H locs cells slots ls S (lv_sub hl [0, 1] rfl)

def vc_X4_turn_0 (G : wv_G) (fr : Nat) (P : wv_R → wv_H → Prop) (v0 : Option Nat) (v1 : Int32) (v2 : Int32) (w : wv_W) : Prop :=
  wv_cV G fr yX4_isAdvice v0 [.int v1] w (wv_rI (fun x3 w3 => wv_cV G fr yX4_checked v0 [.int x3] w3 (wv_rI (fun x6 w6 => (x6 ≤ 0 → wv_gA w6 v0 ciX4 10 (fun x15 => wv_li G 2 w6 x15 v1 (fun x19 => wv_gA w6 v0 ciX4 10 (fun x22 => wv_si G 2 w6 x22 v1 (vp_nar .boolean v2) (fun w27 => narrow .boolean (.int x19) = .int x19 ∧ P (.inl (some (.int x19))) w27.1))))) ∧ (¬ x6 ≤ 0 → narrow .boolean (.int (0 : Int32)) = .int (0 : Int32) ∧ P (.inl (some (.int (0 : Int32)))) w6.1)) (wv_pr P))) (wv_pr P))
set_option maxHeartbeats 4000000 in
theorem wk_X4_turn_0 {G : wv_G} {p : Program} {e : Env} {R : Room} {s : State} {m : MethodId} {args : Array Value} {below : List Frame} {meth : Method} {c : Code} {fr : Nat} {P : wv_R → wv_H → Prop} (X : wv_ok G p R s m args meth c fr "WeaversgateModel" cX4_turn 4 (Option.some Jvm.ClassFile.FieldType.boolean) "turn" []) {v0 : Option Nat} {v1 : Int32} {v2 : Int32} {w : wv_W} (hv : vc_X4_turn_0 G fr P v0 v1 v2 w) : wv_J G p e R s m args below meth c 4 P w 0 [(0, va_rf v0), (1, .int v1), (2, .int v2)] [] := by
  intro H locs cells slots ls S hl
  unfold vc_X4_turn_0 at hv
  refine wq_aload_n X dX4_turn_0 rfl (lv_at hl 0 rfl) ?_
  refine wq_aload_n X dX4_turn_1 rfl (lv_at hl 0 rfl) ?_
  refine lv_iload_n X.hx X.hb dX4_turn_2 rfl (lv_at hl 1 rfl) ?_
  refine wq_cV_I X S hv q1971 q1973 qs42 q66 ⟨by decide +kernel, by decide +kernel⟩ (nA := 1) (As := [.int v1]) (by decide +kernel) rfl rfl (by simp [wv_rfc, wv_kI, wv_kJ, wv_kF, wv_kD]) hl.1 dX4_turn_3 (fun x3 w3 H locs cells slots S hv => ?_) (wq_kx X rfl)
  refine wq_cV_I X S hv q1975 q1977 qs43 q66 ⟨by decide +kernel, by decide +kernel⟩ (nA := 1) (As := [.int x3]) (by decide +kernel) rfl rfl (by simp [wv_rfc, wv_kI, wv_kJ, wv_kF, wv_kD]) hl.1 dX4_turn_6 (fun x6 w6 H locs cells slots S hv => ?_) (wq_kx X rfl)
  refine lv_if_le (tgt := 14) X.hx X.hb dX4_turn_9 (by decide) (fun c9 => ?_) (fun c9 => ?_)
  · have hv := hv.1 c9
    refine wq_aload_n X dX4_turn_14 rfl (lv_at hl 0 rfl) ?_
    refine wq_gA X S hv ccX4 in_X4 (k := 10) (by decide) q1818 dX4_turn_15 (fun x15 hv => ?_)
    refine lv_iload_n X.hx X.hb dX4_turn_18 rfl (lv_at hl 1 rfl) ?_
    refine wq_li2 X S hv dX4_turn_19 (fun x19 hv => ?_)
    refine lv_istore_n X.hx X.hb (i := 3) (lv' := [(3, .int x19), (0, va_rf v0), (1, .int v1), (2, .int v2)]) dX4_turn_20 rfl hl (by decide) (by simp [wv_rfc, wv_kI, wv_kJ, wv_kF, wv_kD]) (fun ls hl => ?_)
    refine wq_aload_n X dX4_turn_21 rfl (lv_at hl 1 rfl) ?_
    refine wq_gA X S hv ccX4 in_X4 (k := 10) (by decide) q1818 dX4_turn_22 (fun x22 hv => ?_)
    refine lv_iload_n X.hx X.hb dX4_turn_25 rfl (lv_at hl 2 rfl) ?_
    refine lv_iload_n X.hx X.hb dX4_turn_26 rfl (lv_at hl 3 rfl) ?_
    refine wq_si2 X S hv dX4_turn_27 (fun w27 H locs S hv => ?_)
    refine lv_iload_n X.hx X.hb dX4_turn_28 rfl (lv_at hl 0 rfl) ?_
    exact wr_iret X S hv.1 hv.2 dX4_turn_29
  · have hv := hv.2 c9
    refine lv_iconst (v := (0 : Int32)) X.hx X.hb dX4_turn_12 (by decide) ?_
    exact wr_iret X S hv.1 hv.2 dX4_turn_13
theorem wk_X4_turn {G : wv_G} (hG : wv_G0 G) {v0 : Option Nat} {v1 : Int32} {v2 : Int32} {h : wv_H} {fr kc ks : Nat} {P : wv_R → wv_H → Prop} (hv : vc_X4_turn_0 G fr P v0 v1 v2 (h, kc, ks)) : wv_C G yX4_turn [va_rf v0, .int v1, .int v2] h fr kc ks P := by
  refine wv_enter (lv := [(0, va_rf v0), (1, .int v1), (2, .int v2)]) hG (by decide +kernel) q1970 (by decide) (by simp [lg_sl, wv_rfc, wv_kI, wv_kJ, wv_kF, wv_kD]) (by simp [lv_args, wv_rfc, wv_kI, wv_kJ, wv_kF, wv_kD]) ?_
  intro p e R s m args below meth c X H locs cells slots ls S hl
  exact wk_X4_turn_0 X hv H locs cells slots ls S (lv_sub hl [0, 1, 2] rfl)

def vc_X4_turned_0 (G : wv_G) (fr : Nat) (P : wv_R → wv_H → Prop) (v0 : Int32) (w : wv_W) : Prop :=
  (¬ v0 = (121 : Int32) → (¬ v0 = (110 : Int32) → narrow .char (.int (109 : Int32)) = .int (109 : Int32) ∧ P (.inl (some (.int (109 : Int32)))) w.1) ∧ (v0 = (110 : Int32) → narrow .char (.int (121 : Int32)) = .int (121 : Int32) ∧ P (.inl (some (.int (121 : Int32)))) w.1)) ∧ (v0 = (121 : Int32) → narrow .char (.int (110 : Int32)) = .int (110 : Int32) ∧ P (.inl (some (.int (110 : Int32)))) w.1)
set_option maxHeartbeats 4000000 in
theorem wk_X4_turned_0 {G : wv_G} {p : Program} {e : Env} {R : Room} {s : State} {m : MethodId} {args : Array Value} {below : List Frame} {meth : Method} {c : Code} {fr : Nat} {P : wv_R → wv_H → Prop} (X : wv_ok G p R s m args meth c fr "WeaversgateModel" cX4_turned 1 (Option.some Jvm.ClassFile.FieldType.char) "turned" []) {v0 : Int32} {w : wv_W} (hv : vc_X4_turned_0 G fr P v0 w) : wv_J G p e R s m args below meth c 1 P w 0 [(0, .int v0)] [] := by
  intro H locs cells slots ls S hl
  unfold vc_X4_turned_0 at hv
  refine lv_iload_n X.hx X.hb dX4_turned_0 rfl (lv_at hl 0 rfl) ?_
  refine lv_bipush (v := (121 : Int32)) X.hx X.hb dX4_turned_1 (by decide) ?_
  refine lv_icmp_ne (tgt := 11) X.hx X.hb dX4_turned_3 (by decide) (fun c3 => ?_) (fun c3 => ?_)
  · have hv := hv.1 c3
    refine lv_iload_n X.hx X.hb dX4_turned_11 rfl (lv_at hl 0 rfl) ?_
    refine lv_bipush (v := (110 : Int32)) X.hx X.hb dX4_turned_12 (by decide) ?_
    refine lv_icmp_ne (tgt := 22) X.hx X.hb dX4_turned_14 (by decide) (fun c14 => ?_) (fun c14 => ?_)
    · have hv := hv.1 c14
      refine lv_bipush (v := (109 : Int32)) X.hx X.hb dX4_turned_22 (by decide) ?_
      exact wr_iret X S hv.1 hv.2 dX4_turned_24
    · have hv := hv.2 c14
      refine lv_bipush (v := (121 : Int32)) X.hx X.hb dX4_turned_17 (by decide) ?_
      refine lv_goto (tgt := 24) X.hx X.hb dX4_turned_19 (by decide) ?_
      exact wr_iret X S hv.1 hv.2 dX4_turned_24
  · have hv := hv.2 c3
    refine lv_bipush (v := (110 : Int32)) X.hx X.hb dX4_turned_6 (by decide) ?_
    refine lv_goto (tgt := 24) X.hx X.hb dX4_turned_8 (by decide) ?_
    exact wr_iret X S hv.1 hv.2 dX4_turned_24
theorem wk_X4_turned {G : wv_G} (hG : wv_G0 G) {v0 : Int32} {h : wv_H} {fr kc ks : Nat} {P : wv_R → wv_H → Prop} (hv : vc_X4_turned_0 G fr P v0 (h, kc, ks)) : wv_C G yX4_turned [.int v0] h fr kc ks P := by
  refine wv_enter (lv := [(0, .int v0)]) hG (by decide +kernel) q2162 (by decide) (by simp [lg_sl, wv_rfc, wv_kI, wv_kJ, wv_kF, wv_kD]) (by simp [lv_args, wv_rfc, wv_kI, wv_kJ, wv_kF, wv_kD]) ?_
  intro p e R s m args below meth c X H locs cells slots ls S hl
  exact wk_X4_turned_0 X hv H locs cells slots ls S (lv_sub hl [0] rfl)

def vc_X4_woven_0 (G : wv_G) (fr : Nat) (P : wv_R → wv_H → Prop) (v0 : Option Nat) (w : wv_W) : Prop :=
  wv_cV G fr yX4_pairs v0 [.int (121 : Int32)] w (wv_rI (fun x4 w4 => wv_cV G fr yX4_plain v0 [.int x4] w4 (wv_rI (fun x7 w7 => P (.inl (some (.int x7))) w7.1) (wv_pr P))) (wv_pr P))
set_option maxHeartbeats 4000000 in
theorem wk_X4_woven_0 {G : wv_G} {p : Program} {e : Env} {R : Room} {s : State} {m : MethodId} {args : Array Value} {below : List Frame} {meth : Method} {c : Code} {fr : Nat} {P : wv_R → wv_H → Prop} (X : wv_ok G p R s m args meth c fr "WeaversgateModel" cX4_woven 1 (Option.some Jvm.ClassFile.FieldType.int) "woven" []) {v0 : Option Nat} {w : wv_W} (hv : vc_X4_woven_0 G fr P v0 w) : wv_J G p e R s m args below meth c 1 P w 0 [(0, va_rf v0)] [] := by
  intro H locs cells slots ls S hl
  unfold vc_X4_woven_0 at hv
  refine wq_aload_n X dX4_woven_0 rfl (lv_at hl 0 rfl) ?_
  refine wq_aload_n X dX4_woven_1 rfl (lv_at hl 0 rfl) ?_
  refine lv_bipush (v := (121 : Int32)) X.hx X.hb dX4_woven_2 (by decide) ?_
  refine wq_cV_I X S hv q2170 q2172 qs51 q66 ⟨by decide +kernel, by decide +kernel⟩ (nA := 1) (As := [.int (121 : Int32)]) (by decide +kernel) rfl rfl (by simp [wv_rfc, wv_kI, wv_kJ, wv_kF, wv_kD]) hl.1 dX4_woven_4 (fun x4 w4 H locs cells slots S hv => ?_) (wq_kx X rfl)
  refine wq_cV_I X S hv q2222 q2224 qs52 q66 ⟨by decide +kernel, by decide +kernel⟩ (nA := 1) (As := [.int x4]) (by decide +kernel) rfl rfl (by simp [wv_rfc, wv_kI, wv_kJ, wv_kF, wv_kD]) hl.1 dX4_woven_7 (fun x7 w7 H locs cells slots S hv => ?_) (wq_kx X rfl)
  exact wr_iret X S rfl hv dX4_woven_10
theorem wk_X4_woven {G : wv_G} (hG : wv_G0 G) {v0 : Option Nat} {h : wv_H} {fr kc ks : Nat} {P : wv_R → wv_H → Prop} (hv : vc_X4_woven_0 G fr P v0 (h, kc, ks)) : wv_C G yX4_woven [va_rf v0] h fr kc ks P := by
  refine wv_enter (lv := [(0, va_rf v0)]) hG (by decide +kernel) q2229 (by decide) (by simp [lg_sl, wv_rfc, wv_kI, wv_kJ, wv_kF, wv_kD]) (by simp [lv_args, wv_rfc, wv_kI, wv_kJ, wv_kF, wv_kD]) ?_
  intro p e R s m args below meth c X H locs cells slots ls S hl
  exact wk_X4_woven_0 X hv H locs cells slots ls S (lv_sub hl [0] rfl)

def vc_X4_wrong_0 (G : wv_G) (fr : Nat) (P : wv_R → wv_H → Prop) (v0 : Option Nat) (v1 : Int32) (v2 : Int32) (w : wv_W) : Prop :=
  wv_cV G fr yX4_isClass v0 [.int v1] w (wv_rI (fun x2 w2 => (¬ x2 = 0 → wv_c0 G fr yX4_isMethod [.int v2] w2 (wv_rI (fun x13 w13 => (¬ x13 = 0 → P (.inl (some (.int (0 : Int32)))) w13.1) ∧ (x13 = 0 → P (.inl (some (.int (2 : Int32)))) w13.1)) (wv_pr P))) ∧ (x2 = 0 → P (.inl (some (.int (1 : Int32)))) w2.1)) (wv_pr P))
set_option maxHeartbeats 4000000 in
theorem wk_X4_wrong_0 {G : wv_G} {p : Program} {e : Env} {R : Room} {s : State} {m : MethodId} {args : Array Value} {below : List Frame} {meth : Method} {c : Code} {fr : Nat} {P : wv_R → wv_H → Prop} (X : wv_ok G p R s m args meth c fr "WeaversgateModel" cX4_wrong 3 (Option.some Jvm.ClassFile.FieldType.int) "wrong" []) {v0 : Option Nat} {v1 : Int32} {v2 : Int32} {w : wv_W} (hv : vc_X4_wrong_0 G fr P v0 v1 v2 w) : wv_J G p e R s m args below meth c 3 P w 0 [(0, va_rf v0), (1, .int v1), (2, .int v2)] [] := by
  intro H locs cells slots ls S hl
  unfold vc_X4_wrong_0 at hv
  refine wq_aload_n X dX4_wrong_0 rfl (lv_at hl 0 rfl) ?_
  refine lv_iload_n X.hx X.hb dX4_wrong_1 rfl (lv_at hl 1 rfl) ?_
  refine wq_cV_I X S hv q1871 q1873 qs35 q66 ⟨by decide +kernel, by decide +kernel⟩ (nA := 1) (As := [.int v1]) (by decide +kernel) rfl rfl (by simp [wv_rfc, wv_kI, wv_kJ, wv_kF, wv_kD]) hl.1 dX4_wrong_2 (fun x2 w2 H locs cells slots S hv => ?_) (wq_kx X rfl)
  refine lv_if_ne (tgt := 12) X.hx X.hb dX4_wrong_5 (by decide) (fun c5 => ?_) (fun c5 => ?_)
  · have hv := hv.1 c5
    refine lv_iload_n X.hx X.hb dX4_wrong_12 rfl (lv_at hl 2 rfl) ?_
    refine wq_cS_I X S hv q1882 q1883 q66 ⟨by decide +kernel, by decide +kernel⟩ (nA := 1) (As := [.int v2]) (by decide +kernel) rfl rfl (by simp [wv_rfc, wv_kI, wv_kJ, wv_kF, wv_kD]) hl.1 dX4_wrong_13 (fun x13 w13 H locs cells slots S hv => ?_) (wq_kx X rfl)
    refine lv_if_ne (tgt := 23) X.hx X.hb dX4_wrong_16 (by decide) (fun c16 => ?_) (fun c16 => ?_)
    · have hv := hv.1 c16
      refine lv_iconst (v := (0 : Int32)) X.hx X.hb dX4_wrong_23 (by decide) ?_
      exact wr_iret X S rfl hv dX4_wrong_24
    · have hv := hv.2 c16
      refine lv_iconst (v := (2 : Int32)) X.hx X.hb dX4_wrong_19 (by decide) ?_
      refine lv_goto (tgt := 24) X.hx X.hb dX4_wrong_20 (by decide) ?_
      exact wr_iret X S rfl hv dX4_wrong_24
  · have hv := hv.2 c5
    refine lv_iconst (v := (1 : Int32)) X.hx X.hb dX4_wrong_8 (by decide) ?_
    refine lv_goto (tgt := 24) X.hx X.hb dX4_wrong_9 (by decide) ?_
    exact wr_iret X S rfl hv dX4_wrong_24
theorem wk_X4_wrong {G : wv_G} (hG : wv_G0 G) {v0 : Option Nat} {v1 : Int32} {v2 : Int32} {h : wv_H} {fr kc ks : Nat} {P : wv_R → wv_H → Prop} (hv : vc_X4_wrong_0 G fr P v0 v1 v2 (h, kc, ks)) : wv_C G yX4_wrong [va_rf v0, .int v1, .int v2] h fr kc ks P := by
  refine wv_enter (lv := [(0, va_rf v0), (1, .int v1), (2, .int v2)]) hG (by decide +kernel) q1926 (by decide) (by simp [lg_sl, wv_rfc, wv_kI, wv_kJ, wv_kF, wv_kD]) (by simp [lv_args, wv_rfc, wv_kI, wv_kJ, wv_kF, wv_kD]) ?_
  intro p e R s m args below meth c X H locs cells slots ls S hl
  exact wk_X4_wrong_0 X hv H locs cells slots ls S (lv_sub hl [0, 1, 2] rfl)

def vc_X4_wrongIndex_0 (G : wv_G) (fr : Nat) (P : wv_R → wv_H → Prop) (v0 : Option Nat) (v1 : Int32) (w : wv_W) : Prop :=
  wv_gA w v0 ciX4 16 (fun x4 => wv_gA w x4 ciX5 0 (fun x7 => wv_cV G fr yJ2_size x7 [] w (wv_rI (fun x10 w10 => wv_c0 G fr yX4_in [.int v1, .int (0 : Int32), .int (x10 - (1 : Int32))] w10 (wv_rI (fun x15 w15 => wv_cV G fr yX4_checked v0 [.int x15] w15 (wv_rI (fun x18 w18 => P (.inl (some (.int x18))) w18.1) (wv_pr P))) (wv_pr P))) (wv_pr P))))
set_option maxHeartbeats 4000000 in
theorem wk_X4_wrongIndex_0 {G : wv_G} {p : Program} {e : Env} {R : Room} {s : State} {m : MethodId} {args : Array Value} {below : List Frame} {meth : Method} {c : Code} {fr : Nat} {P : wv_R → wv_H → Prop} (X : wv_ok G p R s m args meth c fr "WeaversgateModel" cX4_wrongIndex 2 (Option.some Jvm.ClassFile.FieldType.int) "wrongIndex" []) {v0 : Option Nat} {v1 : Int32} {w : wv_W} (hv : vc_X4_wrongIndex_0 G fr P v0 v1 w) : wv_J G p e R s m args below meth c 2 P w 0 [(0, va_rf v0), (1, .int v1)] [] := by
  intro H locs cells slots ls S hl
  unfold vc_X4_wrongIndex_0 at hv
  refine wq_aload_n X dX4_wrongIndex_0 rfl (lv_at hl 0 rfl) ?_
  refine lv_iload_n X.hx X.hb dX4_wrongIndex_1 rfl (lv_at hl 1 rfl) ?_
  refine lv_iconst (v := (0 : Int32)) X.hx X.hb dX4_wrongIndex_2 (by decide) ?_
  refine wq_aload_n X dX4_wrongIndex_3 rfl (lv_at hl 0 rfl) ?_
  refine wq_gA X S hv ccX4 in_X4 (k := 16) (by decide) q1827 dX4_wrongIndex_4 (fun x4 hv => ?_)
  refine wq_gA X S hv ccX5 in_X5 (k := 0) (by decide) q1776 dX4_wrongIndex_7 (fun x7 hv => ?_)
  refine wq_cV_I X S hv q2086 q270 q271 q63 ⟨by decide +kernel, by decide +kernel⟩ (nA := 0) (As := []) (by decide +kernel) rfl rfl (by simp [wv_rfc, wv_kI, wv_kJ, wv_kF, wv_kD]) hl.1 dX4_wrongIndex_10 (fun x10 w10 H locs cells slots S hv => ?_) (wq_kx X rfl)
  refine lv_iconst (v := (1 : Int32)) X.hx X.hb dX4_wrongIndex_13 (by decide) ?_
  refine lv_isub X.hx X.hb dX4_wrongIndex_14 ?_
  refine wq_cS_I X S hv q1875 q1876 q66 ⟨by decide +kernel, by decide +kernel⟩ (nA := 3) (As := [.int v1, .int (0 : Int32), .int (x10 - (1 : Int32))]) (by decide +kernel) rfl rfl (by simp [wv_rfc, wv_kI, wv_kJ, wv_kF, wv_kD]) hl.1 dX4_wrongIndex_15 (fun x15 w15 H locs cells slots S hv => ?_) (wq_kx X rfl)
  refine wq_cV_I X S hv q1975 q1977 qs43 q66 ⟨by decide +kernel, by decide +kernel⟩ (nA := 1) (As := [.int x15]) (by decide +kernel) rfl rfl (by simp [wv_rfc, wv_kI, wv_kJ, wv_kF, wv_kD]) hl.1 dX4_wrongIndex_18 (fun x18 w18 H locs cells slots S hv => ?_) (wq_kx X rfl)
  exact wr_iret X S rfl hv dX4_wrongIndex_21
theorem wk_X4_wrongIndex {G : wv_G} (hG : wv_G0 G) {v0 : Option Nat} {v1 : Int32} {h : wv_H} {fr kc ks : Nat} {P : wv_R → wv_H → Prop} (hv : vc_X4_wrongIndex_0 G fr P v0 v1 (h, kc, ks)) : wv_C G yX4_wrongIndex [va_rf v0, .int v1] h fr kc ks P := by
  refine wv_enter (lv := [(0, va_rf v0), (1, .int v1)]) hG (by decide +kernel) q2503 (by decide) (by simp [lg_sl, wv_rfc, wv_kI, wv_kJ, wv_kF, wv_kD]) (by simp [lv_args, wv_rfc, wv_kI, wv_kJ, wv_kF, wv_kD]) ?_
  intro p e R s m args below meth c X H locs cells slots ls S hl
  exact wk_X4_wrongIndex_0 X hv H locs cells slots ls S (lv_sub hl [0, 1] rfl)
