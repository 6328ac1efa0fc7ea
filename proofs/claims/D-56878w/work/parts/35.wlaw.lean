def vc_X0_acted_12 (G : wv_G) (fr : Nat) (P : wv_R → wv_H → Prop) (s0 : Option Nat) (w : wv_W) : Prop :=
  P (.inl (some (.int (1 : Int32)))) w.1
def vc_X0_acted_0 (G : wv_G) (fr : Nat) (P : wv_R → wv_H → Prop) (v0 : Option Nat) (v1 : Int32) (v2 : Option Nat) (w : wv_W) : Prop :=
  wv_cV G fr yX1_acted v0 [.int v1] w (wv_rI (fun x4 w4 => wv_sl G w4 v2 (0 : Int32) (Int32.toInt64 x4) (fun w8 => P (.inl (some (.int (0 : Int32)))) w8.1)) (fun E q w => (E = "java/lang/IllegalArgumentException" → vc_X0_acted_12 G fr P (some q) w) ∧ (¬ E = "java/lang/IllegalArgumentException" → (va_Nc E "java/lang/IllegalArgumentException" G.2.1 ∧ P (.inr (E, q)) w.1))))
set_option maxHeartbeats 4000000 in
theorem wk_X0_acted_12 {G : wv_G} {p : Program} {e : Env} {R : Room} {s : State} {m : MethodId} {args : Array Value} {below : List Frame} {meth : Method} {c : Code} {fr : Nat} {P : wv_R → wv_H → Prop} (X : wv_ok G p R s m args meth c fr "WeaversgateLaw" cX0_acted 4 (Option.some Jvm.ClassFile.FieldType.int) "acted" [(0, 9, 12, 21)]) {s0 : Option Nat} {w : wv_W} (hv : vc_X0_acted_12 G fr P s0 w) : wv_J G p e R s m args below meth c 4 P w 12 [] [va_rf s0] := by
  intro H locs cells slots ls S hl
  unfold vc_X0_acted_12 at hv
  refine wq_astore_n X (i := 3) (lv' := [(3, va_rf s0)]) dX0_acted_12 rfl hl (by decide) rfl (fun ls hl => ?_)
  refine lv_iconst (v := (1 : Int32)) X.hx X.hb dX0_acted_13 (by decide) ?_
  exact wr_iret X S rfl hv dX0_acted_14
set_option maxHeartbeats 4000000 in
theorem wk_X0_acted_0 {G : wv_G} {p : Program} {e : Env} {R : Room} {s : State} {m : MethodId} {args : Array Value} {below : List Frame} {meth : Method} {c : Code} {fr : Nat} {P : wv_R → wv_H → Prop} (X : wv_ok G p R s m args meth c fr "WeaversgateLaw" cX0_acted 4 (Option.some Jvm.ClassFile.FieldType.int) "acted" [(0, 9, 12, 21)]) {v0 : Option Nat} {v1 : Int32} {v2 : Option Nat} {w : wv_W} (hv : vc_X0_acted_0 G fr P v0 v1 v2 w) : wv_J G p e R s m args below meth c 4 P w 0 [(0, va_rf v0), (1, .int v1), (2, va_rf v2)] [] := by
  intro H locs cells slots ls S hl
  unfold vc_X0_acted_0 at hv
  refine wq_aload_n X dX0_acted_0 rfl (lv_at hl 2 rfl) ?_
  refine lv_iconst (v := (0 : Int32)) X.hx X.hb dX0_acted_1 (by decide) ?_
  refine wq_aload_n X dX0_acted_2 rfl (lv_at hl 0 rfl) ?_
  refine lv_iload_n X.hx X.hb dX0_acted_3 rfl (lv_at hl 1 rfl) ?_
  refine wq_cV_I X S hv q1665 q1666 q1667 q60 ⟨by decide +kernel, by decide +kernel⟩ (nA := 1) (As := [.int v1]) (by decide +kernel) rfl rfl (by simp [wv_rfc, wv_kI, wv_kJ, wv_kF, wv_kD]) hl.1 dX0_acted_4 (fun x4 w4 H locs cells slots S hv => ?_) ?_
  · refine lv_i2l X.hx X.hb dX0_acted_7 rfl ?_
    refine wq_sl X S hv dX0_acted_8 (fun w8 H locs S hv => ?_)
    refine lv_goto (tgt := 15) X.hx X.hb dX0_acted_9 (by decide) ?_
    refine lv_iconst (v := (0 : Int32)) X.hx X.hb dX0_acted_15 (by decide) ?_
    exact wr_iret X S rfl hv dX0_acted_16
  · intro E q w H locs cells slots S hv hth
    by_cases hE : E = "java/lang/IllegalArgumentException"
    · subst hE
      have hv := hv.1 rfl
      refine wr_catch X [] (0, 9, 12, 21) [] rfl (fun z hz => by cases hz) rfl (by decide) q1318 q382 hth ?_
      exact wk_X0_acted_12 X  hv H locs cells slots ls S (lv_sub hl [] rfl)
    · have hv := hv.2 hE
      have hN0 := va_Nc.moved X.hW.alike hv.1
      have hv := hv.2
      exact wr_outP X S hv hth (List.forall_mem_cons.mpr ⟨(Or.inr ⟨by decide, "java/lang/IllegalArgumentException", q1318, hN0⟩), (fun z hz => absurd hz List.not_mem_nil)⟩)
theorem wk_X0_acted {G : wv_G} (hG : wv_G0 G) {v0 : Option Nat} {v1 : Int32} {v2 : Option Nat} {h : wv_H} {fr kc ks : Nat} {P : wv_R → wv_H → Prop} (hv : vc_X0_acted_0 G fr P v0 v1 v2 (h, kc, ks)) : wv_C G yX0_acted [va_rf v0, .int v1, va_rf v2] h fr kc ks P := by
  refine wv_enterW (lv := [(0, va_rf v0), (1, .int v1), (2, va_rf v2)]) hG (by decide +kernel) q1664 (by decide) (by simp [lg_sl, wv_rfc, wv_kI, wv_kJ, wv_kF, wv_kD]) (by simp [lv_args, wv_rfc, wv_kI, wv_kJ, wv_kF, wv_kD]) ?_
  intro p e R s m args below meth c X H locs cells slots ls S hl
  exact wk_X0_acted_0 X hv H locs cells slots ls S (lv_sub hl [0, 1, 2] rfl)

def vc_X0_addAdvice_27 (G : wv_G) (fr : Nat) (P : wv_R → wv_H → Prop) (s0 : Option Nat) (w : wv_W) : Prop :=
  P (.inl (some (.int (3 : Int32)))) w.1
def vc_X0_addAdvice_23 (G : wv_G) (fr : Nat) (P : wv_R → wv_H → Prop) (s0 : Option Nat) (w : wv_W) : Prop :=
  P (.inl (some (.int (2 : Int32)))) w.1
def vc_X0_addAdvice_19 (G : wv_G) (fr : Nat) (P : wv_R → wv_H → Prop) (s0 : Option Nat) (w : wv_W) : Prop :=
  P (.inl (some (.int (1 : Int32)))) w.1
def vc_X0_addAdvice_0 (G : wv_G) (fr : Nat) (P : wv_R → wv_H → Prop) (v0 : Option Nat) (v1 : Int32) (v2 : Int32) (v3 : Int32) (v4 : Int32) (v5 : Int32) (v6 : Option Nat) (w : wv_W) : Prop :=
  wv_cV G fr yX1_addAdvice v0 [.int v1, .int v2, .int v3, .int v4, .int v5] w (wv_rI (fun x11 w11 => wv_sl G w11 v6 (0 : Int32) (Int32.toInt64 x11) (fun w15 => P (.inl (some (.int (0 : Int32)))) w15.1)) (fun E q w => (E = "java/lang/IllegalArgumentException" → vc_X0_addAdvice_19 G fr P (some q) w) ∧ (¬ E = "java/lang/IllegalArgumentException" → (va_Nc E "java/lang/IllegalArgumentException" G.2.1 ∧ (E = "java/util/NoSuchElementException" → vc_X0_addAdvice_23 G fr P (some q) w) ∧ (¬ E = "java/util/NoSuchElementException" → (va_Nc E "java/util/NoSuchElementException" G.2.1 ∧ (E = "java/lang/IllegalStateException" → vc_X0_addAdvice_27 G fr P (some q) w) ∧ (¬ E = "java/lang/IllegalStateException" → (va_Nc E "java/lang/IllegalStateException" G.2.1 ∧ P (.inr (E, q)) w.1))))))))
set_option maxHeartbeats 4000000 in
theorem wk_X0_addAdvice_27 {G : wv_G} {p : Program} {e : Env} {R : Room} {s : State} {m : MethodId} {args : Array Value} {below : List Frame} {meth : Method} {c : Code} {fr : Nat} {P : wv_R → wv_H → Prop} (X : wv_ok G p R s m args meth c fr "WeaversgateLaw" cX0_addAdvice 8 (Option.some Jvm.ClassFile.FieldType.int) "addAdvice" [(0, 16, 19, 21), (0, 16, 23, 34), (0, 16, 27, 15)]) {s0 : Option Nat} {w : wv_W} (hv : vc_X0_addAdvice_27 G fr P s0 w) : wv_J G p e R s m args below meth c 8 P w 27 [] [va_rf s0] := by
  intro H locs cells slots ls S hl
  unfold vc_X0_addAdvice_27 at hv
  refine wq_astore X (i := 7) (lv' := [(7, va_rf s0)]) dX0_addAdvice_27 hl (by decide) rfl (fun ls hl => ?_)
  refine lv_iconst (v := (3 : Int32)) X.hx X.hb dX0_addAdvice_29 (by decide) ?_
  exact wr_iret X S rfl hv dX0_addAdvice_30
set_option maxHeartbeats 4000000 in
theorem wk_X0_addAdvice_23 {G : wv_G} {p : Program} {e : Env} {R : Room} {s : State} {m : MethodId} {args : Array Value} {below : List Frame} {meth : Method} {c : Code} {fr : Nat} {P : wv_R → wv_H → Prop} (X : wv_ok G p R s m args meth c fr "WeaversgateLaw" cX0_addAdvice 8 (Option.some Jvm.ClassFile.FieldType.int) "addAdvice" [(0, 16, 19, 21), (0, 16, 23, 34), (0, 16, 27, 15)]) {s0 : Option Nat} {w : wv_W} (hv : vc_X0_addAdvice_23 G fr P s0 w) : wv_J G p e R s m args below meth c 8 P w 23 [] [va_rf s0] := by
  intro H locs cells slots ls S hl
  unfold vc_X0_addAdvice_23 at hv
  refine wq_astore X (i := 7) (lv' := [(7, va_rf s0)]) dX0_addAdvice_23 hl (by decide) rfl (fun ls hl => ?_)
  refine lv_iconst (v := (2 : Int32)) X.hx X.hb dX0_addAdvice_25 (by decide) ?_
  exact wr_iret X S rfl hv dX0_addAdvice_26
set_option maxHeartbeats 4000000 in
theorem wk_X0_addAdvice_19 {G : wv_G} {p : Program} {e : Env} {R : Room} {s : State} {m : MethodId} {args : Array Value} {below : List Frame} {meth : Method} {c : Code} {fr : Nat} {P : wv_R → wv_H → Prop} (X : wv_ok G p R s m args meth c fr "WeaversgateLaw" cX0_addAdvice 8 (Option.some Jvm.ClassFile.FieldType.int) "addAdvice" [(0, 16, 19, 21), (0, 16, 23, 34), (0, 16, 27, 15)]) {s0 : Option Nat} {w : wv_W} (hv : vc_X0_addAdvice_19 G fr P s0 w) : wv_J G p e R s m args below meth c 8 P w 19 [] [va_rf s0] := by
  intro H locs cells slots ls S hl
  unfold vc_X0_addAdvice_19 at hv
  refine wq_astore X (i := 7) (lv' := [(7, va_rf s0)]) dX0_addAdvice_19 hl (by decide) rfl (fun ls hl => ?_)
  refine lv_iconst (v := (1 : Int32)) X.hx X.hb dX0_addAdvice_21 (by decide) ?_
  exact wr_iret X S rfl hv dX0_addAdvice_22
set_option maxHeartbeats 4000000 in
theorem wk_X0_addAdvice_0 {G : wv_G} {p : Program} {e : Env} {R : Room} {s : State} {m : MethodId} {args : Array Value} {below : List Frame} {meth : Method} {c : Code} {fr : Nat} {P : wv_R → wv_H → Prop} (X : wv_ok G p R s m args meth c fr "WeaversgateLaw" cX0_addAdvice 8 (Option.some Jvm.ClassFile.FieldType.int) "addAdvice" [(0, 16, 19, 21), (0, 16, 23, 34), (0, 16, 27, 15)]) {v0 : Option Nat} {v1 : Int32} {v2 : Int32} {v3 : Int32} {v4 : Int32} {v5 : Int32} {v6 : Option Nat} {w : wv_W} (hv : vc_X0_addAdvice_0 G fr P v0 v1 v2 v3 v4 v5 v6 w) : wv_J G p e R s m args below meth c 8 P w 0 [(0, va_rf v0), (1, .int v1), (2, .int v2), (3, .int v3), (4, .int v4), (5, .int v5), (6, va_rf v6)] [] := by
  intro H locs cells slots ls S hl
  unfold vc_X0_addAdvice_0 at hv
  refine wq_aload X dX0_addAdvice_0 (lv_at hl 6 rfl) ?_
  refine lv_iconst (v := (0 : Int32)) X.hx X.hb dX0_addAdvice_2 (by decide) ?_
  refine wq_aload_n X dX0_addAdvice_3 rfl (lv_at hl 0 rfl) ?_
  refine lv_iload_n X.hx X.hb dX0_addAdvice_4 rfl (lv_at hl 1 rfl) ?_
  refine lv_iload_n X.hx X.hb dX0_addAdvice_5 rfl (lv_at hl 2 rfl) ?_
  refine lv_iload_n X.hx X.hb dX0_addAdvice_6 rfl (lv_at hl 3 rfl) ?_
  refine lv_iload X.hx X.hb dX0_addAdvice_7 (lv_at hl 4 rfl) ?_
  refine lv_iload X.hx X.hb dX0_addAdvice_9 (lv_at hl 5 rfl) ?_
  refine wq_cV_I X S hv q1525 q1526 q1527 q60 ⟨by decide +kernel, by decide +kernel⟩ (nA := 5) (As := [.int v1, .int v2, .int v3, .int v4, .int v5]) (by decide +kernel) rfl rfl (by simp [wv_rfc, wv_kI, wv_kJ, wv_kF, wv_kD]) hl.1 dX0_addAdvice_11 (fun x11 w11 H locs cells slots S hv => ?_) ?_
  · refine lv_i2l X.hx X.hb dX0_addAdvice_14 rfl ?_
    refine wq_sl X S hv dX0_addAdvice_15 (fun w15 H locs S hv => ?_)
    refine lv_goto (tgt := 31) X.hx X.hb dX0_addAdvice_16 (by decide) ?_
    refine lv_iconst (v := (0 : Int32)) X.hx X.hb dX0_addAdvice_31 (by decide) ?_
    exact wr_iret X S rfl hv dX0_addAdvice_32
  · intro E q w H locs cells slots S hv hth
    by_cases hE : E = "java/lang/IllegalArgumentException"
    · subst hE
      have hv := hv.1 rfl
      refine wr_catch X [] (0, 16, 19, 21) [(0, 16, 23, 34), (0, 16, 27, 15)] rfl (fun z hz => by cases hz) rfl (by decide) q1318 q382 hth ?_
      exact wk_X0_addAdvice_19 X  hv H locs cells slots ls S (lv_sub hl [] rfl)
    · have hv := hv.2 hE
      have hN0 := va_Nc.moved X.hW.alike hv.1
      have hv := hv.2
      by_cases hE : E = "java/util/NoSuchElementException"
      · subst hE
        have hv := hv.1 rfl
        refine wr_catch X [(0, 16, 19, 21)] (0, 16, 23, 34) [(0, 16, 27, 15)] rfl (List.forall_mem_cons.mpr ⟨(Or.inr ⟨by decide, "java/lang/IllegalArgumentException", q1318, hN0⟩), (fun z hz => absurd hz List.not_mem_nil)⟩) rfl (by decide) q1376 q1442 hth ?_
        exact wk_X0_addAdvice_23 X  hv H locs cells slots ls S (lv_sub hl [] rfl)
      · have hv := hv.2 hE
        have hN1 := va_Nc.moved X.hW.alike hv.1
        have hv := hv.2
        by_cases hE : E = "java/lang/IllegalStateException"
        · subst hE
          have hv := hv.1 rfl
          refine wr_catch X [(0, 16, 19, 21), (0, 16, 23, 34)] (0, 16, 27, 15) [] rfl (List.forall_mem_cons.mpr ⟨(Or.inr ⟨by decide, "java/lang/IllegalArgumentException", q1318, hN0⟩), (List.forall_mem_cons.mpr ⟨(Or.inr ⟨by decide, "java/util/NoSuchElementException", q1376, hN1⟩), (fun z hz => absurd hz List.not_mem_nil)⟩)⟩) rfl (by decide) q1234 q1269 hth ?_
          exact wk_X0_addAdvice_27 X  hv H locs cells slots ls S (lv_sub hl [] rfl)
        · have hv := hv.2 hE
          have hN2 := va_Nc.moved X.hW.alike hv.1
          have hv := hv.2
          exact wr_outP X S hv hth (List.forall_mem_cons.mpr ⟨(Or.inr ⟨by decide, "java/lang/IllegalArgumentException", q1318, hN0⟩), (List.forall_mem_cons.mpr ⟨(Or.inr ⟨by decide, "java/util/NoSuchElementException", q1376, hN1⟩), (List.forall_mem_cons.mpr ⟨(Or.inr ⟨by decide, "java/lang/IllegalStateException", q1234, hN2⟩), (fun z hz => absurd hz List.not_mem_nil)⟩)⟩)⟩)
theorem wk_X0_addAdvice {G : wv_G} (hG : wv_G0 G) {v0 : Option Nat} {v1 : Int32} {v2 : Int32} {v3 : Int32} {v4 : Int32} {v5 : Int32} {v6 : Option Nat} {h : wv_H} {fr kc ks : Nat} {P : wv_R → wv_H → Prop} (hv : vc_X0_addAdvice_0 G fr P v0 v1 v2 v3 v4 v5 v6 (h, kc, ks)) : wv_C G yX0_addAdvice [va_rf v0, .int v1, .int v2, .int v3, .int v4, .int v5, va_rf v6] h fr kc ks P := by
  refine wv_enterW (lv := [(0, va_rf v0), (1, .int v1), (2, .int v2), (3, .int v3), (4, .int v4), (5, .int v5), (6, va_rf v6)]) hG (by decide +kernel) q1524 (by decide) (by simp [lg_sl, wv_rfc, wv_kI, wv_kJ, wv_kF, wv_kD]) (by simp [lv_args, wv_rfc, wv_kI, wv_kJ, wv_kF, wv_kD]) ?_
  intro p e R s m args below meth c X H locs cells slots ls S hl
  exact wk_X0_addAdvice_0 X hv H locs cells slots ls S (lv_sub hl [0, 1, 2, 3, 4, 5, 6] rfl)

def vc_X0_addClass_15 (G : wv_G) (fr : Nat) (P : wv_R → wv_H → Prop) (s0 : Option Nat) (w : wv_W) : Prop :=
  P (.inl (some (.int (2 : Int32)))) w.1
def vc_X0_addClass_12 (G : wv_G) (fr : Nat) (P : wv_R → wv_H → Prop) (s0 : Option Nat) (w : wv_W) : Prop :=
  P (.inl (some (.int (1 : Int32)))) w.1
def vc_X0_addClass_0 (G : wv_G) (fr : Nat) (P : wv_R → wv_H → Prop) (v0 : Option Nat) (v1 : Int32) (v2 : Option Nat) (w : wv_W) : Prop :=
  wv_cV G fr yX1_addClass v0 [.int v1] w (wv_rI (fun x4 w4 => wv_sl G w4 v2 (0 : Int32) (Int32.toInt64 x4) (fun w8 => P (.inl (some (.int (0 : Int32)))) w8.1)) (fun E q w => (E = "java/lang/IndexOutOfBoundsException" → vc_X0_addClass_12 G fr P (some q) w) ∧ (¬ E = "java/lang/IndexOutOfBoundsException" → (va_Nc E "java/lang/IndexOutOfBoundsException" G.2.1 ∧ (E = "java/lang/IllegalStateException" → vc_X0_addClass_15 G fr P (some q) w) ∧ (¬ E = "java/lang/IllegalStateException" → (va_Nc E "java/lang/IllegalStateException" G.2.1 ∧ P (.inr (E, q)) w.1))))))
set_option maxHeartbeats 4000000 in
theorem wk_X0_addClass_15 {G : wv_G} {p : Program} {e : Env} {R : Room} {s : State} {m : MethodId} {args : Array Value} {below : List Frame} {meth : Method} {c : Code} {fr : Nat} {P : wv_R → wv_H → Prop} (X : wv_ok G p R s m args meth c fr "WeaversgateLaw" cX0_addClass 4 (Option.some Jvm.ClassFile.FieldType.int) "addClass" [(0, 9, 12, 13), (0, 9, 15, 15)]) {s0 : Option Nat} {w : wv_W} (hv : vc_X0_addClass_15 G fr P s0 w) : wv_J G p e R s m args below meth c 4 P w 15 [] [va_rf s0] := by
  intro H locs cells slots ls S hl
  unfold vc_X0_addClass_15 at hv
  refine wq_astore_n X (i := 3) (lv' := [(3, va_rf s0)]) dX0_addClass_15 rfl hl (by decide) rfl (fun ls hl => ?_)
  refine lv_iconst (v := (2 : Int32)) X.hx X.hb dX0_addClass_16 (by decide) ?_
  exact wr_iret X S rfl hv dX0_addClass_17
set_option maxHeartbeats 4000000 in
theorem wk_X0_addClass_12 {G : wv_G} {p : Program} {e : Env} {R : Room} {s : State} {m : MethodId} {args : Array Value} {below : List Frame} {meth : Method} {c : Code} {fr : Nat} {P : wv_R → wv_H → Prop} (X : wv_ok G p R s m args meth c fr "WeaversgateLaw" cX0_addClass 4 (Option.some Jvm.ClassFile.FieldType.int) "addClass" [(0, 9, 12, 13), (0, 9, 15, 15)]) {s0 : Option Nat} {w : wv_W} (hv : vc_X0_addClass_12 G fr P s0 w) : wv_J G p e R s m args below meth c 4 P w 12 [] [va_rf s0] := by
  intro H locs cells slots ls S hl
  unfold vc_X0_addClass_12 at hv
  refine wq_astore_n X (i := 3) (lv' := [(3, va_rf s0)]) dX0_addClass_12 rfl hl (by decide) rfl (fun ls hl => ?_)
  refine lv_iconst (v := (1 : Int32)) X.hx X.hb dX0_addClass_13 (by decide) ?_
  exact wr_iret X S rfl hv dX0_addClass_14
set_option maxHeartbeats 4000000 in
theorem wk_X0_addClass_0 {G : wv_G} {p : Program} {e : Env} {R : Room} {s : State} {m : MethodId} {args : Array Value} {below : List Frame} {meth : Method} {c : Code} {fr : Nat} {P : wv_R → wv_H → Prop} (X : wv_ok G p R s m args meth c fr "WeaversgateLaw" cX0_addClass 4 (Option.some Jvm.ClassFile.FieldType.int) "addClass" [(0, 9, 12, 13), (0, 9, 15, 15)]) {v0 : Option Nat} {v1 : Int32} {v2 : Option Nat} {w : wv_W} (hv : vc_X0_addClass_0 G fr P v0 v1 v2 w) : wv_J G p e R s m args below meth c 4 P w 0 [(0, va_rf v0), (1, .int v1), (2, va_rf v2)] [] := by
  intro H locs cells slots ls S hl
  unfold vc_X0_addClass_0 at hv
  refine wq_aload_n X dX0_addClass_0 rfl (lv_at hl 2 rfl) ?_
  refine lv_iconst (v := (0 : Int32)) X.hx X.hb dX0_addClass_1 (by decide) ?_
  refine wq_aload_n X dX0_addClass_2 rfl (lv_at hl 0 rfl) ?_
  refine lv_iload_n X.hx X.hb dX0_addClass_3 rfl (lv_at hl 1 rfl) ?_
  refine wq_cV_I X S hv q1235 q1236 q1237 q60 ⟨by decide +kernel, by decide +kernel⟩ (nA := 1) (As := [.int v1]) (by decide +kernel) rfl rfl (by simp [wv_rfc, wv_kI, wv_kJ, wv_kF, wv_kD]) hl.1 dX0_addClass_4 (fun x4 w4 H locs cells slots S hv => ?_) ?_
  · refine lv_i2l X.hx X.hb dX0_addClass_7 rfl ?_
    refine wq_sl X S hv dX0_addClass_8 (fun w8 H locs S hv => ?_)
    refine lv_goto (tgt := 18) X.hx X.hb dX0_addClass_9 (by decide) ?_
    refine lv_iconst (v := (0 : Int32)) X.hx X.hb dX0_addClass_18 (by decide) ?_
    exact wr_iret X S rfl hv dX0_addClass_19
  · intro E q w H locs cells slots S hv hth
    by_cases hE : E = "java/lang/IndexOutOfBoundsException"
    · subst hE
      have hv := hv.1 rfl
      refine wr_catch X [] (0, 9, 12, 13) [(0, 9, 15, 15)] rfl (fun z hz => by cases hz) rfl (by decide) q1215 q1251 hth ?_
      exact wk_X0_addClass_12 X  hv H locs cells slots ls S (lv_sub hl [] rfl)
    · have hv := hv.2 hE
      have hN0 := va_Nc.moved X.hW.alike hv.1
      have hv := hv.2
      by_cases hE : E = "java/lang/IllegalStateException"
      · subst hE
        have hv := hv.1 rfl
        refine wr_catch X [(0, 9, 12, 13)] (0, 9, 15, 15) [] rfl (List.forall_mem_cons.mpr ⟨(Or.inr ⟨by decide, "java/lang/IndexOutOfBoundsException", q1215, hN0⟩), (fun z hz => absurd hz List.not_mem_nil)⟩) rfl (by decide) q1234 q1269 hth ?_
        exact wk_X0_addClass_15 X  hv H locs cells slots ls S (lv_sub hl [] rfl)
      · have hv := hv.2 hE
        have hN1 := va_Nc.moved X.hW.alike hv.1
        have hv := hv.2
        exact wr_outP X S hv hth (List.forall_mem_cons.mpr ⟨(Or.inr ⟨by decide, "java/lang/IndexOutOfBoundsException", q1215, hN0⟩), (List.forall_mem_cons.mpr ⟨(Or.inr ⟨by decide, "java/lang/IllegalStateException", q1234, hN1⟩), (fun z hz => absurd hz List.not_mem_nil)⟩)⟩)
theorem wk_X0_addClass {G : wv_G} (hG : wv_G0 G) {v0 : Option Nat} {v1 : Int32} {v2 : Option Nat} {h : wv_H} {fr kc ks : Nat} {P : wv_R → wv_H → Prop} (hv : vc_X0_addClass_0 G fr P v0 v1 v2 (h, kc, ks)) : wv_C G yX0_addClass [va_rf v0, .int v1, va_rf v2] h fr kc ks P := by
  refine wv_enterW (lv := [(0, va_rf v0), (1, .int v1), (2, va_rf v2)]) hG (by decide +kernel) q1214 (by decide) (by simp [lg_sl, wv_rfc, wv_kI, wv_kJ, wv_kF, wv_kD]) (by simp [lv_args, wv_rfc, wv_kI, wv_kJ, wv_kF, wv_kD]) ?_
  intro p e R s m args below meth c X H locs cells slots ls S hl
  exact wk_X0_addClass_0 X hv H locs cells slots ls S (lv_sub hl [0, 1, 2] rfl)

def vc_X0_addPattern_23 (G : wv_G) (fr : Nat) (P : wv_R → wv_H → Prop) (s0 : Option Nat) (w : wv_W) : Prop :=
  P (.inl (some (.int (3 : Int32)))) w.1
def vc_X0_addPattern_19 (G : wv_G) (fr : Nat) (P : wv_R → wv_H → Prop) (s0 : Option Nat) (w : wv_W) : Prop :=
  P (.inl (some (.int (2 : Int32)))) w.1
def vc_X0_addPattern_15 (G : wv_G) (fr : Nat) (P : wv_R → wv_H → Prop) (s0 : Option Nat) (w : wv_W) : Prop :=
  P (.inl (some (.int (1 : Int32)))) w.1
def vc_X0_addPattern_0 (G : wv_G) (fr : Nat) (P : wv_R → wv_H → Prop) (v0 : Option Nat) (v1 : Int32) (v2 : Int32) (v3 : Int32) (v4 : Option Nat) (w : wv_W) : Prop :=
  wv_cV G fr yX1_addPattern v0 [.int v1, .int v2, .int v3] w (wv_rI (fun x7 w7 => wv_sl G w7 v4 (0 : Int32) (Int32.toInt64 x7) (fun w11 => P (.inl (some (.int (0 : Int32)))) w11.1)) (fun E q w => (E = "java/lang/IllegalArgumentException" → vc_X0_addPattern_15 G fr P (some q) w) ∧ (¬ E = "java/lang/IllegalArgumentException" → (va_Nc E "java/lang/IllegalArgumentException" G.2.1 ∧ (E = "java/util/NoSuchElementException" → vc_X0_addPattern_19 G fr P (some q) w) ∧ (¬ E = "java/util/NoSuchElementException" → (va_Nc E "java/util/NoSuchElementException" G.2.1 ∧ (E = "java/lang/IllegalStateException" → vc_X0_addPattern_23 G fr P (some q) w) ∧ (¬ E = "java/lang/IllegalStateException" → (va_Nc E "java/lang/IllegalStateException" G.2.1 ∧ P (.inr (E, q)) w.1))))))))
set_option maxHeartbeats 4000000 in
theorem wk_X0_addPattern_23 {G : wv_G} {p : Program} {e : Env} {R : Room} {s : State} {m : MethodId} {args : Array Value} {below : List Frame} {meth : Method} {c : Code} {fr : Nat} {P : wv_R → wv_H → Prop} (X : wv_ok G p R s m args meth c fr "WeaversgateLaw" cX0_addPattern 6 (Option.some Jvm.ClassFile.FieldType.int) "addPattern" [(0, 12, 15, 21), (0, 12, 19, 34), (0, 12, 23, 15)]) {s0 : Option Nat} {w : wv_W} (hv : vc_X0_addPattern_23 G fr P s0 w) : wv_J G p e R s m args below meth c 6 P w 23 [] [va_rf s0] := by
  intro H locs cells slots ls S hl
  unfold vc_X0_addPattern_23 at hv
  refine wq_astore X (i := 5) (lv' := [(5, va_rf s0)]) dX0_addPattern_23 hl (by decide) rfl (fun ls hl => ?_)
  refine lv_iconst (v := (3 : Int32)) X.hx X.hb dX0_addPattern_25 (by decide) ?_
  exact wr_iret X S rfl hv dX0_addPattern_26
set_option maxHeartbeats 4000000 in
theorem wk_X0_addPattern_19 {G : wv_G} {p : Program} {e : Env} {R : Room} {s : State} {m : MethodId} {args : Array Value} {below : List Frame} {meth : Method} {c : Code} {fr : Nat} {P : wv_R → wv_H → Prop} (X : wv_ok G p R s m args meth c fr "WeaversgateLaw" cX0_addPattern 6 (Option.some Jvm.ClassFile.FieldType.int) "addPattern" [(0, 12, 15, 21), (0, 12, 19, 34), (0, 12, 23, 15)]) {s0 : Option Nat} {w : wv_W} (hv : vc_X0_addPattern_19 G fr P s0 w) : wv_J G p e R s m args below meth c 6 P w 19 [] [va_rf s0] := by
  intro H locs cells slots ls S hl
  unfold vc_X0_addPattern_19 at hv
  refine wq_astore X (i := 5) (lv' := [(5, va_rf s0)]) dX0_addPattern_19 hl (by decide) rfl (fun ls hl => ?_)
  refine lv_iconst (v := (2 : Int32)) X.hx X.hb dX0_addPattern_21 (by decide) ?_
  exact wr_iret X S rfl hv dX0_addPattern_22
set_option maxHeartbeats 4000000 in
theorem wk_X0_addPattern_15 {G : wv_G} {p : Program} {e : Env} {R : Room} {s : State} {m : MethodId} {args : Array Value} {below : List Frame} {meth : Method} {c : Code} {fr : Nat} {P : wv_R → wv_H → Prop} (X : wv_ok G p R s m args meth c fr "WeaversgateLaw" cX0_addPattern 6 (Option.some Jvm.ClassFile.FieldType.int) "addPattern" [(0, 12, 15, 21), (0, 12, 19, 34), (0, 12, 23, 15)]) {s0 : Option Nat} {w : wv_W} (hv : vc_X0_addPattern_15 G fr P s0 w) : wv_J G p e R s m args below meth c 6 P w 15 [] [va_rf s0] := by
  intro H locs cells slots ls S hl
  unfold vc_X0_addPattern_15 at hv
  refine wq_astore X (i := 5) (lv' := [(5, va_rf s0)]) dX0_addPattern_15 hl (by decide) rfl (fun ls hl => ?_)
  refine lv_iconst (v := (1 : Int32)) X.hx X.hb dX0_addPattern_17 (by decide) ?_
  exact wr_iret X S rfl hv dX0_addPattern_18
set_option maxHeartbeats 4000000 in
theorem wk_X0_addPattern_0 {G : wv_G} {p : Program} {e : Env} {R : Room} {s : State} {m : MethodId} {args : Array Value} {below : List Frame} {meth : Method} {c : Code} {fr : Nat} {P : wv_R → wv_H → Prop} (X : wv_ok G p R s m args meth c fr "WeaversgateLaw" cX0_addPattern 6 (Option.some Jvm.ClassFile.FieldType.int) "addPattern" [(0, 12, 15, 21), (0, 12, 19, 34), (0, 12, 23, 15)]) {v0 : Option Nat} {v1 : Int32} {v2 : Int32} {v3 : Int32} {v4 : Option Nat} {w : wv_W} (hv : vc_X0_addPattern_0 G fr P v0 v1 v2 v3 v4 w) : wv_J G p e R s m args below meth c 6 P w 0 [(0, va_rf v0), (1, .int v1), (2, .int v2), (3, .int v3), (4, va_rf v4)] [] := by
  intro H locs cells slots ls S hl
  unfold vc_X0_addPattern_0 at hv
  refine wq_aload X dX0_addPattern_0 (lv_at hl 4 rfl) ?_
  refine lv_iconst (v := (0 : Int32)) X.hx X.hb dX0_addPattern_2 (by decide) ?_
  refine wq_aload_n X dX0_addPattern_3 rfl (lv_at hl 0 rfl) ?_
  refine lv_iload_n X.hx X.hb dX0_addPattern_4 rfl (lv_at hl 1 rfl) ?_
  refine lv_iload_n X.hx X.hb dX0_addPattern_5 rfl (lv_at hl 2 rfl) ?_
  refine lv_iload_n X.hx X.hb dX0_addPattern_6 rfl (lv_at hl 3 rfl) ?_
  refine wq_cV_I X S hv q1377 q1378 q1379 q60 ⟨by decide +kernel, by decide +kernel⟩ (nA := 3) (As := [.int v1, .int v2, .int v3]) (by decide +kernel) rfl rfl (by simp [wv_rfc, wv_kI, wv_kJ, wv_kF, wv_kD]) hl.1 dX0_addPattern_7 (fun x7 w7 H locs cells slots S hv => ?_) ?_
  · refine lv_i2l X.hx X.hb dX0_addPattern_10 rfl ?_
    refine wq_sl X S hv dX0_addPattern_11 (fun w11 H locs S hv => ?_)
    refine lv_goto (tgt := 27) X.hx X.hb dX0_addPattern_12 (by decide) ?_
    refine lv_iconst (v := (0 : Int32)) X.hx X.hb dX0_addPattern_27 (by decide) ?_
    exact wr_iret X S rfl hv dX0_addPattern_28
  · intro E q w H locs cells slots S hv hth
    by_cases hE : E = "java/lang/IllegalArgumentException"
    · subst hE
      have hv := hv.1 rfl
      refine wr_catch X [] (0, 12, 15, 21) [(0, 12, 19, 34), (0, 12, 23, 15)] rfl (fun z hz => by cases hz) rfl (by decide) q1318 q382 hth ?_
      exact wk_X0_addPattern_15 X  hv H locs cells slots ls S (lv_sub hl [] rfl)
    · have hv := hv.2 hE
      have hN0 := va_Nc.moved X.hW.alike hv.1
      have hv := hv.2
      by_cases hE : E = "java/util/NoSuchElementException"
      · subst hE
        have hv := hv.1 rfl
        refine wr_catch X [(0, 12, 15, 21)] (0, 12, 19, 34) [(0, 12, 23, 15)] rfl (List.forall_mem_cons.mpr ⟨(Or.inr ⟨by decide, "java/lang/IllegalArgumentException", q1318, hN0⟩), (fun z hz => absurd hz List.not_mem_nil)⟩) rfl (by decide) q1376 q1442 hth ?_
        exact wk_X0_addPattern_19 X  hv H locs cells slots ls S (lv_sub hl [] rfl)
      · have hv := hv.2 hE
        have hN1 := va_Nc.moved X.hW.alike hv.1
        have hv := hv.2
        by_cases hE : E = "java/lang/IllegalStateException"
        · subst hE
          have hv := hv.1 rfl
          refine wr_catch X [(0, 12, 15, 21), (0, 12, 19, 34)] (0, 12, 23, 15) [] rfl (List.forall_mem_cons.mpr ⟨(Or.inr ⟨by decide, "java/lang/IllegalArgumentException", q1318, hN0⟩), (List.forall_mem_cons.mpr ⟨(Or.inr ⟨by decide, "java/util/NoSuchElementException", q1376, hN1⟩), (fun z hz => absurd hz List.not_mem_nil)⟩)⟩) rfl (by decide) q1234 q1269 hth ?_
          exact wk_X0_addPattern_23 X  hv H locs cells slots ls S (lv_sub hl [] rfl)
        · have hv := hv.2 hE
          have hN2 := va_Nc.moved X.hW.alike hv.1
          have hv := hv.2
          exact wr_outP X S hv hth (List.forall_mem_cons.mpr ⟨(Or.inr ⟨by decide, "java/lang/IllegalArgumentException", q1318, hN0⟩), (List.forall_mem_cons.mpr ⟨(Or.inr ⟨by decide, "java/util/NoSuchElementException", q1376, hN1⟩), (List.forall_mem_cons.mpr ⟨(Or.inr ⟨by decide, "java/lang/IllegalStateException", q1234, hN2⟩), (fun z hz => absurd hz List.not_mem_nil)⟩)⟩)⟩)
theorem wk_X0_addPattern {G : wv_G} (hG : wv_G0 G) {v0 : Option Nat} {v1 : Int32} {v2 : Int32} {v3 : Int32} {v4 : Option Nat} {h : wv_H} {fr kc ks : Nat} {P : wv_R → wv_H → Prop} (hv : vc_X0_addPattern_0 G fr P v0 v1 v2 v3 v4 (h, kc, ks)) : wv_C G yX0_addPattern [va_rf v0, .int v1, .int v2, .int v3, va_rf v4] h fr kc ks P := by
  refine wv_enterW (lv := [(0, va_rf v0), (1, .int v1), (2, .int v2), (3, .int v3), (4, va_rf v4)]) hG (by decide +kernel) q1375 (by decide) (by simp [lg_sl, wv_rfc, wv_kI, wv_kJ, wv_kF, wv_kD]) (by simp [lv_args, wv_rfc, wv_kI, wv_kJ, wv_kF, wv_kD]) ?_
  intro p e R s m args below meth c X H locs cells slots ls S hl
  exact wk_X0_addPattern_0 X hv H locs cells slots ls S (lv_sub hl [0, 1, 2, 3, 4] rfl)

def vc_X0_addStep_27 (G : wv_G) (fr : Nat) (P : wv_R → wv_H → Prop) (s0 : Option Nat) (w : wv_W) : Prop :=
  P (.inl (some (.int (3 : Int32)))) w.1
def vc_X0_addStep_23 (G : wv_G) (fr : Nat) (P : wv_R → wv_H → Prop) (s0 : Option Nat) (w : wv_W) : Prop :=
  P (.inl (some (.int (2 : Int32)))) w.1
def vc_X0_addStep_19 (G : wv_G) (fr : Nat) (P : wv_R → wv_H → Prop) (s0 : Option Nat) (w : wv_W) : Prop :=
  P (.inl (some (.int (1 : Int32)))) w.1
def vc_X0_addStep_0 (G : wv_G) (fr : Nat) (P : wv_R → wv_H → Prop) (v0 : Option Nat) (v1 : Int32) (v2 : Int32) (v3 : Int32) (v4 : Int32) (v5 : Int32) (v6 : Option Nat) (w : wv_W) : Prop :=
  wv_cV G fr yX1_addStep v0 [.int v1, .int v2, .int v3, .int v4, .int v5] w (wv_rI (fun x11 w11 => wv_sl G w11 v6 (0 : Int32) (Int32.toInt64 x11) (fun w15 => P (.inl (some (.int (0 : Int32)))) w15.1)) (fun E q w => (E = "java/lang/IndexOutOfBoundsException" → vc_X0_addStep_19 G fr P (some q) w) ∧ (¬ E = "java/lang/IndexOutOfBoundsException" → (va_Nc E "java/lang/IndexOutOfBoundsException" G.2.1 ∧ (E = "java/lang/IllegalArgumentException" → vc_X0_addStep_23 G fr P (some q) w) ∧ (¬ E = "java/lang/IllegalArgumentException" → (va_Nc E "java/lang/IllegalArgumentException" G.2.1 ∧ (E = "java/lang/IllegalStateException" → vc_X0_addStep_27 G fr P (some q) w) ∧ (¬ E = "java/lang/IllegalStateException" → (va_Nc E "java/lang/IllegalStateException" G.2.1 ∧ P (.inr (E, q)) w.1))))))))
set_option maxHeartbeats 4000000 in
theorem wk_X0_addStep_27 {G : wv_G} {p : Program} {e : Env} {R : Room} {s : State} {m : MethodId} {args : Array Value} {below : List Frame} {meth : Method} {c : Code} {fr : Nat} {P : wv_R → wv_H → Prop} (X : wv_ok G p R s m args meth c fr "WeaversgateLaw" cX0_addStep 8 (Option.some Jvm.ClassFile.FieldType.int) "addStep" [(0, 16, 19, 13), (0, 16, 23, 21), (0, 16, 27, 15)]) {s0 : Option Nat} {w : wv_W} (hv : vc_X0_addStep_27 G fr P s0 w) : wv_J G p e R s m args below meth c 8 P w 27 [] [va_rf s0] := by
  intro H locs cells slots ls S hl
  unfold vc_X0_addStep_27 at hv
  refine wq_astore X (i := 7) (lv' := [(7, va_rf s0)]) dX0_addStep_27 hl (by decide) rfl (fun ls hl => ?_)
  refine lv_iconst (v := (3 : Int32)) X.hx X.hb dX0_addStep_29 (by decide) ?_
  exact wr_iret X S rfl hv dX0_addStep_30
set_option maxHeartbeats 4000000 in
theorem wk_X0_addStep_23 {G : wv_G} {p : Program} {e : Env} {R : Room} {s : State} {m : MethodId} {args : Array Value} {below : List Frame} {meth : Method} {c : Code} {fr : Nat} {P : wv_R → wv_H → Prop} (X : wv_ok G p R s m args meth c fr "WeaversgateLaw" cX0_addStep 8 (Option.some Jvm.ClassFile.FieldType.int) "addStep" [(0, 16, 19, 13), (0, 16, 23, 21), (0, 16, 27, 15)]) {s0 : Option Nat} {w : wv_W} (hv : vc_X0_addStep_23 G fr P s0 w) : wv_J G p e R s m args below meth c 8 P w 23 [] [va_rf s0] := by
  intro H locs cells slots ls S hl
  unfold vc_X0_addStep_23 at hv
  refine wq_astore X (i := 7) (lv' := [(7, va_rf s0)]) dX0_addStep_23 hl (by decide) rfl (fun ls hl => ?_)
  refine lv_iconst (v := (2 : Int32)) X.hx X.hb dX0_addStep_25 (by decide) ?_
  exact wr_iret X S rfl hv dX0_addStep_26
set_option maxHeartbeats 4000000 in
theorem wk_X0_addStep_19 {G : wv_G} {p : Program} {e : Env} {R : Room} {s : State} {m : MethodId} {args : Array Value} {below : List Frame} {meth : Method} {c : Code} {fr : Nat} {P : wv_R → wv_H → Prop} (X : wv_ok G p R s m args meth c fr "WeaversgateLaw" cX0_addStep 8 (Option.some Jvm.ClassFile.FieldType.int) "addStep" [(0, 16, 19, 13), (0, 16, 23, 21), (0, 16, 27, 15)]) {s0 : Option Nat} {w : wv_W} (hv : vc_X0_addStep_19 G fr P s0 w) : wv_J G p e R s m args below meth c 8 P w 19 [] [va_rf s0] := by
  intro H locs cells slots ls S hl
  unfold vc_X0_addStep_19 at hv
  refine wq_astore X (i := 7) (lv' := [(7, va_rf s0)]) dX0_addStep_19 hl (by decide) rfl (fun ls hl => ?_)
  refine lv_iconst (v := (1 : Int32)) X.hx X.hb dX0_addStep_21 (by decide) ?_
  exact wr_iret X S rfl hv dX0_addStep_22
set_option maxHeartbeats 4000000 in
theorem wk_X0_addStep_0 {G : wv_G} {p : Program} {e : Env} {R : Room} {s : State} {m : MethodId} {args : Array Value} {below : List Frame} {meth : Method} {c : Code} {fr : Nat} {P : wv_R → wv_H → Prop} (X : wv_ok G p R s m args meth c fr "WeaversgateLaw" cX0_addStep 8 (Option.some Jvm.ClassFile.FieldType.int) "addStep" [(0, 16, 19, 13), (0, 16, 23, 21), (0, 16, 27, 15)]) {v0 : Option Nat} {v1 : Int32} {v2 : Int32} {v3 : Int32} {v4 : Int32} {v5 : Int32} {v6 : Option Nat} {w : wv_W} (hv : vc_X0_addStep_0 G fr P v0 v1 v2 v3 v4 v5 v6 w) : wv_J G p e R s m args below meth c 8 P w 0 [(0, va_rf v0), (1, .int v1), (2, .int v2), (3, .int v3), (4, .int v4), (5, .int v5), (6, va_rf v6)] [] := by
  intro H locs cells slots ls S hl
  unfold vc_X0_addStep_0 at hv
  refine wq_aload X dX0_addStep_0 (lv_at hl 6 rfl) ?_
  refine lv_iconst (v := (0 : Int32)) X.hx X.hb dX0_addStep_2 (by decide) ?_
  refine wq_aload_n X dX0_addStep_3 rfl (lv_at hl 0 rfl) ?_
  refine lv_iload_n X.hx X.hb dX0_addStep_4 rfl (lv_at hl 1 rfl) ?_
  refine lv_iload_n X.hx X.hb dX0_addStep_5 rfl (lv_at hl 2 rfl) ?_
  refine lv_iload_n X.hx X.hb dX0_addStep_6 rfl (lv_at hl 3 rfl) ?_
  refine lv_iload X.hx X.hb dX0_addStep_7 (lv_at hl 4 rfl) ?_
  refine lv_iload X.hx X.hb dX0_addStep_9 (lv_at hl 5 rfl) ?_
  refine wq_cV_I X S hv q1319 q1320 q1321 q60 ⟨by decide +kernel, by decide +kernel⟩ (nA := 5) (As := [.int v1, .int v2, .int v3, .int v4, .int v5]) (by decide +kernel) rfl rfl (by simp [wv_rfc, wv_kI, wv_kJ, wv_kF, wv_kD]) hl.1 dX0_addStep_11 (fun x11 w11 H locs cells slots S hv => ?_) ?_
  · refine lv_i2l X.hx X.hb dX0_addStep_14 rfl ?_
    refine wq_sl X S hv dX0_addStep_15 (fun w15 H locs S hv => ?_)
    refine lv_goto (tgt := 31) X.hx X.hb dX0_addStep_16 (by decide) ?_
    refine lv_iconst (v := (0 : Int32)) X.hx X.hb dX0_addStep_31 (by decide) ?_
    exact wr_iret X S rfl hv dX0_addStep_32
  · intro E q w H locs cells slots S hv hth
    by_cases hE : E = "java/lang/IndexOutOfBoundsException"
    · subst hE
      have hv := hv.1 rfl
      refine wr_catch X [] (0, 16, 19, 13) [(0, 16, 23, 21), (0, 16, 27, 15)] rfl (fun z hz => by cases hz) rfl (by decide) q1215 q1251 hth ?_
      exact wk_X0_addStep_19 X  hv H locs cells slots ls S (lv_sub hl [] rfl)
    · have hv := hv.2 hE
      have hN0 := va_Nc.moved X.hW.alike hv.1
      have hv := hv.2
      by_cases hE : E = "java/lang/IllegalArgumentException"
      · subst hE
        have hv := hv.1 rfl
        refine wr_catch X [(0, 16, 19, 13)] (0, 16, 23, 21) [(0, 16, 27, 15)] rfl (List.forall_mem_cons.mpr ⟨(Or.inr ⟨by decide, "java/lang/IndexOutOfBoundsException", q1215, hN0⟩), (fun z hz => absurd hz List.not_mem_nil)⟩) rfl (by decide) q1318 q382 hth ?_
        exact wk_X0_addStep_23 X  hv H locs cells slots ls S (lv_sub hl [] rfl)
      · have hv := hv.2 hE
        have hN1 := va_Nc.moved X.hW.alike hv.1
        have hv := hv.2
        by_cases hE : E = "java/lang/IllegalStateException"
        · subst hE
          have hv := hv.1 rfl
          refine wr_catch X [(0, 16, 19, 13), (0, 16, 23, 21)] (0, 16, 27, 15) [] rfl (List.forall_mem_cons.mpr ⟨(Or.inr ⟨by decide, "java/lang/IndexOutOfBoundsException", q1215, hN0⟩), (List.forall_mem_cons.mpr ⟨(Or.inr ⟨by decide, "java/lang/IllegalArgumentException", q1318, hN1⟩), (fun z hz => absurd hz List.not_mem_nil)⟩)⟩) rfl (by decide) q1234 q1269 hth ?_
          exact wk_X0_addStep_27 X  hv H locs cells slots ls S (lv_sub hl [] rfl)
        · have hv := hv.2 hE
          have hN2 := va_Nc.moved X.hW.alike hv.1
          have hv := hv.2
          exact wr_outP X S hv hth (List.forall_mem_cons.mpr ⟨(Or.inr ⟨by decide, "java/lang/IndexOutOfBoundsException", q1215, hN0⟩), (List.forall_mem_cons.mpr ⟨(Or.inr ⟨by decide, "java/lang/IllegalArgumentException", q1318, hN1⟩), (List.forall_mem_cons.mpr ⟨(Or.inr ⟨by decide, "java/lang/IllegalStateException", q1234, hN2⟩), (fun z hz => absurd hz List.not_mem_nil)⟩)⟩)⟩)
theorem wk_X0_addStep {G : wv_G} (hG : wv_G0 G) {v0 : Option Nat} {v1 : Int32} {v2 : Int32} {v3 : Int32} {v4 : Int32} {v5 : Int32} {v6 : Option Nat} {h : wv_H} {fr kc ks : Nat} {P : wv_R → wv_H → Prop} (hv : vc_X0_addStep_0 G fr P v0 v1 v2 v3 v4 v5 v6 (h, kc, ks)) : wv_C G yX0_addStep [va_rf v0, .int v1, .int v2, .int v3, .int v4, .int v5, va_rf v6] h fr kc ks P := by
  refine wv_enterW (lv := [(0, va_rf v0), (1, .int v1), (2, .int v2), (3, .int v3), (4, .int v4), (5, .int v5), (6, va_rf v6)]) hG (by decide +kernel) q1317 (by decide) (by simp [lg_sl, wv_rfc, wv_kI, wv_kJ, wv_kF, wv_kD]) (by simp [lv_args, wv_rfc, wv_kI, wv_kJ, wv_kF, wv_kD]) ?_
  intro p e R s m args below meth c X H locs cells slots ls S hl
  exact wk_X0_addStep_0 X hv H locs cells slots ls S (lv_sub hl [0, 1, 2, 3, 4, 5, 6] rfl)

def vc_X0_aspectAt_15 (G : wv_G) (fr : Nat) (P : wv_R → wv_H → Prop) (s0 : Option Nat) (w : wv_W) : Prop :=
  P (.inl (some (.int (2 : Int32)))) w.1
def vc_X0_aspectAt_12 (G : wv_G) (fr : Nat) (P : wv_R → wv_H → Prop) (s0 : Option Nat) (w : wv_W) : Prop :=
  P (.inl (some (.int (1 : Int32)))) w.1
def vc_X0_aspectAt_0 (G : wv_G) (fr : Nat) (P : wv_R → wv_H → Prop) (v0 : Option Nat) (v1 : Int32) (v2 : Option Nat) (w : wv_W) : Prop :=
  wv_cV G fr yX1_aspectAt v0 [.int v1] w (wv_rI (fun x4 w4 => wv_sl G w4 v2 (0 : Int32) (Int32.toInt64 x4) (fun w8 => P (.inl (some (.int (0 : Int32)))) w8.1)) (fun E q w => (E = "java/lang/IllegalArgumentException" → vc_X0_aspectAt_12 G fr P (some q) w) ∧ (¬ E = "java/lang/IllegalArgumentException" → (va_Nc E "java/lang/IllegalArgumentException" G.2.1 ∧ (E = "java/lang/IllegalStateException" → vc_X0_aspectAt_15 G fr P (some q) w) ∧ (¬ E = "java/lang/IllegalStateException" → (va_Nc E "java/lang/IllegalStateException" G.2.1 ∧ P (.inr (E, q)) w.1))))))
set_option maxHeartbeats 4000000 in
theorem wk_X0_aspectAt_15 {G : wv_G} {p : Program} {e : Env} {R : Room} {s : State} {m : MethodId} {args : Array Value} {below : List Frame} {meth : Method} {c : Code} {fr : Nat} {P : wv_R → wv_H → Prop} (X : wv_ok G p R s m args meth c fr "WeaversgateLaw" cX0_aspectAt 4 (Option.some Jvm.ClassFile.FieldType.int) "aspectAt" [(0, 9, 12, 21), (0, 9, 15, 15)]) {s0 : Option Nat} {w : wv_W} (hv : vc_X0_aspectAt_15 G fr P s0 w) : wv_J G p e R s m args below meth c 4 P w 15 [] [va_rf s0] := by
  intro H locs cells slots ls S hl
  unfold vc_X0_aspectAt_15 at hv
  refine wq_astore_n X (i := 3) (lv' := [(3, va_rf s0)]) dX0_aspectAt_15 rfl hl (by decide) rfl (fun ls hl => ?_)
  refine lv_iconst (v := (2 : Int32)) X.hx X.hb dX0_aspectAt_16 (by decide) ?_
  exact wr_iret X S rfl hv dX0_aspectAt_17
set_option maxHeartbeats 4000000 in
theorem wk_X0_aspectAt_12 {G : wv_G} {p : Program} {e : Env} {R : Room} {s : State} {m : MethodId} {args : Array Value} {below : List Frame} {meth : Method} {c : Code} {fr : Nat} {P : wv_R → wv_H → Prop} (X : wv_ok G p R s m args meth c fr "WeaversgateLaw" cX0_aspectAt 4 (Option.some Jvm.ClassFile.FieldType.int) "aspectAt" [(0, 9, 12, 21), (0, 9, 15, 15)]) {s0 : Option Nat} {w : wv_W} (hv : vc_X0_aspectAt_12 G fr P s0 w) : wv_J G p e R s m args below meth c 4 P w 12 [] [va_rf s0] := by
  intro H locs cells slots ls S hl
  unfold vc_X0_aspectAt_12 at hv
  refine wq_astore_n X (i := 3) (lv' := [(3, va_rf s0)]) dX0_aspectAt_12 rfl hl (by decide) rfl (fun ls hl => ?_)
  refine lv_iconst (v := (1 : Int32)) X.hx X.hb dX0_aspectAt_13 (by decide) ?_
  exact wr_iret X S rfl hv dX0_aspectAt_14
set_option maxHeartbeats 4000000 in
theorem wk_X0_aspectAt_0 {G : wv_G} {p : Program} {e : Env} {R : Room} {s : State} {m : MethodId} {args : Array Value} {below : List Frame} {meth : Method} {c : Code} {fr : Nat} {P : wv_R → wv_H → Prop} (X : wv_ok G p R s m args meth c fr "WeaversgateLaw" cX0_aspectAt 4 (Option.some Jvm.ClassFile.FieldType.int) "aspectAt" [(0, 9, 12, 21), (0, 9, 15, 15)]) {v0 : Option Nat} {v1 : Int32} {v2 : Option Nat} {w : wv_W} (hv : vc_X0_aspectAt_0 G fr P v0 v1 v2 w) : wv_J G p e R s m args below meth c 4 P w 0 [(0, va_rf v0), (1, .int v1), (2, va_rf v2)] [] := by
  intro H locs cells slots ls S hl
  unfold vc_X0_aspectAt_0 at hv
  refine wq_aload_n X dX0_aspectAt_0 rfl (lv_at hl 2 rfl) ?_
  refine lv_iconst (v := (0 : Int32)) X.hx X.hb dX0_aspectAt_1 (by decide) ?_
  refine wq_aload_n X dX0_aspectAt_2 rfl (lv_at hl 0 rfl) ?_
  refine lv_iload_n X.hx X.hb dX0_aspectAt_3 rfl (lv_at hl 1 rfl) ?_
  refine wq_cV_I X S hv q1590 q1591 q1592 q60 ⟨by decide +kernel, by decide +kernel⟩ (nA := 1) (As := [.int v1]) (by decide +kernel) rfl rfl (by simp [wv_rfc, wv_kI, wv_kJ, wv_kF, wv_kD]) hl.1 dX0_aspectAt_4 (fun x4 w4 H locs cells slots S hv => ?_) ?_
  · refine lv_i2l X.hx X.hb dX0_aspectAt_7 rfl ?_
    refine wq_sl X S hv dX0_aspectAt_8 (fun w8 H locs S hv => ?_)
    refine lv_goto (tgt := 18) X.hx X.hb dX0_aspectAt_9 (by decide) ?_
    refine lv_iconst (v := (0 : Int32)) X.hx X.hb dX0_aspectAt_18 (by decide) ?_
    exact wr_iret X S rfl hv dX0_aspectAt_19
  · intro E q w H locs cells slots S hv hth
    by_cases hE : E = "java/lang/IllegalArgumentException"
    · subst hE
      have hv := hv.1 rfl
      refine wr_catch X [] (0, 9, 12, 21) [(0, 9, 15, 15)] rfl (fun z hz => by cases hz) rfl (by decide) q1318 q382 hth ?_
      exact wk_X0_aspectAt_12 X  hv H locs cells slots ls S (lv_sub hl [] rfl)
    · have hv := hv.2 hE
      have hN0 := va_Nc.moved X.hW.alike hv.1
      have hv := hv.2
      by_cases hE : E = "java/lang/IllegalStateException"
      · subst hE
        have hv := hv.1 rfl
        refine wr_catch X [(0, 9, 12, 21)] (0, 9, 15, 15) [] rfl (List.forall_mem_cons.mpr ⟨(Or.inr ⟨by decide, "java/lang/IllegalArgumentException", q1318, hN0⟩), (fun z hz => absurd hz List.not_mem_nil)⟩) rfl (by decide) q1234 q1269 hth ?_
        exact wk_X0_aspectAt_15 X  hv H locs cells slots ls S (lv_sub hl [] rfl)
      · have hv := hv.2 hE
        have hN1 := va_Nc.moved X.hW.alike hv.1
        have hv := hv.2
        exact wr_outP X S hv hth (List.forall_mem_cons.mpr ⟨(Or.inr ⟨by decide, "java/lang/IllegalArgumentException", q1318, hN0⟩), (List.forall_mem_cons.mpr ⟨(Or.inr ⟨by decide, "java/lang/IllegalStateException", q1234, hN1⟩), (fun z hz => absurd hz List.not_mem_nil)⟩)⟩)
theorem wk_X0_aspectAt {G : wv_G} (hG : wv_G0 G) {v0 : Option Nat} {v1 : Int32} {v2 : Option Nat} {h : wv_H} {fr kc ks : Nat} {P : wv_R → wv_H → Prop} (hv : vc_X0_aspectAt_0 G fr P v0 v1 v2 (h, kc, ks)) : wv_C G yX0_aspectAt [va_rf v0, .int v1, va_rf v2] h fr kc ks P := by
  refine wv_enterW (lv := [(0, va_rf v0), (1, .int v1), (2, va_rf v2)]) hG (by decide +kernel) q1589 (by decide) (by simp [lg_sl, wv_rfc, wv_kI, wv_kJ, wv_kF, wv_kD]) (by simp [lv_args, wv_rfc, wv_kI, wv_kJ, wv_kF, wv_kD]) ?_
  intro p e R s m args below meth c X H locs cells slots ls S hl
  exact wk_X0_aspectAt_0 X hv H locs cells slots ls S (lv_sub hl [0, 1, 2] rfl)

def vc_X0_dropBody_17 (G : wv_G) (fr : Nat) (P : wv_R → wv_H → Prop) (s0 : Option Nat) (w : wv_W) : Prop :=
  P (.inl (some (.int (2 : Int32)))) w.1
def vc_X0_dropBody_13 (G : wv_G) (fr : Nat) (P : wv_R → wv_H → Prop) (s0 : Option Nat) (w : wv_W) : Prop :=
  P (.inl (some (.int (1 : Int32)))) w.1
def vc_X0_dropBody_0 (G : wv_G) (fr : Nat) (P : wv_R → wv_H → Prop) (v0 : Option Nat) (v1 : Int32) (v2 : Int32) (v3 : Option Nat) (w : wv_W) : Prop :=
  wv_cV G fr yX1_dropBody v0 [.int v1, .int v2] w (wv_rI (fun x5 w5 => wv_sl G w5 v3 (0 : Int32) (Int32.toInt64 x5) (fun w9 => P (.inl (some (.int (0 : Int32)))) w9.1)) (fun E q w => (E = "java/lang/IndexOutOfBoundsException" → vc_X0_dropBody_13 G fr P (some q) w) ∧ (¬ E = "java/lang/IndexOutOfBoundsException" → (va_Nc E "java/lang/IndexOutOfBoundsException" G.2.1 ∧ (E = "java/lang/IllegalArgumentException" → vc_X0_dropBody_17 G fr P (some q) w) ∧ (¬ E = "java/lang/IllegalArgumentException" → (va_Nc E "java/lang/IllegalArgumentException" G.2.1 ∧ P (.inr (E, q)) w.1))))))
set_option maxHeartbeats 4000000 in
theorem wk_X0_dropBody_17 {G : wv_G} {p : Program} {e : Env} {R : Room} {s : State} {m : MethodId} {args : Array Value} {below : List Frame} {meth : Method} {c : Code} {fr : Nat} {P : wv_R → wv_H → Prop} (X : wv_ok G p R s m args meth c fr "WeaversgateLaw" cX0_dropBody 5 (Option.some Jvm.ClassFile.FieldType.int) "dropBody" [(0, 10, 13, 13), (0, 10, 17, 21)]) {s0 : Option Nat} {w : wv_W} (hv : vc_X0_dropBody_17 G fr P s0 w) : wv_J G p e R s m args below meth c 5 P w 17 [] [va_rf s0] := by
  intro H locs cells slots ls S hl
  unfold vc_X0_dropBody_17 at hv
  refine wq_astore X (i := 4) (lv' := [(4, va_rf s0)]) dX0_dropBody_17 hl (by decide) rfl (fun ls hl => ?_)
  refine lv_iconst (v := (2 : Int32)) X.hx X.hb dX0_dropBody_19 (by decide) ?_
  exact wr_iret X S rfl hv dX0_dropBody_20
set_option maxHeartbeats 4000000 in
theorem wk_X0_dropBody_13 {G : wv_G} {p : Program} {e : Env} {R : Room} {s : State} {m : MethodId} {args : Array Value} {below : List Frame} {meth : Method} {c : Code} {fr : Nat} {P : wv_R → wv_H → Prop} (X : wv_ok G p R s m args meth c fr "WeaversgateLaw" cX0_dropBody 5 (Option.some Jvm.ClassFile.FieldType.int) "dropBody" [(0, 10, 13, 13), (0, 10, 17, 21)]) {s0 : Option Nat} {w : wv_W} (hv : vc_X0_dropBody_13 G fr P s0 w) : wv_J G p e R s m args below meth c 5 P w 13 [] [va_rf s0] := by
  intro H locs cells slots ls S hl
  unfold vc_X0_dropBody_13 at hv
  refine wq_astore X (i := 4) (lv' := [(4, va_rf s0)]) dX0_dropBody_13 hl (by decide) rfl (fun ls hl => ?_)
  refine lv_iconst (v := (1 : Int32)) X.hx X.hb dX0_dropBody_15 (by decide) ?_
  exact wr_iret X S rfl hv dX0_dropBody_16
set_option maxHeartbeats 4000000 in
theorem wk_X0_dropBody_0 {G : wv_G} {p : Program} {e : Env} {R : Room} {s : State} {m : MethodId} {args : Array Value} {below : List Frame} {meth : Method} {c : Code} {fr : Nat} {P : wv_R → wv_H → Prop} (X : wv_ok G p R s m args meth c fr "WeaversgateLaw" cX0_dropBody 5 (Option.some Jvm.ClassFile.FieldType.int) "dropBody" [(0, 10, 13, 13), (0, 10, 17, 21)]) {v0 : Option Nat} {v1 : Int32} {v2 : Int32} {v3 : Option Nat} {w : wv_W} (hv : vc_X0_dropBody_0 G fr P v0 v1 v2 v3 w) : wv_J G p e R s m args below meth c 5 P w 0 [(0, va_rf v0), (1, .int v1), (2, .int v2), (3, va_rf v3)] [] := by
  intro H locs cells slots ls S hl
  unfold vc_X0_dropBody_0 at hv
  refine wq_aload_n X dX0_dropBody_0 rfl (lv_at hl 3 rfl) ?_
  refine lv_iconst (v := (0 : Int32)) X.hx X.hb dX0_dropBody_1 (by decide) ?_
  refine wq_aload_n X dX0_dropBody_2 rfl (lv_at hl 0 rfl) ?_
  refine lv_iload_n X.hx X.hb dX0_dropBody_3 rfl (lv_at hl 1 rfl) ?_
  refine lv_iload_n X.hx X.hb dX0_dropBody_4 rfl (lv_at hl 2 rfl) ?_
  refine wq_cV_I X S hv q1362 q1363 q1364 q60 ⟨by decide +kernel, by decide +kernel⟩ (nA := 2) (As := [.int v1, .int v2]) (by decide +kernel) rfl rfl (by simp [wv_rfc, wv_kI, wv_kJ, wv_kF, wv_kD]) hl.1 dX0_dropBody_5 (fun x5 w5 H locs cells slots S hv => ?_) ?_
  · refine lv_i2l X.hx X.hb dX0_dropBody_8 rfl ?_
    refine wq_sl X S hv dX0_dropBody_9 (fun w9 H locs S hv => ?_)
    refine lv_goto (tgt := 21) X.hx X.hb dX0_dropBody_10 (by decide) ?_
    refine lv_iconst (v := (0 : Int32)) X.hx X.hb dX0_dropBody_21 (by decide) ?_
    exact wr_iret X S rfl hv dX0_dropBody_22
  · intro E q w H locs cells slots S hv hth
    by_cases hE : E = "java/lang/IndexOutOfBoundsException"
    · subst hE
      have hv := hv.1 rfl
      refine wr_catch X [] (0, 10, 13, 13) [(0, 10, 17, 21)] rfl (fun z hz => by cases hz) rfl (by decide) q1215 q1251 hth ?_
      exact wk_X0_dropBody_13 X  hv H locs cells slots ls S (lv_sub hl [] rfl)
    · have hv := hv.2 hE
      have hN0 := va_Nc.moved X.hW.alike hv.1
      have hv := hv.2
      by_cases hE : E = "java/lang/IllegalArgumentException"
      · subst hE
        have hv := hv.1 rfl
        refine wr_catch X [(0, 10, 13, 13)] (0, 10, 17, 21) [] rfl (List.forall_mem_cons.mpr ⟨(Or.inr ⟨by decide, "java/lang/IndexOutOfBoundsException", q1215, hN0⟩), (fun z hz => absurd hz List.not_mem_nil)⟩) rfl (by decide) q1318 q382 hth ?_
        exact wk_X0_dropBody_17 X  hv H locs cells slots ls S (lv_sub hl [] rfl)
      · have hv := hv.2 hE
        have hN1 := va_Nc.moved X.hW.alike hv.1
        have hv := hv.2
        exact wr_outP X S hv hth (List.forall_mem_cons.mpr ⟨(Or.inr ⟨by decide, "java/lang/IndexOutOfBoundsException", q1215, hN0⟩), (List.forall_mem_cons.mpr ⟨(Or.inr ⟨by decide, "java/lang/IllegalArgumentException", q1318, hN1⟩), (fun z hz => absurd hz List.not_mem_nil)⟩)⟩)
theorem wk_X0_dropBody {G : wv_G} (hG : wv_G0 G) {v0 : Option Nat} {v1 : Int32} {v2 : Int32} {v3 : Option Nat} {h : wv_H} {fr kc ks : Nat} {P : wv_R → wv_H → Prop} (hv : vc_X0_dropBody_0 G fr P v0 v1 v2 v3 (h, kc, ks)) : wv_C G yX0_dropBody [va_rf v0, .int v1, .int v2, va_rf v3] h fr kc ks P := by
  refine wv_enterW (lv := [(0, va_rf v0), (1, .int v1), (2, .int v2), (3, va_rf v3)]) hG (by decide +kernel) q1361 (by decide) (by simp [lg_sl, wv_rfc, wv_kI, wv_kJ, wv_kF, wv_kD]) (by simp [lv_args, wv_rfc, wv_kI, wv_kJ, wv_kF, wv_kD]) ?_
  intro p e R s m args below meth c X H locs cells slots ls S hl
  exact wk_X0_dropBody_0 X hv H locs cells slots ls S (lv_sub hl [0, 1, 2, 3] rfl)

def vc_X0_finds_17 (G : wv_G) (fr : Nat) (P : wv_R → wv_H → Prop) (s0 : Option Nat) (w : wv_W) : Prop :=
  P (.inl (some (.int (2 : Int32)))) w.1
def vc_X0_finds_13 (G : wv_G) (fr : Nat) (P : wv_R → wv_H → Prop) (s0 : Option Nat) (w : wv_W) : Prop :=
  P (.inl (some (.int (1 : Int32)))) w.1
def vc_X0_finds_0 (G : wv_G) (fr : Nat) (P : wv_R → wv_H → Prop) (v0 : Option Nat) (v1 : Int32) (v2 : Int32) (v3 : Option Nat) (w : wv_W) : Prop :=
  wv_cV G fr yX1_finds v0 [.int v1, .int v2] w (wv_rI (fun x5 w5 => wv_sl G w5 v3 (0 : Int32) (Int32.toInt64 x5) (fun w9 => P (.inl (some (.int (0 : Int32)))) w9.1)) (fun E q w => (E = "java/lang/IndexOutOfBoundsException" → vc_X0_finds_13 G fr P (some q) w) ∧ (¬ E = "java/lang/IndexOutOfBoundsException" → (va_Nc E "java/lang/IndexOutOfBoundsException" G.2.1 ∧ (E = "java/lang/IllegalArgumentException" → vc_X0_finds_17 G fr P (some q) w) ∧ (¬ E = "java/lang/IllegalArgumentException" → (va_Nc E "java/lang/IllegalArgumentException" G.2.1 ∧ P (.inr (E, q)) w.1))))))
set_option maxHeartbeats 4000000 in
theorem wk_X0_finds_17 {G : wv_G} {p : Program} {e : Env} {R : Room} {s : State} {m : MethodId} {args : Array Value} {below : List Frame} {meth : Method} {c : Code} {fr : Nat} {P : wv_R → wv_H → Prop} (X : wv_ok G p R s m args meth c fr "WeaversgateLaw" cX0_finds 5 (Option.some Jvm.ClassFile.FieldType.int) "finds" [(0, 10, 13, 13), (0, 10, 17, 21)]) {s0 : Option Nat} {w : wv_W} (hv : vc_X0_finds_17 G fr P s0 w) : wv_J G p e R s m args below meth c 5 P w 17 [] [va_rf s0] := by
  intro H locs cells slots ls S hl
  unfold vc_X0_finds_17 at hv
  refine wq_astore X (i := 4) (lv' := [(4, va_rf s0)]) dX0_finds_17 hl (by decide) rfl (fun ls hl => ?_)
  refine lv_iconst (v := (2 : Int32)) X.hx X.hb dX0_finds_19 (by decide) ?_
  exact wr_iret X S rfl hv dX0_finds_20
set_option maxHeartbeats 4000000 in
theorem wk_X0_finds_13 {G : wv_G} {p : Program} {e : Env} {R : Room} {s : State} {m : MethodId} {args : Array Value} {below : List Frame} {meth : Method} {c : Code} {fr : Nat} {P : wv_R → wv_H → Prop} (X : wv_ok G p R s m args meth c fr "WeaversgateLaw" cX0_finds 5 (Option.some Jvm.ClassFile.FieldType.int) "finds" [(0, 10, 13, 13), (0, 10, 17, 21)]) {s0 : Option Nat} {w : wv_W} (hv : vc_X0_finds_13 G fr P s0 w) : wv_J G p e R s m args below meth c 5 P w 13 [] [va_rf s0] := by
  intro H locs cells slots ls S hl
  unfold vc_X0_finds_13 at hv
  refine wq_astore X (i := 4) (lv' := [(4, va_rf s0)]) dX0_finds_13 hl (by decide) rfl (fun ls hl => ?_)
  refine lv_iconst (v := (1 : Int32)) X.hx X.hb dX0_finds_15 (by decide) ?_
  exact wr_iret X S rfl hv dX0_finds_16
set_option maxHeartbeats 4000000 in
theorem wk_X0_finds_0 {G : wv_G} {p : Program} {e : Env} {R : Room} {s : State} {m : MethodId} {args : Array Value} {below : List Frame} {meth : Method} {c : Code} {fr : Nat} {P : wv_R → wv_H → Prop} (X : wv_ok G p R s m args meth c fr "WeaversgateLaw" cX0_finds 5 (Option.some Jvm.ClassFile.FieldType.int) "finds" [(0, 10, 13, 13), (0, 10, 17, 21)]) {v0 : Option Nat} {v1 : Int32} {v2 : Int32} {v3 : Option Nat} {w : wv_W} (hv : vc_X0_finds_0 G fr P v0 v1 v2 v3 w) : wv_J G p e R s m args below meth c 5 P w 0 [(0, va_rf v0), (1, .int v1), (2, .int v2), (3, va_rf v3)] [] := by
  intro H locs cells slots ls S hl
  unfold vc_X0_finds_0 at hv
  refine wq_aload_n X dX0_finds_0 rfl (lv_at hl 3 rfl) ?_
  refine lv_iconst (v := (0 : Int32)) X.hx X.hb dX0_finds_1 (by decide) ?_
  refine wq_aload_n X dX0_finds_2 rfl (lv_at hl 0 rfl) ?_
  refine lv_iload_n X.hx X.hb dX0_finds_3 rfl (lv_at hl 1 rfl) ?_
  refine lv_iload_n X.hx X.hb dX0_finds_4 rfl (lv_at hl 2 rfl) ?_
  refine wq_cV_I X S hv q1369 q1370 q1371 q60 ⟨by decide +kernel, by decide +kernel⟩ (nA := 2) (As := [.int v1, .int v2]) (by decide +kernel) rfl rfl (by simp [wv_rfc, wv_kI, wv_kJ, wv_kF, wv_kD]) hl.1 dX0_finds_5 (fun x5 w5 H locs cells slots S hv => ?_) ?_
  · refine lv_i2l X.hx X.hb dX0_finds_8 rfl ?_
    refine wq_sl X S hv dX0_finds_9 (fun w9 H locs S hv => ?_)
    refine lv_goto (tgt := 21) X.hx X.hb dX0_finds_10 (by decide) ?_
    refine lv_iconst (v := (0 : Int32)) X.hx X.hb dX0_finds_21 (by decide) ?_
    exact wr_iret X S rfl hv dX0_finds_22
  · intro E q w H locs cells slots S hv hth
    by_cases hE : E = "java/lang/IndexOutOfBoundsException"
    · subst hE
      have hv := hv.1 rfl
      refine wr_catch X [] (0, 10, 13, 13) [(0, 10, 17, 21)] rfl (fun z hz => by cases hz) rfl (by decide) q1215 q1251 hth ?_
      exact wk_X0_finds_13 X  hv H locs cells slots ls S (lv_sub hl [] rfl)
    · have hv := hv.2 hE
      have hN0 := va_Nc.moved X.hW.alike hv.1
      have hv := hv.2
      by_cases hE : E = "java/lang/IllegalArgumentException"
      · subst hE
        have hv := hv.1 rfl
        refine wr_catch X [(0, 10, 13, 13)] (0, 10, 17, 21) [] rfl (List.forall_mem_cons.mpr ⟨(Or.inr ⟨by decide, "java/lang/IndexOutOfBoundsException", q1215, hN0⟩), (fun z hz => absurd hz List.not_mem_nil)⟩) rfl (by decide) q1318 q382 hth ?_
        exact wk_X0_finds_17 X  hv H locs cells slots ls S (lv_sub hl [] rfl)
      · have hv := hv.2 hE
        have hN1 := va_Nc.moved X.hW.alike hv.1
        have hv := hv.2
        exact wr_outP X S hv hth (List.forall_mem_cons.mpr ⟨(Or.inr ⟨by decide, "java/lang/IndexOutOfBoundsException", q1215, hN0⟩), (List.forall_mem_cons.mpr ⟨(Or.inr ⟨by decide, "java/lang/IllegalArgumentException", q1318, hN1⟩), (fun z hz => absurd hz List.not_mem_nil)⟩)⟩)
theorem wk_X0_finds {G : wv_G} (hG : wv_G0 G) {v0 : Option Nat} {v1 : Int32} {v2 : Int32} {v3 : Option Nat} {h : wv_H} {fr kc ks : Nat} {P : wv_R → wv_H → Prop} (hv : vc_X0_finds_0 G fr P v0 v1 v2 v3 (h, kc, ks)) : wv_C G yX0_finds [va_rf v0, .int v1, .int v2, va_rf v3] h fr kc ks P := by
  refine wv_enterW (lv := [(0, va_rf v0), (1, .int v1), (2, .int v2), (3, va_rf v3)]) hG (by decide +kernel) q1368 (by decide) (by simp [lg_sl, wv_rfc, wv_kI, wv_kJ, wv_kF, wv_kD]) (by simp [lv_args, wv_rfc, wv_kI, wv_kJ, wv_kF, wv_kD]) ?_
  intro p e R s m args below meth c X H locs cells slots ls S hl
  exact wk_X0_finds_0 X hv H locs cells slots ls S (lv_sub hl [0, 1, 2, 3] rfl)

def vc_X0_match_25 (G : wv_G) (fr : Nat) (P : wv_R → wv_H → Prop) (s0 : Option Nat) (w : wv_W) : Prop :=
  P (.inl (some (.int (3 : Int32)))) w.1
def vc_X0_match_21 (G : wv_G) (fr : Nat) (P : wv_R → wv_H → Prop) (s0 : Option Nat) (w : wv_W) : Prop :=
  P (.inl (some (.int (2 : Int32)))) w.1
def vc_X0_match_17 (G : wv_G) (fr : Nat) (P : wv_R → wv_H → Prop) (s0 : Option Nat) (w : wv_W) : Prop :=
  P (.inl (some (.int (1 : Int32)))) w.1
def vc_X0_match_0 (G : wv_G) (fr : Nat) (P : wv_R → wv_H → Prop) (v0 : Option Nat) (v1 : Int32) (v2 : Int32) (v3 : Int32) (v4 : Int32) (v5 : Option Nat) (w : wv_W) : Prop :=
  wv_cV G fr yX1_match v0 [.int v1, .int v2, .int v3, .int v4] w (wv_rI (fun x9 w9 => wv_sl G w9 v5 (0 : Int32) (Int32.toInt64 x9) (fun w13 => P (.inl (some (.int (0 : Int32)))) w13.1)) (fun E q w => (E = "java/lang/IndexOutOfBoundsException" → vc_X0_match_17 G fr P (some q) w) ∧ (¬ E = "java/lang/IndexOutOfBoundsException" → (va_Nc E "java/lang/IndexOutOfBoundsException" G.2.1 ∧ (E = "java/lang/IllegalArgumentException" → vc_X0_match_21 G fr P (some q) w) ∧ (¬ E = "java/lang/IllegalArgumentException" → (va_Nc E "java/lang/IllegalArgumentException" G.2.1 ∧ (E = "java/util/NoSuchElementException" → vc_X0_match_25 G fr P (some q) w) ∧ (¬ E = "java/util/NoSuchElementException" → (va_Nc E "java/util/NoSuchElementException" G.2.1 ∧ P (.inr (E, q)) w.1))))))))
set_option maxHeartbeats 4000000 in
theorem wk_X0_match_25 {G : wv_G} {p : Program} {e : Env} {R : Room} {s : State} {m : MethodId} {args : Array Value} {below : List Frame} {meth : Method} {c : Code} {fr : Nat} {P : wv_R → wv_H → Prop} (X : wv_ok G p R s m args meth c fr "WeaversgateLaw" cX0_match 7 (Option.some Jvm.ClassFile.FieldType.int) "match" [(0, 14, 17, 13), (0, 14, 21, 21), (0, 14, 25, 34)]) {s0 : Option Nat} {w : wv_W} (hv : vc_X0_match_25 G fr P s0 w) : wv_J G p e R s m args below meth c 7 P w 25 [] [va_rf s0] := by
  intro H locs cells slots ls S hl
  unfold vc_X0_match_25 at hv
  refine wq_astore X (i := 6) (lv' := [(6, va_rf s0)]) dX0_match_25 hl (by decide) rfl (fun ls hl => ?_)
  refine lv_iconst (v := (3 : Int32)) X.hx X.hb dX0_match_27 (by decide) ?_
  exact wr_iret X S rfl hv dX0_match_28
set_option maxHeartbeats 4000000 in
theorem wk_X0_match_21 {G : wv_G} {p : Program} {e : Env} {R : Room} {s : State} {m : MethodId} {args : Array Value} {below : List Frame} {meth : Method} {c : Code} {fr : Nat} {P : wv_R → wv_H → Prop} (X : wv_ok G p R s m args meth c fr "WeaversgateLaw" cX0_match 7 (Option.some Jvm.ClassFile.FieldType.int) "match" [(0, 14, 17, 13), (0, 14, 21, 21), (0, 14, 25, 34)]) {s0 : Option Nat} {w : wv_W} (hv : vc_X0_match_21 G fr P s0 w) : wv_J G p e R s m args below meth c 7 P w 21 [] [va_rf s0] := by
  intro H locs cells slots ls S hl
  unfold vc_X0_match_21 at hv
  refine wq_astore X (i := 6) (lv' := [(6, va_rf s0)]) dX0_match_21 hl (by decide) rfl (fun ls hl => ?_)
  refine lv_iconst (v := (2 : Int32)) X.hx X.hb dX0_match_23 (by decide) ?_
  exact wr_iret X S rfl hv dX0_match_24
set_option maxHeartbeats 4000000 in
theorem wk_X0_match_17 {G : wv_G} {p : Program} {e : Env} {R : Room} {s : State} {m : MethodId} {args : Array Value} {below : List Frame} {meth : Method} {c : Code} {fr : Nat} {P : wv_R → wv_H → Prop} (X : wv_ok G p R s m args meth c fr "WeaversgateLaw" cX0_match 7 (Option.some Jvm.ClassFile.FieldType.int) "match" [(0, 14, 17, 13), (0, 14, 21, 21), (0, 14, 25, 34)]) {s0 : Option Nat} {w : wv_W} (hv : vc_X0_match_17 G fr P s0 w) : wv_J G p e R s m args below meth c 7 P w 17 [] [va_rf s0] := by
  intro H locs cells slots ls S hl
  unfold vc_X0_match_17 at hv
  refine wq_astore X (i := 6) (lv' := [(6, va_rf s0)]) dX0_match_17 hl (by decide) rfl (fun ls hl => ?_)
  refine lv_iconst (v := (1 : Int32)) X.hx X.hb dX0_match_19 (by decide) ?_
  exact wr_iret X S rfl hv dX0_match_20
set_option maxHeartbeats 4000000 in
theorem wk_X0_match_0 {G : wv_G} {p : Program} {e : Env} {R : Room} {s : State} {m : MethodId} {args : Array Value} {below : List Frame} {meth : Method} {c : Code} {fr : Nat} {P : wv_R → wv_H → Prop} (X : wv_ok G p R s m args meth c fr "WeaversgateLaw" cX0_match 7 (Option.some Jvm.ClassFile.FieldType.int) "match" [(0, 14, 17, 13), (0, 14, 21, 21), (0, 14, 25, 34)]) {v0 : Option Nat} {v1 : Int32} {v2 : Int32} {v3 : Int32} {v4 : Int32} {v5 : Option Nat} {w : wv_W} (hv : vc_X0_match_0 G fr P v0 v1 v2 v3 v4 v5 w) : wv_J G p e R s m args below meth c 7 P w 0 [(0, va_rf v0), (1, .int v1), (2, .int v2), (3, .int v3), (4, .int v4), (5, va_rf v5)] [] := by
  intro H locs cells slots ls S hl
  unfold vc_X0_match_0 at hv
  refine wq_aload X dX0_match_0 (lv_at hl 5 rfl) ?_
  refine lv_iconst (v := (0 : Int32)) X.hx X.hb dX0_match_2 (by decide) ?_
  refine wq_aload_n X dX0_match_3 rfl (lv_at hl 0 rfl) ?_
  refine lv_iload_n X.hx X.hb dX0_match_4 rfl (lv_at hl 1 rfl) ?_
  refine lv_iload_n X.hx X.hb dX0_match_5 rfl (lv_at hl 2 rfl) ?_
  refine lv_iload_n X.hx X.hb dX0_match_6 rfl (lv_at hl 3 rfl) ?_
  refine lv_iload X.hx X.hb dX0_match_7 (lv_at hl 4 rfl) ?_
  refine wq_cV_I X S hv q1604 q1605 q1606 q60 ⟨by decide +kernel, by decide +kernel⟩ (nA := 4) (As := [.int v1, .int v2, .int v3, .int v4]) (by decide +kernel) rfl rfl (by simp [wv_rfc, wv_kI, wv_kJ, wv_kF, wv_kD]) hl.1 dX0_match_9 (fun x9 w9 H locs cells slots S hv => ?_) ?_
  · refine lv_i2l X.hx X.hb dX0_match_12 rfl ?_
    refine wq_sl X S hv dX0_match_13 (fun w13 H locs S hv => ?_)
    refine lv_goto (tgt := 29) X.hx X.hb dX0_match_14 (by decide) ?_
    refine lv_iconst (v := (0 : Int32)) X.hx X.hb dX0_match_29 (by decide) ?_
    exact wr_iret X S rfl hv dX0_match_30
  · intro E q w H locs cells slots S hv hth
    by_cases hE : E = "java/lang/IndexOutOfBoundsException"
    · subst hE
      have hv := hv.1 rfl
      refine wr_catch X [] (0, 14, 17, 13) [(0, 14, 21, 21), (0, 14, 25, 34)] rfl (fun z hz => by cases hz) rfl (by decide) q1215 q1251 hth ?_
      exact wk_X0_match_17 X  hv H locs cells slots ls S (lv_sub hl [] rfl)
    · have hv := hv.2 hE
      have hN0 := va_Nc.moved X.hW.alike hv.1
      have hv := hv.2
      by_cases hE : E = "java/lang/IllegalArgumentException"
      · subst hE
        have hv := hv.1 rfl
        refine wr_catch X [(0, 14, 17, 13)] (0, 14, 21, 21) [(0, 14, 25, 34)] rfl (List.forall_mem_cons.mpr ⟨(Or.inr ⟨by decide, "java/lang/IndexOutOfBoundsException", q1215, hN0⟩), (fun z hz => absurd hz List.not_mem_nil)⟩) rfl (by decide) q1318 q382 hth ?_
        exact wk_X0_match_21 X  hv H locs cells slots ls S (lv_sub hl [] rfl)
      · have hv := hv.2 hE
        have hN1 := va_Nc.moved X.hW.alike hv.1
        have hv := hv.2
        by_cases hE : E = "java/util/NoSuchElementException"
        · subst hE
          have hv := hv.1 rfl
          refine wr_catch X [(0, 14, 17, 13), (0, 14, 21, 21)] (0, 14, 25, 34) [] rfl (List.forall_mem_cons.mpr ⟨(Or.inr ⟨by decide, "java/lang/IndexOutOfBoundsException", q1215, hN0⟩), (List.forall_mem_cons.mpr ⟨(Or.inr ⟨by decide, "java/lang/IllegalArgumentException", q1318, hN1⟩), (fun z hz => absurd hz List.not_mem_nil)⟩)⟩) rfl (by decide) q1376 q1442 hth ?_
          exact wk_X0_match_25 X  hv H locs cells slots ls S (lv_sub hl [] rfl)
        · have hv := hv.2 hE
          have hN2 := va_Nc.moved X.hW.alike hv.1
          have hv := hv.2
          exact wr_outP X S hv hth (List.forall_mem_cons.mpr ⟨(Or.inr ⟨by decide, "java/lang/IndexOutOfBoundsException", q1215, hN0⟩), (List.forall_mem_cons.mpr ⟨(Or.inr ⟨by decide, "java/lang/IllegalArgumentException", q1318, hN1⟩), (List.forall_mem_cons.mpr ⟨(Or.inr ⟨by decide, "java/util/NoSuchElementException", q1376, hN2⟩), (fun z hz => absurd hz List.not_mem_nil)⟩)⟩)⟩)
theorem wk_X0_match {G : wv_G} (hG : wv_G0 G) {v0 : Option Nat} {v1 : Int32} {v2 : Int32} {v3 : Int32} {v4 : Int32} {v5 : Option Nat} {h : wv_H} {fr kc ks : Nat} {P : wv_R → wv_H → Prop} (hv : vc_X0_match_0 G fr P v0 v1 v2 v3 v4 v5 (h, kc, ks)) : wv_C G yX0_match [va_rf v0, .int v1, .int v2, .int v3, .int v4, va_rf v5] h fr kc ks P := by
  refine wv_enterW (lv := [(0, va_rf v0), (1, .int v1), (2, .int v2), (3, .int v3), (4, .int v4), (5, va_rf v5)]) hG (by decide +kernel) q1603 (by decide) (by simp [lg_sl, wv_rfc, wv_kI, wv_kJ, wv_kF, wv_kD]) (by simp [lv_args, wv_rfc, wv_kI, wv_kJ, wv_kF, wv_kD]) ?_
  intro p e R s m args below meth c X H locs cells slots ls S hl
  exact wk_X0_match_0 X hv H locs cells slots ls S (lv_sub hl [0, 1, 2, 3, 4, 5] rfl)

def vc_X0_meanSteps_10 (G : wv_G) (fr : Nat) (P : wv_R → wv_H → Prop) (s0 : Option Nat) (w : wv_W) : Prop :=
  P (.inl (some (.int (1 : Int32)))) w.1
def vc_X0_meanSteps_0 (G : wv_G) (fr : Nat) (P : wv_R → wv_H → Prop) (v0 : Option Nat) (v1 : Option Nat) (w : wv_W) : Prop :=
  wv_cV G fr yX1_meanSteps v0 [] w (wv_rD (fun x3 w3 => wv_sd G w3 v1 (0 : Int32) x3 (fun w6 => P (.inl (some (.int (0 : Int32)))) w6.1)) (fun E q w => (E = "java/lang/ArithmeticException" → vc_X0_meanSteps_10 G fr P (some q) w) ∧ (¬ E = "java/lang/ArithmeticException" → (va_Nc E "java/lang/ArithmeticException" G.2.1 ∧ P (.inr (E, q)) w.1))))
set_option maxHeartbeats 4000000 in
theorem wk_X0_meanSteps_10 {G : wv_G} {p : Program} {e : Env} {R : Room} {s : State} {m : MethodId} {args : Array Value} {below : List Frame} {meth : Method} {c : Code} {fr : Nat} {P : wv_R → wv_H → Prop} (X : wv_ok G p R s m args meth c fr "WeaversgateLaw" cX0_meanSteps 3 (Option.some Jvm.ClassFile.FieldType.int) "meanSteps" [(0, 7, 10, 87)]) {s0 : Option Nat} {w : wv_W} (hv : vc_X0_meanSteps_10 G fr P s0 w) : wv_J G p e R s m args below meth c 3 P w 10 [] [va_rf s0] := by
  intro H locs cells slots ls S hl
  unfold vc_X0_meanSteps_10 at hv
  refine wq_astore_n X (i := 2) (lv' := [(2, va_rf s0)]) dX0_meanSteps_10 rfl hl (by decide) rfl (fun ls hl => ?_)
  refine lv_iconst (v := (1 : Int32)) X.hx X.hb dX0_meanSteps_11 (by decide) ?_
  exact wr_iret X S rfl hv dX0_meanSteps_12
set_option maxHeartbeats 4000000 in
theorem wk_X0_meanSteps_0 {G : wv_G} {p : Program} {e : Env} {R : Room} {s : State} {m : MethodId} {args : Array Value} {below : List Frame} {meth : Method} {c : Code} {fr : Nat} {P : wv_R → wv_H → Prop} (X : wv_ok G p R s m args meth c fr "WeaversgateLaw" cX0_meanSteps 3 (Option.some Jvm.ClassFile.FieldType.int) "meanSteps" [(0, 7, 10, 87)]) {v0 : Option Nat} {v1 : Option Nat} {w : wv_W} (hv : vc_X0_meanSteps_0 G fr P v0 v1 w) : wv_J G p e R s m args below meth c 3 P w 0 [(0, va_rf v0), (1, va_rf v1)] [] := by
  intro H locs cells slots ls S hl
  unfold vc_X0_meanSteps_0 at hv
  refine wq_aload_n X dX0_meanSteps_0 rfl (lv_at hl 1 rfl) ?_
  refine lv_iconst (v := (0 : Int32)) X.hx X.hb dX0_meanSteps_1 (by decide) ?_
  refine wq_aload_n X dX0_meanSteps_2 rfl (lv_at hl 0 rfl) ?_
  refine wq_cV_D X S hv q1754 q1755 q1756 q60 ⟨by decide +kernel, by decide +kernel⟩ (nA := 0) (As := []) (by decide +kernel) rfl rfl (by simp [wv_rfc, wv_kI, wv_kJ, wv_kF, wv_kD]) hl.1 dX0_meanSteps_3 (fun x3 w3 H locs cells slots S hv => ?_) ?_
  · refine wq_sd X S hv dX0_meanSteps_6 (fun w6 H locs S hv => ?_)
    refine lv_goto (tgt := 13) X.hx X.hb dX0_meanSteps_7 (by decide) ?_
    refine lv_iconst (v := (0 : Int32)) X.hx X.hb dX0_meanSteps_13 (by decide) ?_
    exact wr_iret X S rfl hv dX0_meanSteps_14
  · intro E q w H locs cells slots S hv hth
    by_cases hE : E = "java/lang/ArithmeticException"
    · subst hE
      have hv := hv.1 rfl
      refine wr_catch X [] (0, 7, 10, 87) [] rfl (fun z hz => by cases hz) rfl (by decide) q1728 q1740 hth ?_
      exact wk_X0_meanSteps_10 X  hv H locs cells slots ls S (lv_sub hl [] rfl)
    · have hv := hv.2 hE
      have hN0 := va_Nc.moved X.hW.alike hv.1
      have hv := hv.2
      exact wr_outP X S hv hth (List.forall_mem_cons.mpr ⟨(Or.inr ⟨by decide, "java/lang/ArithmeticException", q1728, hN0⟩), (fun z hz => absurd hz List.not_mem_nil)⟩)
theorem wk_X0_meanSteps {G : wv_G} (hG : wv_G0 G) {v0 : Option Nat} {v1 : Option Nat} {h : wv_H} {fr kc ks : Nat} {P : wv_R → wv_H → Prop} (hv : vc_X0_meanSteps_0 G fr P v0 v1 (h, kc, ks)) : wv_C G yX0_meanSteps [va_rf v0, va_rf v1] h fr kc ks P := by
  refine wv_enterW (lv := [(0, va_rf v0), (1, va_rf v1)]) hG (by decide +kernel) q1753 (by decide) (by simp [lg_sl, wv_rfc, wv_kI, wv_kJ, wv_kF, wv_kD]) (by simp [lv_args, wv_rfc, wv_kI, wv_kJ, wv_kF, wv_kD]) ?_
  intro p e R s m args below meth c X H locs cells slots ls S hl
  exact wk_X0_meanSteps_0 X hv H locs cells slots ls S (lv_sub hl [0, 1] rfl)

def vc_X0_places_17 (G : wv_G) (fr : Nat) (P : wv_R → wv_H → Prop) (s0 : Option Nat) (w : wv_W) : Prop :=
  P (.inl (some (.int (2 : Int32)))) w.1
def vc_X0_places_13 (G : wv_G) (fr : Nat) (P : wv_R → wv_H → Prop) (s0 : Option Nat) (w : wv_W) : Prop :=
  P (.inl (some (.int (1 : Int32)))) w.1
def vc_X0_places_0 (G : wv_G) (fr : Nat) (P : wv_R → wv_H → Prop) (v0 : Option Nat) (v1 : Int32) (v2 : Int32) (v3 : Option Nat) (w : wv_W) : Prop :=
  wv_cV G fr yX1_places v0 [.int v1, .int v2] w (wv_rI (fun x5 w5 => wv_sl G w5 v3 (0 : Int32) (Int32.toInt64 x5) (fun w9 => P (.inl (some (.int (0 : Int32)))) w9.1)) (fun E q w => (E = "java/lang/IndexOutOfBoundsException" → vc_X0_places_13 G fr P (some q) w) ∧ (¬ E = "java/lang/IndexOutOfBoundsException" → (va_Nc E "java/lang/IndexOutOfBoundsException" G.2.1 ∧ (E = "java/lang/IllegalArgumentException" → vc_X0_places_17 G fr P (some q) w) ∧ (¬ E = "java/lang/IllegalArgumentException" → (va_Nc E "java/lang/IllegalArgumentException" G.2.1 ∧ P (.inr (E, q)) w.1))))))
set_option maxHeartbeats 4000000 in
theorem wk_X0_places_17 {G : wv_G} {p : Program} {e : Env} {R : Room} {s : State} {m : MethodId} {args : Array Value} {below : List Frame} {meth : Method} {c : Code} {fr : Nat} {P : wv_R → wv_H → Prop} (X : wv_ok G p R s m args meth c fr "WeaversgateLaw" cX0_places 5 (Option.some Jvm.ClassFile.FieldType.int) "places" [(0, 10, 13, 13), (0, 10, 17, 21)]) {s0 : Option Nat} {w : wv_W} (hv : vc_X0_places_17 G fr P s0 w) : wv_J G p e R s m args below meth c 5 P w 17 [] [va_rf s0] := by
  intro H locs cells slots ls S hl
  unfold vc_X0_places_17 at hv
  refine wq_astore X (i := 4) (lv' := [(4, va_rf s0)]) dX0_places_17 hl (by decide) rfl (fun ls hl => ?_)
  refine lv_iconst (v := (2 : Int32)) X.hx X.hb dX0_places_19 (by decide) ?_
  exact wr_iret X S rfl hv dX0_places_20
set_option maxHeartbeats 4000000 in
theorem wk_X0_places_13 {G : wv_G} {p : Program} {e : Env} {R : Room} {s : State} {m : MethodId} {args : Array Value} {below : List Frame} {meth : Method} {c : Code} {fr : Nat} {P : wv_R → wv_H → Prop} (X : wv_ok G p R s m args meth c fr "WeaversgateLaw" cX0_places 5 (Option.some Jvm.ClassFile.FieldType.int) "places" [(0, 10, 13, 13), (0, 10, 17, 21)]) {s0 : Option Nat} {w : wv_W} (hv : vc_X0_places_13 G fr P s0 w) : wv_J G p e R s m args below meth c 5 P w 13 [] [va_rf s0] := by
  intro H locs cells slots ls S hl
  unfold vc_X0_places_13 at hv
  refine wq_astore X (i := 4) (lv' := [(4, va_rf s0)]) dX0_places_13 hl (by decide) rfl (fun ls hl => ?_)
  refine lv_iconst (v := (1 : Int32)) X.hx X.hb dX0_places_15 (by decide) ?_
  exact wr_iret X S rfl hv dX0_places_16
set_option maxHeartbeats 4000000 in
theorem wk_X0_places_0 {G : wv_G} {p : Program} {e : Env} {R : Room} {s : State} {m : MethodId} {args : Array Value} {below : List Frame} {meth : Method} {c : Code} {fr : Nat} {P : wv_R → wv_H → Prop} (X : wv_ok G p R s m args meth c fr "WeaversgateLaw" cX0_places 5 (Option.some Jvm.ClassFile.FieldType.int) "places" [(0, 10, 13, 13), (0, 10, 17, 21)]) {v0 : Option Nat} {v1 : Int32} {v2 : Int32} {v3 : Option Nat} {w : wv_W} (hv : vc_X0_places_0 G fr P v0 v1 v2 v3 w) : wv_J G p e R s m args below meth c 5 P w 0 [(0, va_rf v0), (1, .int v1), (2, .int v2), (3, va_rf v3)] [] := by
  intro H locs cells slots ls S hl
  unfold vc_X0_places_0 at hv
  refine wq_aload_n X dX0_places_0 rfl (lv_at hl 3 rfl) ?_
  refine lv_iconst (v := (0 : Int32)) X.hx X.hb dX0_places_1 (by decide) ?_
  refine wq_aload_n X dX0_places_2 rfl (lv_at hl 0 rfl) ?_
  refine lv_iload_n X.hx X.hb dX0_places_3 rfl (lv_at hl 1 rfl) ?_
  refine lv_iload_n X.hx X.hb dX0_places_4 rfl (lv_at hl 2 rfl) ?_
  refine wq_cV_I X S hv q1597 q1598 q1599 q60 ⟨by decide +kernel, by decide +kernel⟩ (nA := 2) (As := [.int v1, .int v2]) (by decide +kernel) rfl rfl (by simp [wv_rfc, wv_kI, wv_kJ, wv_kF, wv_kD]) hl.1 dX0_places_5 (fun x5 w5 H locs cells slots S hv => ?_) ?_
  · refine lv_i2l X.hx X.hb dX0_places_8 rfl ?_
    refine wq_sl X S hv dX0_places_9 (fun w9 H locs S hv => ?_)
    refine lv_goto (tgt := 21) X.hx X.hb dX0_places_10 (by decide) ?_
    refine lv_iconst (v := (0 : Int32)) X.hx X.hb dX0_places_21 (by decide) ?_
    exact wr_iret X S rfl hv dX0_places_22
  · intro E q w H locs cells slots S hv hth
    by_cases hE : E = "java/lang/IndexOutOfBoundsException"
    · subst hE
      have hv := hv.1 rfl
      refine wr_catch X [] (0, 10, 13, 13) [(0, 10, 17, 21)] rfl (fun z hz => by cases hz) rfl (by decide) q1215 q1251 hth ?_
      exact wk_X0_places_13 X  hv H locs cells slots ls S (lv_sub hl [] rfl)
    · have hv := hv.2 hE
      have hN0 := va_Nc.moved X.hW.alike hv.1
      have hv := hv.2
      by_cases hE : E = "java/lang/IllegalArgumentException"
      · subst hE
        have hv := hv.1 rfl
        refine wr_catch X [(0, 10, 13, 13)] (0, 10, 17, 21) [] rfl (List.forall_mem_cons.mpr ⟨(Or.inr ⟨by decide, "java/lang/IndexOutOfBoundsException", q1215, hN0⟩), (fun z hz => absurd hz List.not_mem_nil)⟩) rfl (by decide) q1318 q382 hth ?_
        exact wk_X0_places_17 X  hv H locs cells slots ls S (lv_sub hl [] rfl)
      · have hv := hv.2 hE
        have hN1 := va_Nc.moved X.hW.alike hv.1
        have hv := hv.2
        exact wr_outP X S hv hth (List.forall_mem_cons.mpr ⟨(Or.inr ⟨by decide, "java/lang/IndexOutOfBoundsException", q1215, hN0⟩), (List.forall_mem_cons.mpr ⟨(Or.inr ⟨by decide, "java/lang/IllegalArgumentException", q1318, hN1⟩), (fun z hz => absurd hz List.not_mem_nil)⟩)⟩)
theorem wk_X0_places {G : wv_G} (hG : wv_G0 G) {v0 : Option Nat} {v1 : Int32} {v2 : Int32} {v3 : Option Nat} {h : wv_H} {fr kc ks : Nat} {P : wv_R → wv_H → Prop} (hv : vc_X0_places_0 G fr P v0 v1 v2 v3 (h, kc, ks)) : wv_C G yX0_places [va_rf v0, .int v1, .int v2, va_rf v3] h fr kc ks P := by
  refine wv_enterW (lv := [(0, va_rf v0), (1, .int v1), (2, .int v2), (3, va_rf v3)]) hG (by decide +kernel) q1596 (by decide) (by simp [lg_sl, wv_rfc, wv_kI, wv_kJ, wv_kF, wv_kD]) (by simp [lv_args, wv_rfc, wv_kI, wv_kJ, wv_kF, wv_kD]) ?_
  intro p e R s m args below meth c X H locs cells slots ls S hl
  exact wk_X0_places_0 X hv H locs cells slots ls S (lv_sub hl [0, 1, 2, 3] rfl)

def vc_X0_precede_22 (G : wv_G) (fr : Nat) (P : wv_R → wv_H → Prop) (s0 : Option Nat) (w : wv_W) : Prop :=
  P (.inl (some (.int (1 : Int32)))) w.1
def vc_X0_precede_18 (G : wv_G) (fr : Nat) (P : wv_R → wv_H → Prop) (s0 : Int64) (s1 : Int32) (s2 : Option Nat) (w : wv_W) : Prop :=
  wv_sl G w s2 s1 s0 (fun w18 => P (.inl (some (.int (0 : Int32)))) w18.1)
def vc_X0_precede_0 (G : wv_G) (fr : Nat) (P : wv_R → wv_H → Prop) (v0 : Option Nat) (v1 : Int32) (v2 : Int32) (v3 : Int32) (v4 : Option Nat) (w : wv_W) : Prop :=
  wv_cV G fr yX1_precede v0 [.int v1, .int v2, .int v3] w (wv_rI (fun x7 w7 => (x7 = 0 → vc_X0_precede_18 G fr P (0 : Int64) (0 : Int32) v4 w7) ∧ (¬ x7 = 0 → vc_X0_precede_18 G fr P (1 : Int64) (0 : Int32) v4 w7)) (fun E q w => (E = "java/lang/IllegalArgumentException" → vc_X0_precede_22 G fr P (some q) w) ∧ (¬ E = "java/lang/IllegalArgumentException" → (va_Nc E "java/lang/IllegalArgumentException" G.2.1 ∧ P (.inr (E, q)) w.1))))
set_option maxHeartbeats 4000000 in
theorem wk_X0_precede_22 {G : wv_G} {p : Program} {e : Env} {R : Room} {s : State} {m : MethodId} {args : Array Value} {below : List Frame} {meth : Method} {c : Code} {fr : Nat} {P : wv_R → wv_H → Prop} (X : wv_ok G p R s m args meth c fr "WeaversgateLaw" cX0_precede 6 (Option.some Jvm.ClassFile.FieldType.int) "precede" [(0, 19, 22, 21)]) {s0 : Option Nat} {w : wv_W} (hv : vc_X0_precede_22 G fr P s0 w) : wv_J G p e R s m args below meth c 6 P w 22 [] [va_rf s0] := by
  intro H locs cells slots ls S hl
  unfold vc_X0_precede_22 at hv
  refine wq_astore X (i := 5) (lv' := [(5, va_rf s0)]) dX0_precede_22 hl (by decide) rfl (fun ls hl => ?_)
  refine lv_iconst (v := (1 : Int32)) X.hx X.hb dX0_precede_24 (by decide) ?_
  exact wr_iret X S rfl hv dX0_precede_25
set_option maxHeartbeats 4000000 in
theorem wk_X0_precede_18 {G : wv_G} {p : Program} {e : Env} {R : Room} {s : State} {m : MethodId} {args : Array Value} {below : List Frame} {meth : Method} {c : Code} {fr : Nat} {P : wv_R → wv_H → Prop} (X : wv_ok G p R s m args meth c fr "WeaversgateLaw" cX0_precede 6 (Option.some Jvm.ClassFile.FieldType.int) "precede" [(0, 19, 22, 21)]) {s0 : Int64} {s1 : Int32} {s2 : Option Nat} {w : wv_W} (hv : vc_X0_precede_18 G fr P s0 s1 s2 w) : wv_J G p e R s m args below meth c 6 P w 18 [] [.long s0, .int s1, va_rf s2] := by
  intro H locs cells slots ls S hl
  unfold vc_X0_precede_18 at hv
  refine wq_sl X S hv dX0_precede_18 (fun w18 H locs S hv => ?_)
  refine lv_goto (tgt := 26) X.hx X.hb dX0_precede_19 (by decide) ?_
  refine lv_iconst (v := (0 : Int32)) X.hx X.hb dX0_precede_26 (by decide) ?_
  exact wr_iret X S rfl hv dX0_precede_27
set_option maxHeartbeats 4000000 in
theorem wk_X0_precede_0 {G : wv_G} {p : Program} {e : Env} {R : Room} {s : State} {m : MethodId} {args : Array Value} {below : List Frame} {meth : Method} {c : Code} {fr : Nat} {P : wv_R → wv_H → Prop} (X : wv_ok G p R s m args meth c fr "WeaversgateLaw" cX0_precede 6 (Option.some Jvm.ClassFile.FieldType.int) "precede" [(0, 19, 22, 21)]) {v0 : Option Nat} {v1 : Int32} {v2 : Int32} {v3 : Int32} {v4 : Option Nat} {w : wv_W} (hv : vc_X0_precede_0 G fr P v0 v1 v2 v3 v4 w) : wv_J G p e R s m args below meth c 6 P w 0 [(0, va_rf v0), (1, .int v1), (2, .int v2), (3, .int v3), (4, va_rf v4)] [] := by
  intro H locs cells slots ls S hl
  unfold vc_X0_precede_0 at hv
  refine wq_aload X dX0_precede_0 (lv_at hl 4 rfl) ?_
  refine lv_iconst (v := (0 : Int32)) X.hx X.hb dX0_precede_2 (by decide) ?_
  refine wq_aload_n X dX0_precede_3 rfl (lv_at hl 0 rfl) ?_
  refine lv_iload_n X.hx X.hb dX0_precede_4 rfl (lv_at hl 1 rfl) ?_
  refine lv_iload_n X.hx X.hb dX0_precede_5 rfl (lv_at hl 2 rfl) ?_
  refine lv_iload_n X.hx X.hb dX0_precede_6 rfl (lv_at hl 3 rfl) ?_
  refine wq_cV_I X S hv q1583 q1584 q1585 q60 ⟨by decide +kernel, by decide +kernel⟩ (nA := 3) (As := [.int v1, .int v2, .int v3]) (by decide +kernel) rfl rfl (by simp [wv_rfc, wv_kI, wv_kJ, wv_kF, wv_kD]) hl.1 dX0_precede_7 (fun x7 w7 H locs cells slots S hv => ?_) ?_
  · refine lv_if_eq (tgt := 17) X.hx X.hb dX0_precede_10 (by decide) (fun c10 => ?_) (fun c10 => ?_)
    · have hv := hv.1 c10
      refine lv_lconst (v := 0) X.hx X.hb dX0_precede_17 (by decide) ?_
      exact wk_X0_precede_18 X  hv H locs cells slots ls S (lv_sub hl [] rfl)
    · have hv := hv.2 c10
      refine lv_lconst (v := 1) X.hx X.hb dX0_precede_13 (by decide) ?_
      refine lv_goto (tgt := 18) X.hx X.hb dX0_precede_14 (by decide) ?_
      exact wk_X0_precede_18 X  hv H locs cells slots ls S (lv_sub hl [] rfl)
  · intro E q w H locs cells slots S hv hth
    by_cases hE : E = "java/lang/IllegalArgumentException"
    · subst hE
      have hv := hv.1 rfl
      refine wr_catch X [] (0, 19, 22, 21) [] rfl (fun z hz => by cases hz) rfl (by decide) q1318 q382 hth ?_
      exact wk_X0_precede_22 X  hv H locs cells slots ls S (lv_sub hl [] rfl)
    · have hv := hv.2 hE
      have hN0 := va_Nc.moved X.hW.alike hv.1
      have hv := hv.2
      exact wr_outP X S hv hth (List.forall_mem_cons.mpr ⟨(Or.inr ⟨by decide, "java/lang/IllegalArgumentException", q1318, hN0⟩), (fun z hz => absurd hz List.not_mem_nil)⟩)
theorem wk_X0_precede {G : wv_G} (hG : wv_G0 G) {v0 : Option Nat} {v1 : Int32} {v2 : Int32} {v3 : Int32} {v4 : Option Nat} {h : wv_H} {fr kc ks : Nat} {P : wv_R → wv_H → Prop} (hv : vc_X0_precede_0 G fr P v0 v1 v2 v3 v4 (h, kc, ks)) : wv_C G yX0_precede [va_rf v0, .int v1, .int v2, .int v3, va_rf v4] h fr kc ks P := by
  refine wv_enterW (lv := [(0, va_rf v0), (1, .int v1), (2, .int v2), (3, .int v3), (4, va_rf v4)]) hG (by decide +kernel) q1582 (by decide) (by simp [lg_sl, wv_rfc, wv_kI, wv_kJ, wv_kF, wv_kD]) (by simp [lv_args, wv_rfc, wv_kI, wv_kJ, wv_kF, wv_kD]) ?_
  intro p e R s m args below meth c X H locs cells slots ls S hl
  exact wk_X0_precede_0 X hv H locs cells slots ls S (lv_sub hl [0, 1, 2, 3, 4] rfl)

def vc_X0_result_11 (G : wv_G) (fr : Nat) (P : wv_R → wv_H → Prop) (s0 : Option Nat) (w : wv_W) : Prop :=
  P (.inl (some (.int (1 : Int32)))) w.1
def vc_X0_result_0 (G : wv_G) (fr : Nat) (P : wv_R → wv_H → Prop) (v0 : Option Nat) (v1 : Option Nat) (w : wv_W) : Prop :=
  wv_cV G fr yX1_result v0 [] w (wv_rI (fun x3 w3 => wv_sl G w3 v1 (0 : Int32) (Int32.toInt64 x3) (fun w7 => P (.inl (some (.int (0 : Int32)))) w7.1)) (fun E q w => (E = "java/lang/IllegalStateException" → vc_X0_result_11 G fr P (some q) w) ∧ (¬ E = "java/lang/IllegalStateException" → (va_Nc E "java/lang/IllegalStateException" G.2.1 ∧ P (.inr (E, q)) w.1))))
set_option maxHeartbeats 4000000 in
theorem wk_X0_result_11 {G : wv_G} {p : Program} {e : Env} {R : Room} {s : State} {m : MethodId} {args : Array Value} {below : List Frame} {meth : Method} {c : Code} {fr : Nat} {P : wv_R → wv_H → Prop} (X : wv_ok G p R s m args meth c fr "WeaversgateLaw" cX0_result 3 (Option.some Jvm.ClassFile.FieldType.int) "result" [(0, 8, 11, 15)]) {s0 : Option Nat} {w : wv_W} (hv : vc_X0_result_11 G fr P s0 w) : wv_J G p e R s m args below meth c 3 P w 11 [] [va_rf s0] := by
  intro H locs cells slots ls S hl
  unfold vc_X0_result_11 at hv
  refine wq_astore_n X (i := 2) (lv' := [(2, va_rf s0)]) dX0_result_11 rfl hl (by decide) rfl (fun ls hl => ?_)
  refine lv_iconst (v := (1 : Int32)) X.hx X.hb dX0_result_12 (by decide) ?_
  exact wr_iret X S rfl hv dX0_result_13
set_option maxHeartbeats 4000000 in
theorem wk_X0_result_0 {G : wv_G} {p : Program} {e : Env} {R : Room} {s : State} {m : MethodId} {args : Array Value} {below : List Frame} {meth : Method} {c : Code} {fr : Nat} {P : wv_R → wv_H → Prop} (X : wv_ok G p R s m args meth c fr "WeaversgateLaw" cX0_result 3 (Option.some Jvm.ClassFile.FieldType.int) "result" [(0, 8, 11, 15)]) {v0 : Option Nat} {v1 : Option Nat} {w : wv_W} (hv : vc_X0_result_0 G fr P v0 v1 w) : wv_J G p e R s m args below meth c 3 P w 0 [(0, va_rf v0), (1, va_rf v1)] [] := by
  intro H locs cells slots ls S hl
  unfold vc_X0_result_0 at hv
  refine wq_aload_n X dX0_result_0 rfl (lv_at hl 1 rfl) ?_
  refine lv_iconst (v := (0 : Int32)) X.hx X.hb dX0_result_1 (by decide) ?_
  refine wq_aload_n X dX0_result_2 rfl (lv_at hl 0 rfl) ?_
  refine wq_cV_I X S hv q1629 q1630 q1631 q60 ⟨by decide +kernel, by decide +kernel⟩ (nA := 0) (As := []) (by decide +kernel) rfl rfl (by simp [wv_rfc, wv_kI, wv_kJ, wv_kF, wv_kD]) hl.1 dX0_result_3 (fun x3 w3 H locs cells slots S hv => ?_) ?_
  · refine lv_i2l X.hx X.hb dX0_result_6 rfl ?_
    refine wq_sl X S hv dX0_result_7 (fun w7 H locs S hv => ?_)
    refine lv_goto (tgt := 14) X.hx X.hb dX0_result_8 (by decide) ?_
    refine lv_iconst (v := (0 : Int32)) X.hx X.hb dX0_result_14 (by decide) ?_
    exact wr_iret X S rfl hv dX0_result_15
  · intro E q w H locs cells slots S hv hth
    by_cases hE : E = "java/lang/IllegalStateException"
    · subst hE
      have hv := hv.1 rfl
      refine wr_catch X [] (0, 8, 11, 15) [] rfl (fun z hz => by cases hz) rfl (by decide) q1234 q1269 hth ?_
      exact wk_X0_result_11 X  hv H locs cells slots ls S (lv_sub hl [] rfl)
    · have hv := hv.2 hE
      have hN0 := va_Nc.moved X.hW.alike hv.1
      have hv := hv.2
      exact wr_outP X S hv hth (List.forall_mem_cons.mpr ⟨(Or.inr ⟨by decide, "java/lang/IllegalStateException", q1234, hN0⟩), (fun z hz => absurd hz List.not_mem_nil)⟩)
theorem wk_X0_result {G : wv_G} (hG : wv_G0 G) {v0 : Option Nat} {v1 : Option Nat} {h : wv_H} {fr kc ks : Nat} {P : wv_R → wv_H → Prop} (hv : vc_X0_result_0 G fr P v0 v1 (h, kc, ks)) : wv_C G yX0_result [va_rf v0, va_rf v1] h fr kc ks P := by
  refine wv_enterW (lv := [(0, va_rf v0), (1, va_rf v1)]) hG (by decide +kernel) q1628 (by decide) (by simp [lg_sl, wv_rfc, wv_kI, wv_kJ, wv_kF, wv_kD]) (by simp [lv_args, wv_rfc, wv_kI, wv_kJ, wv_kF, wv_kD]) ?_
  intro p e R s m args below meth c X H locs cells slots ls S hl
  exact wk_X0_result_0 X hv H locs cells slots ls S (lv_sub hl [0, 1] rfl)

def vc_X0_run_23 (G : wv_G) (fr : Nat) (P : wv_R → wv_H → Prop) (s0 : Option Nat) (w : wv_W) : Prop :=
  P (.inl (some (.int (3 : Int32)))) w.1
def vc_X0_run_19 (G : wv_G) (fr : Nat) (P : wv_R → wv_H → Prop) (s0 : Option Nat) (w : wv_W) : Prop :=
  P (.inl (some (.int (2 : Int32)))) w.1
def vc_X0_run_15 (G : wv_G) (fr : Nat) (P : wv_R → wv_H → Prop) (s0 : Option Nat) (w : wv_W) : Prop :=
  P (.inl (some (.int (1 : Int32)))) w.1
def vc_X0_run_0 (G : wv_G) (fr : Nat) (P : wv_R → wv_H → Prop) (v0 : Option Nat) (v1 : Int32) (v2 : Int32) (v3 : Int32) (v4 : Option Nat) (w : wv_W) : Prop :=
  wv_cV G fr yX1_run v0 [.int v1, .int v2, .int v3] w (wv_rI (fun x7 w7 => wv_sl G w7 v4 (0 : Int32) (Int32.toInt64 x7) (fun w11 => P (.inl (some (.int (0 : Int32)))) w11.1)) (fun E q w => (E = "java/lang/IndexOutOfBoundsException" → vc_X0_run_15 G fr P (some q) w) ∧ (¬ E = "java/lang/IndexOutOfBoundsException" → (va_Nc E "java/lang/IndexOutOfBoundsException" G.2.1 ∧ (E = "java/lang/IllegalArgumentException" → vc_X0_run_19 G fr P (some q) w) ∧ (¬ E = "java/lang/IllegalArgumentException" → (va_Nc E "java/lang/IllegalArgumentException" G.2.1 ∧ (E = "java/lang/IllegalStateException" → vc_X0_run_23 G fr P (some q) w) ∧ (¬ E = "java/lang/IllegalStateException" → (va_Nc E "java/lang/IllegalStateException" G.2.1 ∧ P (.inr (E, q)) w.1))))))))
set_option maxHeartbeats 4000000 in
theorem wk_X0_run_23 {G : wv_G} {p : Program} {e : Env} {R : Room} {s : State} {m : MethodId} {args : Array Value} {below : List Frame} {meth : Method} {c : Code} {fr : Nat} {P : wv_R → wv_H → Prop} (X : wv_ok G p R s m args meth c fr "WeaversgateLaw" cX0_run 6 (Option.some Jvm.ClassFile.FieldType.int) "run" [(0, 12, 15, 13), (0, 12, 19, 21), (0, 12, 23, 15)]) {s0 : Option Nat} {w : wv_W} (hv : vc_X0_run_23 G fr P s0 w) : wv_J G p e R s m args below meth c 6 P w 23 [] [va_rf s0] := by
  intro H locs cells slots ls S hl
  unfold vc_X0_run_23 at hv
  refine wq_astore X (i := 5) (lv' := [(5, va_rf s0)]) dX0_run_23 hl (by decide) rfl (fun ls hl => ?_)
  refine lv_iconst (v := (3 : Int32)) X.hx X.hb dX0_run_25 (by decide) ?_
  exact wr_iret X S rfl hv dX0_run_26
set_option maxHeartbeats 4000000 in
theorem wk_X0_run_19 {G : wv_G} {p : Program} {e : Env} {R : Room} {s : State} {m : MethodId} {args : Array Value} {below : List Frame} {meth : Method} {c : Code} {fr : Nat} {P : wv_R → wv_H → Prop} (X : wv_ok G p R s m args meth c fr "WeaversgateLaw" cX0_run 6 (Option.some Jvm.ClassFile.FieldType.int) "run" [(0, 12, 15, 13), (0, 12, 19, 21), (0, 12, 23, 15)]) {s0 : Option Nat} {w : wv_W} (hv : vc_X0_run_19 G fr P s0 w) : wv_J G p e R s m args below meth c 6 P w 19 [] [va_rf s0] := by
  intro H locs cells slots ls S hl
  unfold vc_X0_run_19 at hv
  refine wq_astore X (i := 5) (lv' := [(5, va_rf s0)]) dX0_run_19 hl (by decide) rfl (fun ls hl => ?_)
  refine lv_iconst (v := (2 : Int32)) X.hx X.hb dX0_run_21 (by decide) ?_
  exact wr_iret X S rfl hv dX0_run_22
set_option maxHeartbeats 4000000 in
theorem wk_X0_run_15 {G : wv_G} {p : Program} {e : Env} {R : Room} {s : State} {m : MethodId} {args : Array Value} {below : List Frame} {meth : Method} {c : Code} {fr : Nat} {P : wv_R → wv_H → Prop} (X : wv_ok G p R s m args meth c fr "WeaversgateLaw" cX0_run 6 (Option.some Jvm.ClassFile.FieldType.int) "run" [(0, 12, 15, 13), (0, 12, 19, 21), (0, 12, 23, 15)]) {s0 : Option Nat} {w : wv_W} (hv : vc_X0_run_15 G fr P s0 w) : wv_J G p e R s m args below meth c 6 P w 15 [] [va_rf s0] := by
  intro H locs cells slots ls S hl
  unfold vc_X0_run_15 at hv
  refine wq_astore X (i := 5) (lv' := [(5, va_rf s0)]) dX0_run_15 hl (by decide) rfl (fun ls hl => ?_)
  refine lv_iconst (v := (1 : Int32)) X.hx X.hb dX0_run_17 (by decide) ?_
  exact wr_iret X S rfl hv dX0_run_18
set_option maxHeartbeats 4000000 in
theorem wk_X0_run_0 {G : wv_G} {p : Program} {e : Env} {R : Room} {s : State} {m : MethodId} {args : Array Value} {below : List Frame} {meth : Method} {c : Code} {fr : Nat} {P : wv_R → wv_H → Prop} (X : wv_ok G p R s m args meth c fr "WeaversgateLaw" cX0_run 6 (Option.some Jvm.ClassFile.FieldType.int) "run" [(0, 12, 15, 13), (0, 12, 19, 21), (0, 12, 23, 15)]) {v0 : Option Nat} {v1 : Int32} {v2 : Int32} {v3 : Int32} {v4 : Option Nat} {w : wv_W} (hv : vc_X0_run_0 G fr P v0 v1 v2 v3 v4 w) : wv_J G p e R s m args below meth c 6 P w 0 [(0, va_rf v0), (1, .int v1), (2, .int v2), (3, .int v3), (4, va_rf v4)] [] := by
  intro H locs cells slots ls S hl
  unfold vc_X0_run_0 at hv
  refine wq_aload X dX0_run_0 (lv_at hl 4 rfl) ?_
  refine lv_iconst (v := (0 : Int32)) X.hx X.hb dX0_run_2 (by decide) ?_
  refine wq_aload_n X dX0_run_3 rfl (lv_at hl 0 rfl) ?_
  refine lv_iload_n X.hx X.hb dX0_run_4 rfl (lv_at hl 1 rfl) ?_
  refine lv_iload_n X.hx X.hb dX0_run_5 rfl (lv_at hl 2 rfl) ?_
  refine lv_iload_n X.hx X.hb dX0_run_6 rfl (lv_at hl 3 rfl) ?_
  refine wq_cV_I X S hv q1611 q1612 q1613 q60 ⟨by decide +kernel, by decide +kernel⟩ (nA := 3) (As := [.int v1, .int v2, .int v3]) (by decide +kernel) rfl rfl (by simp [wv_rfc, wv_kI, wv_kJ, wv_kF, wv_kD]) hl.1 dX0_run_7 (fun x7 w7 H locs cells slots S hv => ?_) ?_
  · refine lv_i2l X.hx X.hb dX0_run_10 rfl ?_
    refine wq_sl X S hv dX0_run_11 (fun w11 H locs S hv => ?_)
    refine lv_goto (tgt := 27) X.hx X.hb dX0_run_12 (by decide) ?_
    refine lv_iconst (v := (0 : Int32)) X.hx X.hb dX0_run_27 (by decide) ?_
    exact wr_iret X S rfl hv dX0_run_28
  · intro E q w H locs cells slots S hv hth
    by_cases hE : E = "java/lang/IndexOutOfBoundsException"
    · subst hE
      have hv := hv.1 rfl
      refine wr_catch X [] (0, 12, 15, 13) [(0, 12, 19, 21), (0, 12, 23, 15)] rfl (fun z hz => by cases hz) rfl (by decide) q1215 q1251 hth ?_
      exact wk_X0_run_15 X  hv H locs cells slots ls S (lv_sub hl [] rfl)
    · have hv := hv.2 hE
      have hN0 := va_Nc.moved X.hW.alike hv.1
      have hv := hv.2
      by_cases hE : E = "java/lang/IllegalArgumentException"
      · subst hE
        have hv := hv.1 rfl
        refine wr_catch X [(0, 12, 15, 13)] (0, 12, 19, 21) [(0, 12, 23, 15)] rfl (List.forall_mem_cons.mpr ⟨(Or.inr ⟨by decide, "java/lang/IndexOutOfBoundsException", q1215, hN0⟩), (fun z hz => absurd hz List.not_mem_nil)⟩) rfl (by decide) q1318 q382 hth ?_
        exact wk_X0_run_19 X  hv H locs cells slots ls S (lv_sub hl [] rfl)
      · have hv := hv.2 hE
        have hN1 := va_Nc.moved X.hW.alike hv.1
        have hv := hv.2
        by_cases hE : E = "java/lang/IllegalStateException"
        · subst hE
          have hv := hv.1 rfl
          refine wr_catch X [(0, 12, 15, 13), (0, 12, 19, 21)] (0, 12, 23, 15) [] rfl (List.forall_mem_cons.mpr ⟨(Or.inr ⟨by decide, "java/lang/IndexOutOfBoundsException", q1215, hN0⟩), (List.forall_mem_cons.mpr ⟨(Or.inr ⟨by decide, "java/lang/IllegalArgumentException", q1318, hN1⟩), (fun z hz => absurd hz List.not_mem_nil)⟩)⟩) rfl (by decide) q1234 q1269 hth ?_
          exact wk_X0_run_23 X  hv H locs cells slots ls S (lv_sub hl [] rfl)
        · have hv := hv.2 hE
          have hN2 := va_Nc.moved X.hW.alike hv.1
          have hv := hv.2
          exact wr_outP X S hv hth (List.forall_mem_cons.mpr ⟨(Or.inr ⟨by decide, "java/lang/IndexOutOfBoundsException", q1215, hN0⟩), (List.forall_mem_cons.mpr ⟨(Or.inr ⟨by decide, "java/lang/IllegalArgumentException", q1318, hN1⟩), (List.forall_mem_cons.mpr ⟨(Or.inr ⟨by decide, "java/lang/IllegalStateException", q1234, hN2⟩), (fun z hz => absurd hz List.not_mem_nil)⟩)⟩)⟩)
theorem wk_X0_run {G : wv_G} (hG : wv_G0 G) {v0 : Option Nat} {v1 : Int32} {v2 : Int32} {v3 : Int32} {v4 : Option Nat} {h : wv_H} {fr kc ks : Nat} {P : wv_R → wv_H → Prop} (hv : vc_X0_run_0 G fr P v0 v1 v2 v3 v4 (h, kc, ks)) : wv_C G yX0_run [va_rf v0, .int v1, .int v2, .int v3, va_rf v4] h fr kc ks P := by
  refine wv_enterW (lv := [(0, va_rf v0), (1, .int v1), (2, .int v2), (3, .int v3), (4, va_rf v4)]) hG (by decide +kernel) q1610 (by decide) (by simp [lg_sl, wv_rfc, wv_kI, wv_kJ, wv_kF, wv_kD]) (by simp [lv_args, wv_rfc, wv_kI, wv_kJ, wv_kF, wv_kD]) ?_
  intro p e R s m args below meth c X H locs cells slots ls S hl
  exact wk_X0_run_0 X hv H locs cells slots ls S (lv_sub hl [0, 1, 2, 3, 4] rfl)

def vc_X0_runAsking_23 (G : wv_G) (fr : Nat) (P : wv_R → wv_H → Prop) (s0 : Option Nat) (w : wv_W) : Prop :=
  P (.inl (some (.int (3 : Int32)))) w.1
def vc_X0_runAsking_19 (G : wv_G) (fr : Nat) (P : wv_R → wv_H → Prop) (s0 : Option Nat) (w : wv_W) : Prop :=
  P (.inl (some (.int (2 : Int32)))) w.1
def vc_X0_runAsking_15 (G : wv_G) (fr : Nat) (P : wv_R → wv_H → Prop) (s0 : Option Nat) (w : wv_W) : Prop :=
  P (.inl (some (.int (1 : Int32)))) w.1
def vc_X0_runAsking_0 (G : wv_G) (fr : Nat) (P : wv_R → wv_H → Prop) (v0 : Option Nat) (v1 : Int32) (v2 : Int32) (v3 : Int32) (v4 : Option Nat) (w : wv_W) : Prop :=
  wv_cV G fr yX1_runAsking v0 [.int v1, .int v2, .int v3] w (wv_rI (fun x7 w7 => wv_sl G w7 v4 (0 : Int32) (Int32.toInt64 x7) (fun w11 => P (.inl (some (.int (0 : Int32)))) w11.1)) (fun E q w => (E = "java/lang/IndexOutOfBoundsException" → vc_X0_runAsking_15 G fr P (some q) w) ∧ (¬ E = "java/lang/IndexOutOfBoundsException" → (va_Nc E "java/lang/IndexOutOfBoundsException" G.2.1 ∧ (E = "java/lang/IllegalArgumentException" → vc_X0_runAsking_19 G fr P (some q) w) ∧ (¬ E = "java/lang/IllegalArgumentException" → (va_Nc E "java/lang/IllegalArgumentException" G.2.1 ∧ (E = "java/lang/IllegalStateException" → vc_X0_runAsking_23 G fr P (some q) w) ∧ (¬ E = "java/lang/IllegalStateException" → (va_Nc E "java/lang/IllegalStateException" G.2.1 ∧ P (.inr (E, q)) w.1))))))))
set_option maxHeartbeats 4000000 in
theorem wk_X0_runAsking_23 {G : wv_G} {p : Program} {e : Env} {R : Room} {s : State} {m : MethodId} {args : Array Value} {below : List Frame} {meth : Method} {c : Code} {fr : Nat} {P : wv_R → wv_H → Prop} (X : wv_ok G p R s m args meth c fr "WeaversgateLaw" cX0_runAsking 6 (Option.some Jvm.ClassFile.FieldType.int) "runAsking" [(0, 12, 15, 13), (0, 12, 19, 21), (0, 12, 23, 15)]) {s0 : Option Nat} {w : wv_W} (hv : vc_X0_runAsking_23 G fr P s0 w) : wv_J G p e R s m args below meth c 6 P w 23 [] [va_rf s0] := by
  intro H locs cells slots ls S hl
  unfold vc_X0_runAsking_23 at hv
  refine wq_astore X (i := 5) (lv' := [(5, va_rf s0)]) dX0_runAsking_23 hl (by decide) rfl (fun ls hl => ?_)
  refine lv_iconst (v := (3 : Int32)) X.hx X.hb dX0_runAsking_25 (by decide) ?_
  exact wr_iret X S rfl hv dX0_runAsking_26
set_option maxHeartbeats 4000000 in
theorem wk_X0_runAsking_19 {G : wv_G} {p : Program} {e : Env} {R : Room} {s : State} {m : MethodId} {args : Array Value} {below : List Frame} {meth : Method} {c : Code} {fr : Nat} {P : wv_R → wv_H → Prop} (X : wv_ok G p R s m args meth c fr "WeaversgateLaw" cX0_runAsking 6 (Option.some Jvm.ClassFile.FieldType.int) "runAsking" [(0, 12, 15, 13), (0, 12, 19, 21), (0, 12, 23, 15)]) {s0 : Option Nat} {w : wv_W} (hv : vc_X0_runAsking_19 G fr P s0 w) : wv_J G p e R s m args below meth c 6 P w 19 [] [va_rf s0] := by
  intro H locs cells slots ls S hl
  unfold vc_X0_runAsking_19 at hv
  refine wq_astore X (i := 5) (lv' := [(5, va_rf s0)]) dX0_runAsking_19 hl (by decide) rfl (fun ls hl => ?_)
  refine lv_iconst (v := (2 : Int32)) X.hx X.hb dX0_runAsking_21 (by decide) ?_
  exact wr_iret X S rfl hv dX0_runAsking_22
set_option maxHeartbeats 4000000 in
theorem wk_X0_runAsking_15 {G : wv_G} {p : Program} {e : Env} {R : Room} {s : State} {m : MethodId} {args : Array Value} {below : List Frame} {meth : Method} {c : Code} {fr : Nat} {P : wv_R → wv_H → Prop} (X : wv_ok G p R s m args meth c fr "WeaversgateLaw" cX0_runAsking 6 (Option.some Jvm.ClassFile.FieldType.int) "runAsking" [(0, 12, 15, 13), (0, 12, 19, 21), (0, 12, 23, 15)]) {s0 : Option Nat} {w : wv_W} (hv : vc_X0_runAsking_15 G fr P s0 w) : wv_J G p e R s m args below meth c 6 P w 15 [] [va_rf s0] := by
  intro H locs cells slots ls S hl
  unfold vc_X0_runAsking_15 at hv
  refine wq_astore X (i := 5) (lv' := [(5, va_rf s0)]) dX0_runAsking_15 hl (by decide) rfl (fun ls hl => ?_)
  refine lv_iconst (v := (1 : Int32)) X.hx X.hb dX0_runAsking_17 (by decide) ?_
  exact wr_iret X S rfl hv dX0_runAsking_18
set_option maxHeartbeats 4000000 in
theorem wk_X0_runAsking_0 {G : wv_G} {p : Program} {e : Env} {R : Room} {s : State} {m : MethodId} {args : Array Value} {below : List Frame} {meth : Method} {c : Code} {fr : Nat} {P : wv_R → wv_H → Prop} (X : wv_ok G p R s m args meth c fr "WeaversgateLaw" cX0_runAsking 6 (Option.some Jvm.ClassFile.FieldType.int) "runAsking" [(0, 12, 15, 13), (0, 12, 19, 21), (0, 12, 23, 15)]) {v0 : Option Nat} {v1 : Int32} {v2 : Int32} {v3 : Int32} {v4 : Option Nat} {w : wv_W} (hv : vc_X0_runAsking_0 G fr P v0 v1 v2 v3 v4 w) : wv_J G p e R s m args below meth c 6 P w 0 [(0, va_rf v0), (1, .int v1), (2, .int v2), (3, .int v3), (4, va_rf v4)] [] := by
  intro H locs cells slots ls S hl
  unfold vc_X0_runAsking_0 at hv
  refine wq_aload X dX0_runAsking_0 (lv_at hl 4 rfl) ?_
  refine lv_iconst (v := (0 : Int32)) X.hx X.hb dX0_runAsking_2 (by decide) ?_
  refine wq_aload_n X dX0_runAsking_3 rfl (lv_at hl 0 rfl) ?_
  refine lv_iload_n X.hx X.hb dX0_runAsking_4 rfl (lv_at hl 1 rfl) ?_
  refine lv_iload_n X.hx X.hb dX0_runAsking_5 rfl (lv_at hl 2 rfl) ?_
  refine lv_iload_n X.hx X.hb dX0_runAsking_6 rfl (lv_at hl 3 rfl) ?_
  refine wq_cV_I X S hv q1622 q1623 q1624 q60 ⟨by decide +kernel, by decide +kernel⟩ (nA := 3) (As := [.int v1, .int v2, .int v3]) (by decide +kernel) rfl rfl (by simp [wv_rfc, wv_kI, wv_kJ, wv_kF, wv_kD]) hl.1 dX0_runAsking_7 (fun x7 w7 H locs cells slots S hv => ?_) ?_
  · refine lv_i2l X.hx X.hb dX0_runAsking_10 rfl ?_
    refine wq_sl X S hv dX0_runAsking_11 (fun w11 H locs S hv => ?_)
    refine lv_goto (tgt := 27) X.hx X.hb dX0_runAsking_12 (by decide) ?_
    refine lv_iconst (v := (0 : Int32)) X.hx X.hb dX0_runAsking_27 (by decide) ?_
    exact wr_iret X S rfl hv dX0_runAsking_28
  · intro E q w H locs cells slots S hv hth
    by_cases hE : E = "java/lang/IndexOutOfBoundsException"
    · subst hE
      have hv := hv.1 rfl
      refine wr_catch X [] (0, 12, 15, 13) [(0, 12, 19, 21), (0, 12, 23, 15)] rfl (fun z hz => by cases hz) rfl (by decide) q1215 q1251 hth ?_
      exact wk_X0_runAsking_15 X  hv H locs cells slots ls S (lv_sub hl [] rfl)
    · have hv := hv.2 hE
      have hN0 := va_Nc.moved X.hW.alike hv.1
      have hv := hv.2
      by_cases hE : E = "java/lang/IllegalArgumentException"
      · subst hE
        have hv := hv.1 rfl
        refine wr_catch X [(0, 12, 15, 13)] (0, 12, 19, 21) [(0, 12, 23, 15)] rfl (List.forall_mem_cons.mpr ⟨(Or.inr ⟨by decide, "java/lang/IndexOutOfBoundsException", q1215, hN0⟩), (fun z hz => absurd hz List.not_mem_nil)⟩) rfl (by decide) q1318 q382 hth ?_
        exact wk_X0_runAsking_19 X  hv H locs cells slots ls S (lv_sub hl [] rfl)
      · have hv := hv.2 hE
        have hN1 := va_Nc.moved X.hW.alike hv.1
        have hv := hv.2
        by_cases hE : E = "java/lang/IllegalStateException"
        · subst hE
          have hv := hv.1 rfl
          refine wr_catch X [(0, 12, 15, 13), (0, 12, 19, 21)] (0, 12, 23, 15) [] rfl (List.forall_mem_cons.mpr ⟨(Or.inr ⟨by decide, "java/lang/IndexOutOfBoundsException", q1215, hN0⟩), (List.forall_mem_cons.mpr ⟨(Or.inr ⟨by decide, "java/lang/IllegalArgumentException", q1318, hN1⟩), (fun z hz => absurd hz List.not_mem_nil)⟩)⟩) rfl (by decide) q1234 q1269 hth ?_
          exact wk_X0_runAsking_23 X  hv H locs cells slots ls S (lv_sub hl [] rfl)
        · have hv := hv.2 hE
          have hN2 := va_Nc.moved X.hW.alike hv.1
          have hv := hv.2
          exact wr_outP X S hv hth (List.forall_mem_cons.mpr ⟨(Or.inr ⟨by decide, "java/lang/IndexOutOfBoundsException", q1215, hN0⟩), (List.forall_mem_cons.mpr ⟨(Or.inr ⟨by decide, "java/lang/IllegalArgumentException", q1318, hN1⟩), (List.forall_mem_cons.mpr ⟨(Or.inr ⟨by decide, "java/lang/IllegalStateException", q1234, hN2⟩), (fun z hz => absurd hz List.not_mem_nil)⟩)⟩)⟩)
theorem wk_X0_runAsking {G : wv_G} (hG : wv_G0 G) {v0 : Option Nat} {v1 : Int32} {v2 : Int32} {v3 : Int32} {v4 : Option Nat} {h : wv_H} {fr kc ks : Nat} {P : wv_R → wv_H → Prop} (hv : vc_X0_runAsking_0 G fr P v0 v1 v2 v3 v4 (h, kc, ks)) : wv_C G yX0_runAsking [va_rf v0, .int v1, .int v2, .int v3, va_rf v4] h fr kc ks P := by
  refine wv_enterW (lv := [(0, va_rf v0), (1, .int v1), (2, .int v2), (3, .int v3), (4, va_rf v4)]) hG (by decide +kernel) q1621 (by decide) (by simp [lg_sl, wv_rfc, wv_kI, wv_kJ, wv_kF, wv_kD]) (by simp [lv_args, wv_rfc, wv_kI, wv_kJ, wv_kF, wv_kD]) ?_
  intro p e R s m args below meth c X H locs cells slots ls S hl
  exact wk_X0_runAsking_0 X hv H locs cells slots ls S (lv_sub hl [0, 1, 2, 3, 4] rfl)

def vc_X0_sureShare_11 (G : wv_G) (fr : Nat) (P : wv_R → wv_H → Prop) (s0 : Option Nat) (w : wv_W) : Prop :=
  P (.inl (some (.int (1 : Int32)))) w.1
def vc_X0_sureShare_0 (G : wv_G) (fr : Nat) (P : wv_R → wv_H → Prop) (v0 : Option Nat) (v1 : Option Nat) (w : wv_W) : Prop :=
  wv_cV G fr yX1_sureShare v0 [] w (wv_rF (fun x3 w3 => (vf_n64 (FP.f2d x3)) ∧ (wv_sd G w3 v1 (0 : Int32) (FP.f2d x3) (fun w7 => P (.inl (some (.int (0 : Int32)))) w7.1))) (fun E q w => (E = "java/lang/ArithmeticException" → vc_X0_sureShare_11 G fr P (some q) w) ∧ (¬ E = "java/lang/ArithmeticException" → (va_Nc E "java/lang/ArithmeticException" G.2.1 ∧ P (.inr (E, q)) w.1))))
set_option maxHeartbeats 4000000 in
theorem wk_X0_sureShare_11 {G : wv_G} {p : Program} {e : Env} {R : Room} {s : State} {m : MethodId} {args : Array Value} {below : List Frame} {meth : Method} {c : Code} {fr : Nat} {P : wv_R → wv_H → Prop} (X : wv_ok G p R s m args meth c fr "WeaversgateLaw" cX0_sureShare 3 (Option.some Jvm.ClassFile.FieldType.int) "sureShare" [(0, 8, 11, 87)]) {s0 : Option Nat} {w : wv_W} (hv : vc_X0_sureShare_11 G fr P s0 w) : wv_J G p e R s m args below meth c 3 P w 11 [] [va_rf s0] := by
  intro H locs cells slots ls S hl
  unfold vc_X0_sureShare_11 at hv
  refine wq_astore_n X (i := 2) (lv' := [(2, va_rf s0)]) dX0_sureShare_11 rfl hl (by decide) rfl (fun ls hl => ?_)
  refine lv_iconst (v := (1 : Int32)) X.hx X.hb dX0_sureShare_12 (by decide) ?_
  exact wr_iret X S rfl hv dX0_sureShare_13
set_option maxHeartbeats 4000000 in
theorem wk_X0_sureShare_0 {G : wv_G} {p : Program} {e : Env} {R : Room} {s : State} {m : MethodId} {args : Array Value} {below : List Frame} {meth : Method} {c : Code} {fr : Nat} {P : wv_R → wv_H → Prop} (X : wv_ok G p R s m args meth c fr "WeaversgateLaw" cX0_sureShare 3 (Option.some Jvm.ClassFile.FieldType.int) "sureShare" [(0, 8, 11, 87)]) {v0 : Option Nat} {v1 : Option Nat} {w : wv_W} (hv : vc_X0_sureShare_0 G fr P v0 v1 w) : wv_J G p e R s m args below meth c 3 P w 0 [(0, va_rf v0), (1, va_rf v1)] [] := by
  intro H locs cells slots ls S hl
  unfold vc_X0_sureShare_0 at hv
  refine wq_aload_n X dX0_sureShare_0 rfl (lv_at hl 1 rfl) ?_
  refine lv_iconst (v := (0 : Int32)) X.hx X.hb dX0_sureShare_1 (by decide) ?_
  refine wq_aload_n X dX0_sureShare_2 rfl (lv_at hl 0 rfl) ?_
  refine wq_cV_F X S hv q1742 q1743 q1744 q60 ⟨by decide +kernel, by decide +kernel⟩ (nA := 0) (As := []) (by decide +kernel) rfl rfl (by simp [wv_rfc, wv_kI, wv_kJ, wv_kF, wv_kD]) hl.1 dX0_sureShare_3 (fun x3 w3 H locs cells slots S hv => ?_) ?_
  · refine lv_f2d X.hx X.hb dX0_sureShare_6 hv.1 ?_
    have hv := hv.2
    refine wq_sd X S hv dX0_sureShare_7 (fun w7 H locs S hv => ?_)
    refine lv_goto (tgt := 14) X.hx X.hb dX0_sureShare_8 (by decide) ?_
    refine lv_iconst (v := (0 : Int32)) X.hx X.hb dX0_sureShare_14 (by decide) ?_
    exact wr_iret X S rfl hv dX0_sureShare_15
  · intro E q w H locs cells slots S hv hth
    by_cases hE : E = "java/lang/ArithmeticException"
    · subst hE
      have hv := hv.1 rfl
      refine wr_catch X [] (0, 8, 11, 87) [] rfl (fun z hz => by cases hz) rfl (by decide) q1728 q1740 hth ?_
      exact wk_X0_sureShare_11 X  hv H locs cells slots ls S (lv_sub hl [] rfl)
    · have hv := hv.2 hE
      have hN0 := va_Nc.moved X.hW.alike hv.1
      have hv := hv.2
      exact wr_outP X S hv hth (List.forall_mem_cons.mpr ⟨(Or.inr ⟨by decide, "java/lang/ArithmeticException", q1728, hN0⟩), (fun z hz => absurd hz List.not_mem_nil)⟩)
theorem wk_X0_sureShare {G : wv_G} (hG : wv_G0 G) {v0 : Option Nat} {v1 : Option Nat} {h : wv_H} {fr kc ks : Nat} {P : wv_R → wv_H → Prop} (hv : vc_X0_sureShare_0 G fr P v0 v1 (h, kc, ks)) : wv_C G yX0_sureShare [va_rf v0, va_rf v1] h fr kc ks P := by
  refine wv_enterW (lv := [(0, va_rf v0), (1, va_rf v1)]) hG (by decide +kernel) q1727 (by decide) (by simp [lg_sl, wv_rfc, wv_kI, wv_kJ, wv_kF, wv_kD]) (by simp [lv_args, wv_rfc, wv_kI, wv_kJ, wv_kF, wv_kD]) ?_
  intro p e R s m args below meth c X H locs cells slots ls S hl
  exact wk_X0_sureShare_0 X hv H locs cells slots ls S (lv_sub hl [0, 1] rfl)

def vc_X0_traceAdvice_12 (G : wv_G) (fr : Nat) (P : wv_R → wv_H → Prop) (s0 : Option Nat) (w : wv_W) : Prop :=
  P (.inl (some (.int (1 : Int32)))) w.1
def vc_X0_traceAdvice_0 (G : wv_G) (fr : Nat) (P : wv_R → wv_H → Prop) (v0 : Option Nat) (v1 : Int32) (v2 : Option Nat) (w : wv_W) : Prop :=
  wv_cV G fr yX1_traceAdvice v0 [.int v1] w (wv_rI (fun x4 w4 => wv_sl G w4 v2 (0 : Int32) (Int32.toInt64 x4) (fun w8 => P (.inl (some (.int (0 : Int32)))) w8.1)) (fun E q w => (E = "java/lang/IndexOutOfBoundsException" → vc_X0_traceAdvice_12 G fr P (some q) w) ∧ (¬ E = "java/lang/IndexOutOfBoundsException" → (va_Nc E "java/lang/IndexOutOfBoundsException" G.2.1 ∧ P (.inr (E, q)) w.1))))
set_option maxHeartbeats 4000000 in
theorem wk_X0_traceAdvice_12 {G : wv_G} {p : Program} {e : Env} {R : Room} {s : State} {m : MethodId} {args : Array Value} {below : List Frame} {meth : Method} {c : Code} {fr : Nat} {P : wv_R → wv_H → Prop} (X : wv_ok G p R s m args meth c fr "WeaversgateLaw" cX0_traceAdvice 4 (Option.some Jvm.ClassFile.FieldType.int) "traceAdvice" [(0, 9, 12, 13)]) {s0 : Option Nat} {w : wv_W} (hv : vc_X0_traceAdvice_12 G fr P s0 w) : wv_J G p e R s m args below meth c 4 P w 12 [] [va_rf s0] := by
  intro H locs cells slots ls S hl
  unfold vc_X0_traceAdvice_12 at hv
  refine wq_astore_n X (i := 3) (lv' := [(3, va_rf s0)]) dX0_traceAdvice_12 rfl hl (by decide) rfl (fun ls hl => ?_)
  refine lv_iconst (v := (1 : Int32)) X.hx X.hb dX0_traceAdvice_13 (by decide) ?_
  exact wr_iret X S rfl hv dX0_traceAdvice_14
set_option maxHeartbeats 4000000 in
theorem wk_X0_traceAdvice_0 {G : wv_G} {p : Program} {e : Env} {R : Room} {s : State} {m : MethodId} {args : Array Value} {below : List Frame} {meth : Method} {c : Code} {fr : Nat} {P : wv_R → wv_H → Prop} (X : wv_ok G p R s m args meth c fr "WeaversgateLaw" cX0_traceAdvice 4 (Option.some Jvm.ClassFile.FieldType.int) "traceAdvice" [(0, 9, 12, 13)]) {v0 : Option Nat} {v1 : Int32} {v2 : Option Nat} {w : wv_W} (hv : vc_X0_traceAdvice_0 G fr P v0 v1 v2 w) : wv_J G p e R s m args below meth c 4 P w 0 [(0, va_rf v0), (1, .int v1), (2, va_rf v2)] [] := by
  intro H locs cells slots ls S hl
  unfold vc_X0_traceAdvice_0 at hv
  refine wq_aload_n X dX0_traceAdvice_0 rfl (lv_at hl 2 rfl) ?_
  refine lv_iconst (v := (0 : Int32)) X.hx X.hb dX0_traceAdvice_1 (by decide) ?_
  refine wq_aload_n X dX0_traceAdvice_2 rfl (lv_at hl 0 rfl) ?_
  refine lv_iload_n X.hx X.hb dX0_traceAdvice_3 rfl (lv_at hl 1 rfl) ?_
  refine wq_cV_I X S hv q1658 q1659 q1660 q60 ⟨by decide +kernel, by decide +kernel⟩ (nA := 1) (As := [.int v1]) (by decide +kernel) rfl rfl (by simp [wv_rfc, wv_kI, wv_kJ, wv_kF, wv_kD]) hl.1 dX0_traceAdvice_4 (fun x4 w4 H locs cells slots S hv => ?_) ?_
  · refine lv_i2l X.hx X.hb dX0_traceAdvice_7 rfl ?_
    refine wq_sl X S hv dX0_traceAdvice_8 (fun w8 H locs S hv => ?_)
    refine lv_goto (tgt := 15) X.hx X.hb dX0_traceAdvice_9 (by decide) ?_
    refine lv_iconst (v := (0 : Int32)) X.hx X.hb dX0_traceAdvice_15 (by decide) ?_
    exact wr_iret X S rfl hv dX0_traceAdvice_16
  · intro E q w H locs cells slots S hv hth
    by_cases hE : E = "java/lang/IndexOutOfBoundsException"
    · subst hE
      have hv := hv.1 rfl
      refine wr_catch X [] (0, 9, 12, 13) [] rfl (fun z hz => by cases hz) rfl (by decide) q1215 q1251 hth ?_
      exact wk_X0_traceAdvice_12 X  hv H locs cells slots ls S (lv_sub hl [] rfl)
    · have hv := hv.2 hE
      have hN0 := va_Nc.moved X.hW.alike hv.1
      have hv := hv.2
      exact wr_outP X S hv hth (List.forall_mem_cons.mpr ⟨(Or.inr ⟨by decide, "java/lang/IndexOutOfBoundsException", q1215, hN0⟩), (fun z hz => absurd hz List.not_mem_nil)⟩)
theorem wk_X0_traceAdvice {G : wv_G} (hG : wv_G0 G) {v0 : Option Nat} {v1 : Int32} {v2 : Option Nat} {h : wv_H} {fr kc ks : Nat} {P : wv_R → wv_H → Prop} (hv : vc_X0_traceAdvice_0 G fr P v0 v1 v2 (h, kc, ks)) : wv_C G yX0_traceAdvice [va_rf v0, .int v1, va_rf v2] h fr kc ks P := by
  refine wv_enterW (lv := [(0, va_rf v0), (1, .int v1), (2, va_rf v2)]) hG (by decide +kernel) q1657 (by decide) (by simp [lg_sl, wv_rfc, wv_kI, wv_kJ, wv_kF, wv_kD]) (by simp [lv_args, wv_rfc, wv_kI, wv_kJ, wv_kF, wv_kD]) ?_
  intro p e R s m args below meth c X H locs cells slots ls S hl
  exact wk_X0_traceAdvice_0 X hv H locs cells slots ls S (lv_sub hl [0, 1, 2] rfl)

def vc_X0_traceKind_12 (G : wv_G) (fr : Nat) (P : wv_R → wv_H → Prop) (s0 : Option Nat) (w : wv_W) : Prop :=
  P (.inl (some (.int (1 : Int32)))) w.1
def vc_X0_traceKind_0 (G : wv_G) (fr : Nat) (P : wv_R → wv_H → Prop) (v0 : Option Nat) (v1 : Int32) (v2 : Option Nat) (w : wv_W) : Prop :=
  wv_cV G fr yX1_traceKind v0 [.int v1] w (wv_rI (fun x4 w4 => wv_sl G w4 v2 (0 : Int32) (Int32.toInt64 x4) (fun w8 => P (.inl (some (.int (0 : Int32)))) w8.1)) (fun E q w => (E = "java/lang/IndexOutOfBoundsException" → vc_X0_traceKind_12 G fr P (some q) w) ∧ (¬ E = "java/lang/IndexOutOfBoundsException" → (va_Nc E "java/lang/IndexOutOfBoundsException" G.2.1 ∧ P (.inr (E, q)) w.1))))
set_option maxHeartbeats 4000000 in
theorem wk_X0_traceKind_12 {G : wv_G} {p : Program} {e : Env} {R : Room} {s : State} {m : MethodId} {args : Array Value} {below : List Frame} {meth : Method} {c : Code} {fr : Nat} {P : wv_R → wv_H → Prop} (X : wv_ok G p R s m args meth c fr "WeaversgateLaw" cX0_traceKind 4 (Option.some Jvm.ClassFile.FieldType.int) "traceKind" [(0, 9, 12, 13)]) {s0 : Option Nat} {w : wv_W} (hv : vc_X0_traceKind_12 G fr P s0 w) : wv_J G p e R s m args below meth c 4 P w 12 [] [va_rf s0] := by
  intro H locs cells slots ls S hl
  unfold vc_X0_traceKind_12 at hv
  refine wq_astore_n X (i := 3) (lv' := [(3, va_rf s0)]) dX0_traceKind_12 rfl hl (by decide) rfl (fun ls hl => ?_)
  refine lv_iconst (v := (1 : Int32)) X.hx X.hb dX0_traceKind_13 (by decide) ?_
  exact wr_iret X S rfl hv dX0_traceKind_14
set_option maxHeartbeats 4000000 in
theorem wk_X0_traceKind_0 {G : wv_G} {p : Program} {e : Env} {R : Room} {s : State} {m : MethodId} {args : Array Value} {below : List Frame} {meth : Method} {c : Code} {fr : Nat} {P : wv_R → wv_H → Prop} (X : wv_ok G p R s m args meth c fr "WeaversgateLaw" cX0_traceKind 4 (Option.some Jvm.ClassFile.FieldType.int) "traceKind" [(0, 9, 12, 13)]) {v0 : Option Nat} {v1 : Int32} {v2 : Option Nat} {w : wv_W} (hv : vc_X0_traceKind_0 G fr P v0 v1 v2 w) : wv_J G p e R s m args below meth c 4 P w 0 [(0, va_rf v0), (1, .int v1), (2, va_rf v2)] [] := by
  intro H locs cells slots ls S hl
  unfold vc_X0_traceKind_0 at hv
  refine wq_aload_n X dX0_traceKind_0 rfl (lv_at hl 2 rfl) ?_
  refine lv_iconst (v := (0 : Int32)) X.hx X.hb dX0_traceKind_1 (by decide) ?_
  refine wq_aload_n X dX0_traceKind_2 rfl (lv_at hl 0 rfl) ?_
  refine lv_iload_n X.hx X.hb dX0_traceKind_3 rfl (lv_at hl 1 rfl) ?_
  refine wq_cV_I X S hv q1636 q1637 q1638 q60 ⟨by decide +kernel, by decide +kernel⟩ (nA := 1) (As := [.int v1]) (by decide +kernel) rfl rfl (by simp [wv_rfc, wv_kI, wv_kJ, wv_kF, wv_kD]) hl.1 dX0_traceKind_4 (fun x4 w4 H locs cells slots S hv => ?_) ?_
  · refine lv_i2l X.hx X.hb dX0_traceKind_7 rfl ?_
    refine wq_sl X S hv dX0_traceKind_8 (fun w8 H locs S hv => ?_)
    refine lv_goto (tgt := 15) X.hx X.hb dX0_traceKind_9 (by decide) ?_
    refine lv_iconst (v := (0 : Int32)) X.hx X.hb dX0_traceKind_15 (by decide) ?_
    exact wr_iret X S rfl hv dX0_traceKind_16
  · intro E q w H locs cells slots S hv hth
    by_cases hE : E = "java/lang/IndexOutOfBoundsException"
    · subst hE
      have hv := hv.1 rfl
      refine wr_catch X [] (0, 9, 12, 13) [] rfl (fun z hz => by cases hz) rfl (by decide) q1215 q1251 hth ?_
      exact wk_X0_traceKind_12 X  hv H locs cells slots ls S (lv_sub hl [] rfl)
    · have hv := hv.2 hE
      have hN0 := va_Nc.moved X.hW.alike hv.1
      have hv := hv.2
      exact wr_outP X S hv hth (List.forall_mem_cons.mpr ⟨(Or.inr ⟨by decide, "java/lang/IndexOutOfBoundsException", q1215, hN0⟩), (fun z hz => absurd hz List.not_mem_nil)⟩)
theorem wk_X0_traceKind {G : wv_G} (hG : wv_G0 G) {v0 : Option Nat} {v1 : Int32} {v2 : Option Nat} {h : wv_H} {fr kc ks : Nat} {P : wv_R → wv_H → Prop} (hv : vc_X0_traceKind_0 G fr P v0 v1 v2 (h, kc, ks)) : wv_C G yX0_traceKind [va_rf v0, .int v1, va_rf v2] h fr kc ks P := by
  refine wv_enterW (lv := [(0, va_rf v0), (1, .int v1), (2, va_rf v2)]) hG (by decide +kernel) q1635 (by decide) (by simp [lg_sl, wv_rfc, wv_kI, wv_kJ, wv_kF, wv_kD]) (by simp [lv_args, wv_rfc, wv_kI, wv_kJ, wv_kF, wv_kD]) ?_
  intro p e R s m args below meth c X H locs cells slots ls S hl
  exact wk_X0_traceKind_0 X hv H locs cells slots ls S (lv_sub hl [0, 1, 2] rfl)

def vc_X0_traceValue_12 (G : wv_G) (fr : Nat) (P : wv_R → wv_H → Prop) (s0 : Option Nat) (w : wv_W) : Prop :=
  P (.inl (some (.int (1 : Int32)))) w.1
def vc_X0_traceValue_0 (G : wv_G) (fr : Nat) (P : wv_R → wv_H → Prop) (v0 : Option Nat) (v1 : Int32) (v2 : Option Nat) (w : wv_W) : Prop :=
  wv_cV G fr yX1_traceValue v0 [.int v1] w (wv_rI (fun x4 w4 => wv_sl G w4 v2 (0 : Int32) (Int32.toInt64 x4) (fun w8 => P (.inl (some (.int (0 : Int32)))) w8.1)) (fun E q w => (E = "java/lang/IndexOutOfBoundsException" → vc_X0_traceValue_12 G fr P (some q) w) ∧ (¬ E = "java/lang/IndexOutOfBoundsException" → (va_Nc E "java/lang/IndexOutOfBoundsException" G.2.1 ∧ P (.inr (E, q)) w.1))))
set_option maxHeartbeats 4000000 in
theorem wk_X0_traceValue_12 {G : wv_G} {p : Program} {e : Env} {R : Room} {s : State} {m : MethodId} {args : Array Value} {below : List Frame} {meth : Method} {c : Code} {fr : Nat} {P : wv_R → wv_H → Prop} (X : wv_ok G p R s m args meth c fr "WeaversgateLaw" cX0_traceValue 4 (Option.some Jvm.ClassFile.FieldType.int) "traceValue" [(0, 9, 12, 13)]) {s0 : Option Nat} {w : wv_W} (hv : vc_X0_traceValue_12 G fr P s0 w) : wv_J G p e R s m args below meth c 4 P w 12 [] [va_rf s0] := by
  intro H locs cells slots ls S hl
  unfold vc_X0_traceValue_12 at hv
  refine wq_astore_n X (i := 3) (lv' := [(3, va_rf s0)]) dX0_traceValue_12 rfl hl (by decide) rfl (fun ls hl => ?_)
  refine lv_iconst (v := (1 : Int32)) X.hx X.hb dX0_traceValue_13 (by decide) ?_
  exact wr_iret X S rfl hv dX0_traceValue_14
set_option maxHeartbeats 4000000 in
theorem wk_X0_traceValue_0 {G : wv_G} {p : Program} {e : Env} {R : Room} {s : State} {m : MethodId} {args : Array Value} {below : List Frame} {meth : Method} {c : Code} {fr : Nat} {P : wv_R → wv_H → Prop} (X : wv_ok G p R s m args meth c fr "WeaversgateLaw" cX0_traceValue 4 (Option.some Jvm.ClassFile.FieldType.int) "traceValue" [(0, 9, 12, 13)]) {v0 : Option Nat} {v1 : Int32} {v2 : Option Nat} {w : wv_W} (hv : vc_X0_traceValue_0 G fr P v0 v1 v2 w) : wv_J G p e R s m args below meth c 4 P w 0 [(0, va_rf v0), (1, .int v1), (2, va_rf v2)] [] := by
  intro H locs cells slots ls S hl
  unfold vc_X0_traceValue_0 at hv
  refine wq_aload_n X dX0_traceValue_0 rfl (lv_at hl 2 rfl) ?_
  refine lv_iconst (v := (0 : Int32)) X.hx X.hb dX0_traceValue_1 (by decide) ?_
  refine wq_aload_n X dX0_traceValue_2 rfl (lv_at hl 0 rfl) ?_
  refine lv_iload_n X.hx X.hb dX0_traceValue_3 rfl (lv_at hl 1 rfl) ?_
  refine wq_cV_I X S hv q1651 q1652 q1653 q60 ⟨by decide +kernel, by decide +kernel⟩ (nA := 1) (As := [.int v1]) (by decide +kernel) rfl rfl (by simp [wv_rfc, wv_kI, wv_kJ, wv_kF, wv_kD]) hl.1 dX0_traceValue_4 (fun x4 w4 H locs cells slots S hv => ?_) ?_
  · refine lv_i2l X.hx X.hb dX0_traceValue_7 rfl ?_
    refine wq_sl X S hv dX0_traceValue_8 (fun w8 H locs S hv => ?_)
    refine lv_goto (tgt := 15) X.hx X.hb dX0_traceValue_9 (by decide) ?_
    refine lv_iconst (v := (0 : Int32)) X.hx X.hb dX0_traceValue_15 (by decide) ?_
    exact wr_iret X S rfl hv dX0_traceValue_16
  · intro E q w H locs cells slots S hv hth
    by_cases hE : E = "java/lang/IndexOutOfBoundsException"
    · subst hE
      have hv := hv.1 rfl
      refine wr_catch X [] (0, 9, 12, 13) [] rfl (fun z hz => by cases hz) rfl (by decide) q1215 q1251 hth ?_
      exact wk_X0_traceValue_12 X  hv H locs cells slots ls S (lv_sub hl [] rfl)
    · have hv := hv.2 hE
      have hN0 := va_Nc.moved X.hW.alike hv.1
      have hv := hv.2
      exact wr_outP X S hv hth (List.forall_mem_cons.mpr ⟨(Or.inr ⟨by decide, "java/lang/IndexOutOfBoundsException", q1215, hN0⟩), (fun z hz => absurd hz List.not_mem_nil)⟩)
theorem wk_X0_traceValue {G : wv_G} (hG : wv_G0 G) {v0 : Option Nat} {v1 : Int32} {v2 : Option Nat} {h : wv_H} {fr kc ks : Nat} {P : wv_R → wv_H → Prop} (hv : vc_X0_traceValue_0 G fr P v0 v1 v2 (h, kc, ks)) : wv_C G yX0_traceValue [va_rf v0, .int v1, va_rf v2] h fr kc ks P := by
  refine wv_enterW (lv := [(0, va_rf v0), (1, .int v1), (2, va_rf v2)]) hG (by decide +kernel) q1650 (by decide) (by simp [lg_sl, wv_rfc, wv_kI, wv_kJ, wv_kF, wv_kD]) (by simp [lv_args, wv_rfc, wv_kI, wv_kJ, wv_kF, wv_kD]) ?_
  intro p e R s m args below meth c X H locs cells slots ls S hl
  exact wk_X0_traceValue_0 X hv H locs cells slots ls S (lv_sub hl [0, 1, 2] rfl)

def vc_X0_turn_20 (G : wv_G) (fr : Nat) (P : wv_R → wv_H → Prop) (s0 : Option Nat) (w : wv_W) : Prop :=
  P (.inl (some (.int (1 : Int32)))) w.1
def vc_X0_turn_16 (G : wv_G) (fr : Nat) (P : wv_R → wv_H → Prop) (s0 : Int64) (s1 : Int32) (s2 : Option Nat) (w : wv_W) : Prop :=
  wv_sl G w s2 s1 s0 (fun w16 => P (.inl (some (.int (0 : Int32)))) w16.1)
def vc_X0_turn_0 (G : wv_G) (fr : Nat) (P : wv_R → wv_H → Prop) (v0 : Option Nat) (v1 : Int32) (v2 : Int32) (v3 : Option Nat) (w : wv_W) : Prop :=
  wv_cV G fr yX1_turn v0 [.int v1, .int v2] w (wv_rI (fun x5 w5 => (x5 = 0 → vc_X0_turn_16 G fr P (0 : Int64) (0 : Int32) v3 w5) ∧ (¬ x5 = 0 → vc_X0_turn_16 G fr P (1 : Int64) (0 : Int32) v3 w5)) (fun E q w => (E = "java/util/NoSuchElementException" → vc_X0_turn_20 G fr P (some q) w) ∧ (¬ E = "java/util/NoSuchElementException" → (va_Nc E "java/util/NoSuchElementException" G.2.1 ∧ P (.inr (E, q)) w.1))))
set_option maxHeartbeats 4000000 in
theorem wk_X0_turn_20 {G : wv_G} {p : Program} {e : Env} {R : Room} {s : State} {m : MethodId} {args : Array Value} {below : List Frame} {meth : Method} {c : Code} {fr : Nat} {P : wv_R → wv_H → Prop} (X : wv_ok G p R s m args meth c fr "WeaversgateLaw" cX0_turn 5 (Option.some Jvm.ClassFile.FieldType.int) "turn" [(0, 17, 20, 34)]) {s0 : Option Nat} {w : wv_W} (hv : vc_X0_turn_20 G fr P s0 w) : wv_J G p e R s m args below meth c 5 P w 20 [] [va_rf s0] := by
  intro H locs cells slots ls S hl
  unfold vc_X0_turn_20 at hv
  refine wq_astore X (i := 4) (lv' := [(4, va_rf s0)]) dX0_turn_20 hl (by decide) rfl (fun ls hl => ?_)
  refine lv_iconst (v := (1 : Int32)) X.hx X.hb dX0_turn_22 (by decide) ?_
  exact wr_iret X S rfl hv dX0_turn_23
set_option maxHeartbeats 4000000 in
theorem wk_X0_turn_16 {G : wv_G} {p : Program} {e : Env} {R : Room} {s : State} {m : MethodId} {args : Array Value} {below : List Frame} {meth : Method} {c : Code} {fr : Nat} {P : wv_R → wv_H → Prop} (X : wv_ok G p R s m args meth c fr "WeaversgateLaw" cX0_turn 5 (Option.some Jvm.ClassFile.FieldType.int) "turn" [(0, 17, 20, 34)]) {s0 : Int64} {s1 : Int32} {s2 : Option Nat} {w : wv_W} (hv : vc_X0_turn_16 G fr P s0 s1 s2 w) : wv_J G p e R s m args below meth c 5 P w 16 [] [.long s0, .int s1, va_rf s2] := by
  intro H locs cells slots ls S hl
  unfold vc_X0_turn_16 at hv
  refine wq_sl X S hv dX0_turn_16 (fun w16 H locs S hv => ?_)
  refine lv_goto (tgt := 24) X.hx X.hb dX0_turn_17 (by decide) ?_
  refine lv_iconst (v := (0 : Int32)) X.hx X.hb dX0_turn_24 (by decide) ?_
  exact wr_iret X S rfl hv dX0_turn_25
set_option maxHeartbeats 4000000 in
theorem wk_X0_turn_0 {G : wv_G} {p : Program} {e : Env} {R : Room} {s : State} {m : MethodId} {args : Array Value} {below : List Frame} {meth : Method} {c : Code} {fr : Nat} {P : wv_R → wv_H → Prop} (X : wv_ok G p R s m args meth c fr "WeaversgateLaw" cX0_turn 5 (Option.some Jvm.ClassFile.FieldType.int) "turn" [(0, 17, 20, 34)]) {v0 : Option Nat} {v1 : Int32} {v2 : Int32} {v3 : Option Nat} {w : wv_W} (hv : vc_X0_turn_0 G fr P v0 v1 v2 v3 w) : wv_J G p e R s m args below meth c 5 P w 0 [(0, va_rf v0), (1, .int v1), (2, .int v2), (3, va_rf v3)] [] := by
  intro H locs cells slots ls S hl
  unfold vc_X0_turn_0 at hv
  refine wq_aload_n X dX0_turn_0 rfl (lv_at hl 3 rfl) ?_
  refine lv_iconst (v := (0 : Int32)) X.hx X.hb dX0_turn_1 (by decide) ?_
  refine wq_aload_n X dX0_turn_2 rfl (lv_at hl 0 rfl) ?_
  refine lv_iload_n X.hx X.hb dX0_turn_3 rfl (lv_at hl 1 rfl) ?_
  refine lv_iload_n X.hx X.hb dX0_turn_4 rfl (lv_at hl 2 rfl) ?_
  refine wq_cV_I X S hv q1572 q1573 q1574 q60 ⟨by decide +kernel, by decide +kernel⟩ (nA := 2) (As := [.int v1, .int v2]) (by decide +kernel) rfl rfl (by simp [wv_rfc, wv_kI, wv_kJ, wv_kF, wv_kD]) hl.1 dX0_turn_5 (fun x5 w5 H locs cells slots S hv => ?_) ?_
  · refine lv_if_eq (tgt := 15) X.hx X.hb dX0_turn_8 (by decide) (fun c8 => ?_) (fun c8 => ?_)
    · have hv := hv.1 c8
      refine lv_lconst (v := 0) X.hx X.hb dX0_turn_15 (by decide) ?_
      exact wk_X0_turn_16 X  hv H locs cells slots ls S (lv_sub hl [] rfl)
    · have hv := hv.2 c8
      refine lv_lconst (v := 1) X.hx X.hb dX0_turn_11 (by decide) ?_
      refine lv_goto (tgt := 16) X.hx X.hb dX0_turn_12 (by decide) ?_
      exact wk_X0_turn_16 X  hv H locs cells slots ls S (lv_sub hl [] rfl)
  · intro E q w H locs cells slots S hv hth
    by_cases hE : E = "java/util/NoSuchElementException"
    · subst hE
      have hv := hv.1 rfl
      refine wr_catch X [] (0, 17, 20, 34) [] rfl (fun z hz => by cases hz) rfl (by decide) q1376 q1442 hth ?_
      exact wk_X0_turn_20 X  hv H locs cells slots ls S (lv_sub hl [] rfl)
    · have hv := hv.2 hE
      have hN0 := va_Nc.moved X.hW.alike hv.1
      have hv := hv.2
      exact wr_outP X S hv hth (List.forall_mem_cons.mpr ⟨(Or.inr ⟨by decide, "java/util/NoSuchElementException", q1376, hN0⟩), (fun z hz => absurd hz List.not_mem_nil)⟩)
theorem wk_X0_turn {G : wv_G} (hG : wv_G0 G) {v0 : Option Nat} {v1 : Int32} {v2 : Int32} {v3 : Option Nat} {h : wv_H} {fr kc ks : Nat} {P : wv_R → wv_H → Prop} (hv : vc_X0_turn_0 G fr P v0 v1 v2 v3 (h, kc, ks)) : wv_C G yX0_turn [va_rf v0, .int v1, .int v2, va_rf v3] h fr kc ks P := by
  refine wv_enterW (lv := [(0, va_rf v0), (1, .int v1), (2, .int v2), (3, va_rf v3)]) hG (by decide +kernel) q1571 (by decide) (by simp [lg_sl, wv_rfc, wv_kI, wv_kJ, wv_kF, wv_kD]) (by simp [lv_args, wv_rfc, wv_kI, wv_kJ, wv_kF, wv_kD]) ?_
  intro p e R s m args below meth c X H locs cells slots ls S hl
  exact wk_X0_turn_0 X hv H locs cells slots ls S (lv_sub hl [0, 1, 2, 3] rfl)
