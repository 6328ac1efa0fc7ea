def vc_L_law_1734 (G : wv_G) (fr : Nat) (P : wv_R → wv_H → Prop) (K28 : ((Option Nat) × (Option Nat) × (Option Nat) × (Option Nat) × (Option Nat) × Int32) → wv_W → Prop) (v0 : Option Nat) (v1 : Option Nat) (v2 : Option Nat) (v3 : Option Nat) (v4 : Option Nat) (v5 : Int32) (w : wv_W) : Prop :=
  K28 (v0, v1, v2, v3, v4, (v5 + (6 : Int32))) w
def vc_L_law_843 (G : wv_G) (fr : Nat) (P : wv_R → wv_H → Prop) (K28 : ((Option Nat) × (Option Nat) × (Option Nat) × (Option Nat) × (Option Nat) × Int32) → wv_W → Prop) (v0 : Option Nat) (v1 : Option Nat) (v2 : Option Nat) (v3 : Option Nat) (v4 : Option Nat) (v5 : Int32) (s0 : Int64) (s1 : Int64) (w : wv_W) : Prop :=
  ((lg_cmp s1 s0) = 0 → vc_L_law_1734 G fr P K28 v0 v1 v2 v3 v4 v5 w) ∧ (¬ (lg_cmp s1 s0) = 0 → narrow .boolean (.int (0 : Int32)) = .int (0 : Int32) ∧ P (.inl (some (.int (0 : Int32)))) w.1)
def vc_L_law_809 (G : wv_G) (fr : Nat) (P : wv_R → wv_H → Prop) (K28 : ((Option Nat) × (Option Nat) × (Option Nat) × (Option Nat) × (Option Nat) × Int32) → wv_W → Prop) (v0 : Option Nat) (v1 : Option Nat) (v2 : Option Nat) (v3 : Option Nat) (v4 : Option Nat) (v5 : Int32) (v6 : Int32) (s0 : Int32) (s1 : Int32) (s2 : Int32) (s3 : Option Nat) (w : wv_W) : Prop :=
  wv_cV G fr yX4_precede s3 [.int s2, .int s1, .int s0] w (wv_rI (fun x809 w809 => wv_cV G fr yX4_thrown v2 [] w809 (wv_rI (fun x815 w815 => (x815 = v6 → (¬ v6 = 0 → vc_L_law_1734 G fr P K28 v0 v1 v2 v3 v4 v5 w815) ∧ (v6 = 0 → wv_ll G w815 v3 (0 : Int32) (fun x832 => (x809 = 0 → vc_L_law_843 G fr P K28 v0 v1 v2 v3 v4 v5 (0 : Int64) x832 w815) ∧ (¬ x809 = 0 → vc_L_law_843 G fr P K28 v0 v1 v2 v3 v4 v5 (1 : Int64) x832 w815)))) ∧ (¬ x815 = v6 → narrow .boolean (.int (0 : Int32)) = .int (0 : Int32) ∧ P (.inl (some (.int (0 : Int32)))) w815.1)) (wv_pr P))) (wv_pr P))
def vc_L_law_776 (G : wv_G) (fr : Nat) (P : wv_R → wv_H → Prop) (K28 : ((Option Nat) × (Option Nat) × (Option Nat) × (Option Nat) × (Option Nat) × Int32) → wv_W → Prop) (v0 : Option Nat) (v1 : Option Nat) (v2 : Option Nat) (v3 : Option Nat) (v4 : Option Nat) (v5 : Int32) (s0 : Int32) (s1 : Int32) (s2 : Int32) (s3 : Option Nat) (w : wv_W) : Prop :=
  wv_c0 G fr yX0_precede [va_rf s3, .int s2, .int s1, .int s0, va_rf v3] w (wv_rI (fun x777 w777 => wv_li G 0 w777 v0 (v5 + (1 : Int32)) (fun x788 => wv_li G 0 w777 v0 (v5 + (2 : Int32)) (fun x794 => wv_li G 0 w777 v0 (v5 + (3 : Int32)) (fun x800 => (x800 = 0 → vc_L_law_809 G fr P K28 v0 v1 v2 v3 v4 v5 x777 (0 : Int32) x794 x788 v2 w777) ∧ (¬ x800 = 0 → vc_L_law_809 G fr P K28 v0 v1 v2 v3 v4 v5 x777 (1 : Int32) x794 x788 v2 w777))))) (wv_pr P))
def vc_L_law_740 (G : wv_G) (fr : Nat) (P : wv_R → wv_H → Prop) (K28 : ((Option Nat) × (Option Nat) × (Option Nat) × (Option Nat) × (Option Nat) × Int32) → wv_W → Prop) (v0 : Option Nat) (v1 : Option Nat) (v2 : Option Nat) (v3 : Option Nat) (v4 : Option Nat) (v5 : Int32) (s0 : Int64) (s1 : Int64) (w : wv_W) : Prop :=
  ((lg_cmp s1 s0) = 0 → vc_L_law_1734 G fr P K28 v0 v1 v2 v3 v4 v5 w) ∧ (¬ (lg_cmp s1 s0) = 0 → narrow .boolean (.int (0 : Int32)) = .int (0 : Int32) ∧ P (.inl (some (.int (0 : Int32)))) w.1)
def vc_L_law_706 (G : wv_G) (fr : Nat) (P : wv_R → wv_H → Prop) (K28 : ((Option Nat) × (Option Nat) × (Option Nat) × (Option Nat) × (Option Nat) × Int32) → wv_W → Prop) (v0 : Option Nat) (v1 : Option Nat) (v2 : Option Nat) (v3 : Option Nat) (v4 : Option Nat) (v5 : Int32) (v6 : Int32) (s0 : Int32) (s1 : Int32) (s2 : Option Nat) (w : wv_W) : Prop :=
  wv_cV G fr yX4_turn s2 [.int s1, .int s0] w (wv_rI (fun x706 w706 => wv_cV G fr yX4_thrown v2 [] w706 (wv_rI (fun x712 w712 => (x712 = v6 → (¬ v6 = 0 → vc_L_law_1734 G fr P K28 v0 v1 v2 v3 v4 v5 w712) ∧ (v6 = 0 → wv_ll G w712 v3 (0 : Int32) (fun x729 => (x706 = 0 → vc_L_law_740 G fr P K28 v0 v1 v2 v3 v4 v5 (0 : Int64) x729 w712) ∧ (¬ x706 = 0 → vc_L_law_740 G fr P K28 v0 v1 v2 v3 v4 v5 (1 : Int64) x729 w712)))) ∧ (¬ x712 = v6 → narrow .boolean (.int (0 : Int32)) = .int (0 : Int32) ∧ P (.inl (some (.int (0 : Int32)))) w712.1)) (wv_pr P))) (wv_pr P))
def vc_L_law_679 (G : wv_G) (fr : Nat) (P : wv_R → wv_H → Prop) (K28 : ((Option Nat) × (Option Nat) × (Option Nat) × (Option Nat) × (Option Nat) × Int32) → wv_W → Prop) (v0 : Option Nat) (v1 : Option Nat) (v2 : Option Nat) (v3 : Option Nat) (v4 : Option Nat) (v5 : Int32) (s0 : Int32) (s1 : Int32) (s2 : Option Nat) (w : wv_W) : Prop :=
  wv_c0 G fr yX0_turn [va_rf s2, .int s1, .int s0, va_rf v3] w (wv_rI (fun x680 w680 => wv_li G 0 w680 v0 (v5 + (1 : Int32)) (fun x691 => wv_li G 0 w680 v0 (v5 + (2 : Int32)) (fun x697 => (x697 = 0 → vc_L_law_706 G fr P K28 v0 v1 v2 v3 v4 v5 x680 (0 : Int32) x691 v2 w680) ∧ (¬ x697 = 0 → vc_L_law_706 G fr P K28 v0 v1 v2 v3 v4 v5 x680 (1 : Int32) x691 v2 w680)))) (wv_pr P))
def vc_L_law_28 (G : wv_G) (fr : Nat) (P : wv_R → wv_H → Prop) (K28 : ((Option Nat) × (Option Nat) × (Option Nat) × (Option Nat) × (Option Nat) × Int32) → wv_W → Prop) (v0 : Option Nat) (v1 : Option Nat) (v2 : Option Nat) (v3 : Option Nat) (v4 : Option Nat) (v5 : Int32) (w : wv_W) : Prop :=
  wv_lenI G 0 w v0 (fun x31 => ((x31 - (6 : Int32)) < v5 → narrow .boolean (.int (1 : Int32)) = .int (1 : Int32) ∧ P (.inl (some (.int (1 : Int32)))) w.1) ∧ (¬ (x31 - (6 : Int32)) < v5 → wv_li G 0 w v0 v5 (fun x41 => ((x41 &&& (31 : Int32)) = (0 : Int32) → wv_li G 0 w v0 (v5 + (1 : Int32)) (fun x178 => wv_c0 G fr yX0_addClass [va_rf v1, .int x178, va_rf v3] w (wv_rI (fun x180 w180 => wv_li G 0 w180 v0 (v5 + (1 : Int32)) (fun x191 => wv_cV G fr yX4_addClass v2 [.int x191] w180 (wv_rI (fun x192 w192 => wv_cV G fr yX4_thrown v2 [] w192 (wv_rI (fun x198 w198 => (x198 = x180 → (¬ x180 = 0 → vc_L_law_1734 G fr P K28 v0 v1 v2 v3 v4 v5 w198) ∧ (x180 = 0 → wv_ll G w198 v3 (0 : Int32) (fun x215 => ((lg_cmp x215 (Int32.toInt64 x192)) = 0 → vc_L_law_1734 G fr P K28 v0 v1 v2 v3 v4 v5 w198) ∧ (¬ (lg_cmp x215 (Int32.toInt64 x192)) = 0 → narrow .boolean (.int (0 : Int32)) = .int (0 : Int32) ∧ P (.inl (some (.int (0 : Int32)))) w198.1)))) ∧ (¬ x198 = x180 → narrow .boolean (.int (0 : Int32)) = .int (0 : Int32) ∧ P (.inl (some (.int (0 : Int32)))) w198.1)) (wv_pr P))) (wv_pr P)))) (wv_pr P)))) ∧ (¬ (x41 &&& (31 : Int32)) = (0 : Int32) → ((x41 &&& (31 : Int32)) = (1 : Int32) → wv_li G 0 w v0 (v5 + (1 : Int32)) (fun x234 => wv_li G 0 w v0 (v5 + (2 : Int32)) (fun x240 => wv_li G 0 w v0 (v5 + (3 : Int32)) (fun x246 => wv_li G 0 w v0 (v5 + (4 : Int32)) (fun x253 => wv_li G 0 w v0 (v5 + (5 : Int32)) (fun x259 => wv_c0 G fr yX0_addStep [va_rf v1, .int x234, .int x240, .int ((Int32.toUInt32 x246 % 65536).toInt32), .int x253, .int x259, va_rf v3] w (wv_rI (fun x261 w261 => wv_li G 0 w261 v0 (v5 + (1 : Int32)) (fun x272 => wv_li G 0 w261 v0 (v5 + (2 : Int32)) (fun x278 => wv_li G 0 w261 v0 (v5 + (3 : Int32)) (fun x284 => wv_li G 0 w261 v0 (v5 + (4 : Int32)) (fun x291 => wv_li G 0 w261 v0 (v5 + (5 : Int32)) (fun x297 => wv_cV G fr yX4_addStep v2 [.int x272, .int x278, .int ((Int32.toUInt32 x284 % 65536).toInt32), .int x291, .int x297] w261 (wv_rI (fun x298 w298 => wv_cV G fr yX4_thrown v2 [] w298 (wv_rI (fun x304 w304 => (x304 = x261 → (¬ x261 = 0 → vc_L_law_1734 G fr P K28 v0 v1 v2 v3 v4 v5 w304) ∧ (x261 = 0 → wv_ll G w304 v3 (0 : Int32) (fun x321 => ((lg_cmp x321 (Int32.toInt64 x298)) = 0 → vc_L_law_1734 G fr P K28 v0 v1 v2 v3 v4 v5 w304) ∧ (¬ (lg_cmp x321 (Int32.toInt64 x298)) = 0 → narrow .boolean (.int (0 : Int32)) = .int (0 : Int32) ∧ P (.inl (some (.int (0 : Int32)))) w304.1)))) ∧ (¬ x304 = x261 → narrow .boolean (.int (0 : Int32)) = .int (0 : Int32) ∧ P (.inl (some (.int (0 : Int32)))) w304.1)) (wv_pr P))) (wv_pr P)))))))) (wv_pr P)))))))) ∧ (¬ (x41 &&& (31 : Int32)) = (1 : Int32) → ((x41 &&& (31 : Int32)) = (2 : Int32) → wv_li G 0 w v0 (v5 + (1 : Int32)) (fun x340 => wv_li G 0 w v0 (v5 + (2 : Int32)) (fun x346 => wv_c0 G fr yX0_dropBody [va_rf v1, .int x340, .int x346, va_rf v3] w (wv_rI (fun x348 w348 => wv_li G 0 w348 v0 (v5 + (1 : Int32)) (fun x359 => wv_li G 0 w348 v0 (v5 + (2 : Int32)) (fun x365 => wv_cV G fr yX4_dropBody v2 [.int x359, .int x365] w348 (wv_rI (fun x366 w366 => wv_cV G fr yX4_thrown v2 [] w366 (wv_rI (fun x372 w372 => (x372 = x348 → (¬ x348 = 0 → vc_L_law_1734 G fr P K28 v0 v1 v2 v3 v4 v5 w372) ∧ (x348 = 0 → wv_ll G w372 v3 (0 : Int32) (fun x389 => ((lg_cmp x389 (Int32.toInt64 x366)) = 0 → vc_L_law_1734 G fr P K28 v0 v1 v2 v3 v4 v5 w372) ∧ (¬ (lg_cmp x389 (Int32.toInt64 x366)) = 0 → narrow .boolean (.int (0 : Int32)) = .int (0 : Int32) ∧ P (.inl (some (.int (0 : Int32)))) w372.1)))) ∧ (¬ x372 = x348 → narrow .boolean (.int (0 : Int32)) = .int (0 : Int32) ∧ P (.inl (some (.int (0 : Int32)))) w372.1)) (wv_pr P))) (wv_pr P))))) (wv_pr P))))) ∧ (¬ (x41 &&& (31 : Int32)) = (2 : Int32) → ((x41 &&& (31 : Int32)) = (3 : Int32) → wv_li G 0 w v0 (v5 + (1 : Int32)) (fun x408 => wv_li G 0 w v0 (v5 + (2 : Int32)) (fun x414 => wv_c0 G fr yX0_finds [va_rf v1, .int x408, .int x414, va_rf v3] w (wv_rI (fun x416 w416 => wv_li G 0 w416 v0 (v5 + (1 : Int32)) (fun x427 => wv_li G 0 w416 v0 (v5 + (2 : Int32)) (fun x433 => wv_cV G fr yX4_finds v2 [.int x427, .int x433] w416 (wv_rI (fun x434 w434 => wv_cV G fr yX4_thrown v2 [] w434 (wv_rI (fun x440 w440 => (x440 = x416 → (¬ x416 = 0 → vc_L_law_1734 G fr P K28 v0 v1 v2 v3 v4 v5 w440) ∧ (x416 = 0 → wv_ll G w440 v3 (0 : Int32) (fun x457 => ((lg_cmp x457 (Int32.toInt64 x434)) = 0 → vc_L_law_1734 G fr P K28 v0 v1 v2 v3 v4 v5 w440) ∧ (¬ (lg_cmp x457 (Int32.toInt64 x434)) = 0 → narrow .boolean (.int (0 : Int32)) = .int (0 : Int32) ∧ P (.inl (some (.int (0 : Int32)))) w440.1)))) ∧ (¬ x440 = x416 → narrow .boolean (.int (0 : Int32)) = .int (0 : Int32) ∧ P (.inl (some (.int (0 : Int32)))) w440.1)) (wv_pr P))) (wv_pr P))))) (wv_pr P))))) ∧ (¬ (x41 &&& (31 : Int32)) = (3 : Int32) → ((x41 &&& (31 : Int32)) = (4 : Int32) → wv_li G 0 w v0 (v5 + (1 : Int32)) (fun x476 => wv_li G 0 w v0 (v5 + (2 : Int32)) (fun x483 => wv_li G 0 w v0 (v5 + (3 : Int32)) (fun x489 => wv_c0 G fr yX0_addPattern [va_rf v1, .int ((Int32.toUInt32 x476 % 65536).toInt32), .int x483, .int x489, va_rf v3] w (wv_rI (fun x491 w491 => wv_li G 0 w491 v0 (v5 + (1 : Int32)) (fun x502 => wv_li G 0 w491 v0 (v5 + (2 : Int32)) (fun x509 => wv_li G 0 w491 v0 (v5 + (3 : Int32)) (fun x515 => wv_cV G fr yX4_addPattern v2 [.int ((Int32.toUInt32 x502 % 65536).toInt32), .int x509, .int x515] w491 (wv_rI (fun x516 w516 => wv_cV G fr yX4_thrown v2 [] w516 (wv_rI (fun x522 w522 => (x522 = x491 → (¬ x491 = 0 → vc_L_law_1734 G fr P K28 v0 v1 v2 v3 v4 v5 w522) ∧ (x491 = 0 → wv_ll G w522 v3 (0 : Int32) (fun x539 => ((lg_cmp x539 (Int32.toInt64 x516)) = 0 → vc_L_law_1734 G fr P K28 v0 v1 v2 v3 v4 v5 w522) ∧ (¬ (lg_cmp x539 (Int32.toInt64 x516)) = 0 → narrow .boolean (.int (0 : Int32)) = .int (0 : Int32) ∧ P (.inl (some (.int (0 : Int32)))) w522.1)))) ∧ (¬ x522 = x491 → narrow .boolean (.int (0 : Int32)) = .int (0 : Int32) ∧ P (.inl (some (.int (0 : Int32)))) w522.1)) (wv_pr P))) (wv_pr P)))))) (wv_pr P)))))) ∧ (¬ (x41 &&& (31 : Int32)) = (4 : Int32) → ((x41 &&& (31 : Int32)) = (5 : Int32) → wv_li G 0 w v0 (v5 + (1 : Int32)) (fun x558 => wv_li G 0 w v0 (v5 + (2 : Int32)) (fun x564 => wv_li G 0 w v0 (v5 + (3 : Int32)) (fun x571 => wv_li G 0 w v0 (v5 + (4 : Int32)) (fun x577 => wv_li G 0 w v0 (v5 + (5 : Int32)) (fun x583 => wv_c0 G fr yX0_addAdvice [va_rf v1, .int x558, .int ((Int32.toUInt32 x564 % 65536).toInt32), .int x571, .int x577, .int x583, va_rf v3] w (wv_rI (fun x585 w585 => wv_li G 0 w585 v0 (v5 + (1 : Int32)) (fun x596 => wv_li G 0 w585 v0 (v5 + (2 : Int32)) (fun x602 => wv_li G 0 w585 v0 (v5 + (3 : Int32)) (fun x609 => wv_li G 0 w585 v0 (v5 + (4 : Int32)) (fun x615 => wv_li G 0 w585 v0 (v5 + (5 : Int32)) (fun x621 => wv_cV G fr yX4_addAdvice v2 [.int x596, .int ((Int32.toUInt32 x602 % 65536).toInt32), .int x609, .int x615, .int x621] w585 (wv_rI (fun x622 w622 => wv_cV G fr yX4_thrown v2 [] w622 (wv_rI (fun x628 w628 => (x628 = x585 → (¬ x585 = 0 → vc_L_law_1734 G fr P K28 v0 v1 v2 v3 v4 v5 w628) ∧ (x585 = 0 → wv_ll G w628 v3 (0 : Int32) (fun x645 => ((lg_cmp x645 (Int32.toInt64 x622)) = 0 → vc_L_law_1734 G fr P K28 v0 v1 v2 v3 v4 v5 w628) ∧ (¬ (lg_cmp x645 (Int32.toInt64 x622)) = 0 → narrow .boolean (.int (0 : Int32)) = .int (0 : Int32) ∧ P (.inl (some (.int (0 : Int32)))) w628.1)))) ∧ (¬ x628 = x585 → narrow .boolean (.int (0 : Int32)) = .int (0 : Int32) ∧ P (.inl (some (.int (0 : Int32)))) w628.1)) (wv_pr P))) (wv_pr P)))))))) (wv_pr P)))))))) ∧ (¬ (x41 &&& (31 : Int32)) = (5 : Int32) → ((x41 &&& (31 : Int32)) = (6 : Int32) → wv_li G 0 w v0 (v5 + (1 : Int32)) (fun x664 => wv_li G 0 w v0 (v5 + (2 : Int32)) (fun x670 => (x670 = 0 → vc_L_law_679 G fr P K28 v0 v1 v2 v3 v4 v5 (0 : Int32) x664 v1 w) ∧ (¬ x670 = 0 → vc_L_law_679 G fr P K28 v0 v1 v2 v3 v4 v5 (1 : Int32) x664 v1 w)))) ∧ (¬ (x41 &&& (31 : Int32)) = (6 : Int32) → ((x41 &&& (31 : Int32)) = (7 : Int32) → wv_li G 0 w v0 (v5 + (1 : Int32)) (fun x755 => wv_li G 0 w v0 (v5 + (2 : Int32)) (fun x761 => wv_li G 0 w v0 (v5 + (3 : Int32)) (fun x767 => (x767 = 0 → vc_L_law_776 G fr P K28 v0 v1 v2 v3 v4 v5 (0 : Int32) x761 x755 v1 w) ∧ (¬ x767 = 0 → vc_L_law_776 G fr P K28 v0 v1 v2 v3 v4 v5 (1 : Int32) x761 x755 v1 w))))) ∧ (¬ (x41 &&& (31 : Int32)) = (7 : Int32) → ((x41 &&& (31 : Int32)) = (8 : Int32) → wv_cV G fr yX1_isRing v1 [] w (wv_rI (fun x853 w853 => wv_cV G fr yX4_isRing v2 [] w853 (wv_rI (fun x857 w857 => (x853 = x857 → vc_L_law_1734 G fr P K28 v0 v1 v2 v3 v4 v5 w857) ∧ (¬ x853 = x857 → narrow .boolean (.int (0 : Int32)) = .int (0 : Int32) ∧ P (.inl (some (.int (0 : Int32)))) w857.1)) (wv_pr P))) (wv_pr P))) ∧ (¬ (x41 &&& (31 : Int32)) = (8 : Int32) → ((x41 &&& (31 : Int32)) = (9 : Int32) → wv_li G 0 w v0 (v5 + (1 : Int32)) (fun x871 => wv_c0 G fr yX0_aspectAt [va_rf v1, .int x871, va_rf v3] w (wv_rI (fun x873 w873 => wv_li G 0 w873 v0 (v5 + (1 : Int32)) (fun x884 => wv_cV G fr yX4_aspectAt v2 [.int x884] w873 (wv_rI (fun x885 w885 => wv_cV G fr yX4_thrown v2 [] w885 (wv_rI (fun x891 w891 => (x891 = x873 → (¬ x873 = 0 → vc_L_law_1734 G fr P K28 v0 v1 v2 v3 v4 v5 w891) ∧ (x873 = 0 → wv_ll G w891 v3 (0 : Int32) (fun x908 => ((lg_cmp x908 (Int32.toInt64 x885)) = 0 → vc_L_law_1734 G fr P K28 v0 v1 v2 v3 v4 v5 w891) ∧ (¬ (lg_cmp x908 (Int32.toInt64 x885)) = 0 → narrow .boolean (.int (0 : Int32)) = .int (0 : Int32) ∧ P (.inl (some (.int (0 : Int32)))) w891.1)))) ∧ (¬ x891 = x873 → narrow .boolean (.int (0 : Int32)) = .int (0 : Int32) ∧ P (.inl (some (.int (0 : Int32)))) w891.1)) (wv_pr P))) (wv_pr P)))) (wv_pr P)))) ∧ (¬ (x41 &&& (31 : Int32)) = (9 : Int32) → ((x41 &&& (31 : Int32)) = (10 : Int32) → wv_li G 0 w v0 (v5 + (1 : Int32)) (fun x927 => wv_li G 0 w v0 (v5 + (2 : Int32)) (fun x933 => wv_c0 G fr yX0_places [va_rf v1, .int x927, .int x933, va_rf v3] w (wv_rI (fun x935 w935 => wv_li G 0 w935 v0 (v5 + (1 : Int32)) (fun x946 => wv_li G 0 w935 v0 (v5 + (2 : Int32)) (fun x952 => wv_cV G fr yX4_places v2 [.int x946, .int x952] w935 (wv_rI (fun x953 w953 => wv_cV G fr yX4_thrown v2 [] w953 (wv_rI (fun x959 w959 => (x959 = x935 → (¬ x935 = 0 → vc_L_law_1734 G fr P K28 v0 v1 v2 v3 v4 v5 w959) ∧ (x935 = 0 → wv_ll G w959 v3 (0 : Int32) (fun x976 => ((lg_cmp x976 (Int32.toInt64 x953)) = 0 → vc_L_law_1734 G fr P K28 v0 v1 v2 v3 v4 v5 w959) ∧ (¬ (lg_cmp x976 (Int32.toInt64 x953)) = 0 → narrow .boolean (.int (0 : Int32)) = .int (0 : Int32) ∧ P (.inl (some (.int (0 : Int32)))) w959.1)))) ∧ (¬ x959 = x935 → narrow .boolean (.int (0 : Int32)) = .int (0 : Int32) ∧ P (.inl (some (.int (0 : Int32)))) w959.1)) (wv_pr P))) (wv_pr P))))) (wv_pr P))))) ∧ (¬ (x41 &&& (31 : Int32)) = (10 : Int32) → ((x41 &&& (31 : Int32)) = (11 : Int32) → wv_li G 0 w v0 (v5 + (1 : Int32)) (fun x995 => wv_li G 0 w v0 (v5 + (2 : Int32)) (fun x1001 => wv_li G 0 w v0 (v5 + (3 : Int32)) (fun x1007 => wv_li G 0 w v0 (v5 + (4 : Int32)) (fun x1013 => wv_c0 G fr yX0_match [va_rf v1, .int x995, .int x1001, .int x1007, .int x1013, va_rf v3] w (wv_rI (fun x1015 w1015 => wv_li G 0 w1015 v0 (v5 + (1 : Int32)) (fun x1026 => wv_li G 0 w1015 v0 (v5 + (2 : Int32)) (fun x1032 => wv_li G 0 w1015 v0 (v5 + (3 : Int32)) (fun x1038 => wv_li G 0 w1015 v0 (v5 + (4 : Int32)) (fun x1044 => wv_cV G fr yX4_match v2 [.int x1026, .int x1032, .int x1038, .int x1044] w1015 (wv_rI (fun x1045 w1045 => wv_cV G fr yX4_thrown v2 [] w1045 (wv_rI (fun x1051 w1051 => (x1051 = x1015 → (¬ x1015 = 0 → vc_L_law_1734 G fr P K28 v0 v1 v2 v3 v4 v5 w1051) ∧ (x1015 = 0 → wv_ll G w1051 v3 (0 : Int32) (fun x1068 => ((lg_cmp x1068 (Int32.toInt64 x1045)) = 0 → vc_L_law_1734 G fr P K28 v0 v1 v2 v3 v4 v5 w1051) ∧ (¬ (lg_cmp x1068 (Int32.toInt64 x1045)) = 0 → narrow .boolean (.int (0 : Int32)) = .int (0 : Int32) ∧ P (.inl (some (.int (0 : Int32)))) w1051.1)))) ∧ (¬ x1051 = x1015 → narrow .boolean (.int (0 : Int32)) = .int (0 : Int32) ∧ P (.inl (some (.int (0 : Int32)))) w1051.1)) (wv_pr P))) (wv_pr P))))))) (wv_pr P))))))) ∧ (¬ (x41 &&& (31 : Int32)) = (11 : Int32) → ((x41 &&& (31 : Int32)) = (12 : Int32) → wv_cV G fr yX1_residues v1 [] w (wv_rI (fun x1082 w1082 => wv_cV G fr yX4_residues v2 [] w1082 (wv_rI (fun x1086 w1086 => (x1082 = x1086 → vc_L_law_1734 G fr P K28 v0 v1 v2 v3 v4 v5 w1086) ∧ (¬ x1082 = x1086 → narrow .boolean (.int (0 : Int32)) = .int (0 : Int32) ∧ P (.inl (some (.int (0 : Int32)))) w1086.1)) (wv_pr P))) (wv_pr P))) ∧ (¬ (x41 &&& (31 : Int32)) = (12 : Int32) → ((x41 &&& (31 : Int32)) = (13 : Int32) → wv_cV G fr yX1_woven v1 [] w (wv_rI (fun x1095 w1095 => wv_cV G fr yX4_woven v2 [] w1095 (wv_rI (fun x1099 w1099 => (x1095 = x1099 → vc_L_law_1734 G fr P K28 v0 v1 v2 v3 v4 v5 w1099) ∧ (¬ x1095 = x1099 → narrow .boolean (.int (0 : Int32)) = .int (0 : Int32) ∧ P (.inl (some (.int (0 : Int32)))) w1099.1)) (wv_pr P))) (wv_pr P))) ∧ (¬ (x41 &&& (31 : Int32)) = (13 : Int32) → ((x41 &&& (31 : Int32)) = (14 : Int32) → wv_li G 0 w v0 (v5 + (1 : Int32)) (fun x1113 => wv_li G 0 w v0 (v5 + (2 : Int32)) (fun x1119 => wv_li G 0 w v0 (v5 + (3 : Int32)) (fun x1125 => wv_c0 G fr yX0_run [va_rf v1, .int x1113, .int x1119, .int x1125, va_rf v3] w (wv_rI (fun x1127 w1127 => wv_li G 0 w1127 v0 (v5 + (1 : Int32)) (fun x1138 => wv_li G 0 w1127 v0 (v5 + (2 : Int32)) (fun x1144 => wv_li G 0 w1127 v0 (v5 + (3 : Int32)) (fun x1150 => wv_cV G fr yX4_run v2 [.int x1138, .int x1144, .int x1150] w1127 (wv_rI (fun x1151 w1151 => wv_cV G fr yX4_thrown v2 [] w1151 (wv_rI (fun x1157 w1157 => (x1157 = x1127 → (¬ x1127 = 0 → vc_L_law_1734 G fr P K28 v0 v1 v2 v3 v4 v5 w1157) ∧ (x1127 = 0 → wv_ll G w1157 v3 (0 : Int32) (fun x1174 => ((lg_cmp x1174 (Int32.toInt64 x1151)) = 0 → vc_L_law_1734 G fr P K28 v0 v1 v2 v3 v4 v5 w1157) ∧ (¬ (lg_cmp x1174 (Int32.toInt64 x1151)) = 0 → narrow .boolean (.int (0 : Int32)) = .int (0 : Int32) ∧ P (.inl (some (.int (0 : Int32)))) w1157.1)))) ∧ (¬ x1157 = x1127 → narrow .boolean (.int (0 : Int32)) = .int (0 : Int32) ∧ P (.inl (some (.int (0 : Int32)))) w1157.1)) (wv_pr P))) (wv_pr P)))))) (wv_pr P)))))) ∧ (¬ (x41 &&& (31 : Int32)) = (14 : Int32) → ((x41 &&& (31 : Int32)) = (15 : Int32) → wv_li G 0 w v0 (v5 + (1 : Int32)) (fun x1193 => wv_li G 0 w v0 (v5 + (2 : Int32)) (fun x1199 => wv_li G 0 w v0 (v5 + (3 : Int32)) (fun x1205 => wv_c0 G fr yX0_runAsking [va_rf v1, .int x1193, .int x1199, .int x1205, va_rf v3] w (wv_rI (fun x1207 w1207 => wv_li G 0 w1207 v0 (v5 + (1 : Int32)) (fun x1218 => wv_li G 0 w1207 v0 (v5 + (2 : Int32)) (fun x1224 => wv_li G 0 w1207 v0 (v5 + (3 : Int32)) (fun x1230 => wv_cV G fr yX4_runAsking v2 [.int x1218, .int x1224, .int x1230] w1207 (wv_rI (fun x1231 w1231 => wv_cV G fr yX4_thrown v2 [] w1231 (wv_rI (fun x1237 w1237 => (x1237 = x1207 → (¬ x1207 = 0 → vc_L_law_1734 G fr P K28 v0 v1 v2 v3 v4 v5 w1237) ∧ (x1207 = 0 → wv_ll G w1237 v3 (0 : Int32) (fun x1254 => ((lg_cmp x1254 (Int32.toInt64 x1231)) = 0 → vc_L_law_1734 G fr P K28 v0 v1 v2 v3 v4 v5 w1237) ∧ (¬ (lg_cmp x1254 (Int32.toInt64 x1231)) = 0 → narrow .boolean (.int (0 : Int32)) = .int (0 : Int32) ∧ P (.inl (some (.int (0 : Int32)))) w1237.1)))) ∧ (¬ x1237 = x1207 → narrow .boolean (.int (0 : Int32)) = .int (0 : Int32) ∧ P (.inl (some (.int (0 : Int32)))) w1237.1)) (wv_pr P))) (wv_pr P)))))) (wv_pr P)))))) ∧ (¬ (x41 &&& (31 : Int32)) = (15 : Int32) → ((x41 &&& (31 : Int32)) = (16 : Int32) → wv_c0 G fr yX0_result [va_rf v1, va_rf v3] w (wv_rI (fun x1269 w1269 => wv_cV G fr yX4_result v2 [] w1269 (wv_rI (fun x1275 w1275 => wv_cV G fr yX4_thrown v2 [] w1275 (wv_rI (fun x1281 w1281 => (x1281 = x1269 → (¬ x1269 = 0 → vc_L_law_1734 G fr P K28 v0 v1 v2 v3 v4 v5 w1281) ∧ (x1269 = 0 → wv_ll G w1281 v3 (0 : Int32) (fun x1298 => ((lg_cmp x1298 (Int32.toInt64 x1275)) = 0 → vc_L_law_1734 G fr P K28 v0 v1 v2 v3 v4 v5 w1281) ∧ (¬ (lg_cmp x1298 (Int32.toInt64 x1275)) = 0 → narrow .boolean (.int (0 : Int32)) = .int (0 : Int32) ∧ P (.inl (some (.int (0 : Int32)))) w1281.1)))) ∧ (¬ x1281 = x1269 → narrow .boolean (.int (0 : Int32)) = .int (0 : Int32) ∧ P (.inl (some (.int (0 : Int32)))) w1281.1)) (wv_pr P))) (wv_pr P))) (wv_pr P))) ∧ (¬ (x41 &&& (31 : Int32)) = (16 : Int32) → ((x41 &&& (31 : Int32)) = (17 : Int32) → wv_cV G fr yX1_points v1 [] w (wv_rI (fun x1312 w1312 => wv_cV G fr yX4_points v2 [] w1312 (wv_rI (fun x1316 w1316 => (x1312 = x1316 → vc_L_law_1734 G fr P K28 v0 v1 v2 v3 v4 v5 w1316) ∧ (¬ x1312 = x1316 → narrow .boolean (.int (0 : Int32)) = .int (0 : Int32) ∧ P (.inl (some (.int (0 : Int32)))) w1316.1)) (wv_pr P))) (wv_pr P))) ∧ (¬ (x41 &&& (31 : Int32)) = (17 : Int32) → ((x41 &&& (31 : Int32)) = (18 : Int32) → wv_cV G fr yX1_asked v1 [] w (wv_rI (fun x1325 w1325 => wv_cV G fr yX4_asked v2 [] w1325 (wv_rI (fun x1329 w1329 => (x1325 = x1329 → vc_L_law_1734 G fr P K28 v0 v1 v2 v3 v4 v5 w1329) ∧ (¬ x1325 = x1329 → narrow .boolean (.int (0 : Int32)) = .int (0 : Int32) ∧ P (.inl (some (.int (0 : Int32)))) w1329.1)) (wv_pr P))) (wv_pr P))) ∧ (¬ (x41 &&& (31 : Int32)) = (18 : Int32) → ((x41 &&& (31 : Int32)) = (19 : Int32) → wv_cV G fr yX1_traceLength v1 [] w (wv_rI (fun x1338 w1338 => wv_cV G fr yX4_traceLength v2 [] w1338 (wv_rI (fun x1342 w1342 => (x1338 = x1342 → vc_L_law_1734 G fr P K28 v0 v1 v2 v3 v4 v5 w1342) ∧ (¬ x1338 = x1342 → narrow .boolean (.int (0 : Int32)) = .int (0 : Int32) ∧ P (.inl (some (.int (0 : Int32)))) w1342.1)) (wv_pr P))) (wv_pr P))) ∧ (¬ (x41 &&& (31 : Int32)) = (19 : Int32) → ((x41 &&& (31 : Int32)) = (20 : Int32) → wv_li G 0 w v0 (v5 + (1 : Int32)) (fun x1356 => wv_c0 G fr yX0_traceKind [va_rf v1, .int x1356, va_rf v3] w (wv_rI (fun x1358 w1358 => wv_li G 0 w1358 v0 (v5 + (1 : Int32)) (fun x1369 => wv_cV G fr yX4_traceKind v2 [.int x1369] w1358 (wv_rI (fun x1370 w1370 => wv_cV G fr yX4_thrown v2 [] w1370 (wv_rI (fun x1376 w1376 => (x1376 = x1358 → (¬ x1358 = 0 → vc_L_law_1734 G fr P K28 v0 v1 v2 v3 v4 v5 w1376) ∧ (x1358 = 0 → wv_ll G w1376 v3 (0 : Int32) (fun x1393 => ((lg_cmp x1393 (Int32.toInt64 x1370)) = 0 → vc_L_law_1734 G fr P K28 v0 v1 v2 v3 v4 v5 w1376) ∧ (¬ (lg_cmp x1393 (Int32.toInt64 x1370)) = 0 → narrow .boolean (.int (0 : Int32)) = .int (0 : Int32) ∧ P (.inl (some (.int (0 : Int32)))) w1376.1)))) ∧ (¬ x1376 = x1358 → narrow .boolean (.int (0 : Int32)) = .int (0 : Int32) ∧ P (.inl (some (.int (0 : Int32)))) w1376.1)) (wv_pr P))) (wv_pr P)))) (wv_pr P)))) ∧ (¬ (x41 &&& (31 : Int32)) = (20 : Int32) → ((x41 &&& (31 : Int32)) = (21 : Int32) → wv_li G 0 w v0 (v5 + (1 : Int32)) (fun x1412 => wv_c0 G fr yX0_traceValue [va_rf v1, .int x1412, va_rf v3] w (wv_rI (fun x1414 w1414 => wv_li G 0 w1414 v0 (v5 + (1 : Int32)) (fun x1425 => wv_cV G fr yX4_traceValue v2 [.int x1425] w1414 (wv_rI (fun x1426 w1426 => wv_cV G fr yX4_thrown v2 [] w1426 (wv_rI (fun x1432 w1432 => (x1432 = x1414 → (¬ x1414 = 0 → vc_L_law_1734 G fr P K28 v0 v1 v2 v3 v4 v5 w1432) ∧ (x1414 = 0 → wv_ll G w1432 v3 (0 : Int32) (fun x1449 => ((lg_cmp x1449 (Int32.toInt64 x1426)) = 0 → vc_L_law_1734 G fr P K28 v0 v1 v2 v3 v4 v5 w1432) ∧ (¬ (lg_cmp x1449 (Int32.toInt64 x1426)) = 0 → narrow .boolean (.int (0 : Int32)) = .int (0 : Int32) ∧ P (.inl (some (.int (0 : Int32)))) w1432.1)))) ∧ (¬ x1432 = x1414 → narrow .boolean (.int (0 : Int32)) = .int (0 : Int32) ∧ P (.inl (some (.int (0 : Int32)))) w1432.1)) (wv_pr P))) (wv_pr P)))) (wv_pr P)))) ∧ (¬ (x41 &&& (31 : Int32)) = (21 : Int32) → ((x41 &&& (31 : Int32)) = (22 : Int32) → wv_li G 0 w v0 (v5 + (1 : Int32)) (fun x1468 => wv_c0 G fr yX0_traceAdvice [va_rf v1, .int x1468, va_rf v3] w (wv_rI (fun x1470 w1470 => wv_li G 0 w1470 v0 (v5 + (1 : Int32)) (fun x1481 => wv_cV G fr yX4_traceAdvice v2 [.int x1481] w1470 (wv_rI (fun x1482 w1482 => wv_cV G fr yX4_thrown v2 [] w1482 (wv_rI (fun x1488 w1488 => (x1488 = x1470 → (¬ x1470 = 0 → vc_L_law_1734 G fr P K28 v0 v1 v2 v3 v4 v5 w1488) ∧ (x1470 = 0 → wv_ll G w1488 v3 (0 : Int32) (fun x1505 => ((lg_cmp x1505 (Int32.toInt64 x1482)) = 0 → vc_L_law_1734 G fr P K28 v0 v1 v2 v3 v4 v5 w1488) ∧ (¬ (lg_cmp x1505 (Int32.toInt64 x1482)) = 0 → narrow .boolean (.int (0 : Int32)) = .int (0 : Int32) ∧ P (.inl (some (.int (0 : Int32)))) w1488.1)))) ∧ (¬ x1488 = x1470 → narrow .boolean (.int (0 : Int32)) = .int (0 : Int32) ∧ P (.inl (some (.int (0 : Int32)))) w1488.1)) (wv_pr P))) (wv_pr P)))) (wv_pr P)))) ∧ (¬ (x41 &&& (31 : Int32)) = (22 : Int32) → ((x41 &&& (31 : Int32)) = (23 : Int32) → wv_cV G fr yX1_traceSum v1 [] w (wv_rJ (fun x1519 w1519 => wv_cV G fr yX4_traceSum v2 [] w1519 (wv_rJ (fun x1523 w1523 => ((lg_cmp x1519 x1523) = 0 → vc_L_law_1734 G fr P K28 v0 v1 v2 v3 v4 v5 w1523) ∧ (¬ (lg_cmp x1519 x1523) = 0 → narrow .boolean (.int (0 : Int32)) = .int (0 : Int32) ∧ P (.inl (some (.int (0 : Int32)))) w1523.1)) (wv_pr P))) (wv_pr P))) ∧ (¬ (x41 &&& (31 : Int32)) = (23 : Int32) → ((x41 &&& (31 : Int32)) = (24 : Int32) → wv_li G 0 w v0 (v5 + (1 : Int32)) (fun x1538 => wv_c0 G fr yX0_acted [va_rf v1, .int ((Int32.toUInt32 x1538 % 65536).toInt32), va_rf v3] w (wv_rI (fun x1541 w1541 => wv_li G 0 w1541 v0 (v5 + (1 : Int32)) (fun x1552 => wv_cV G fr yX4_acted v2 [.int ((Int32.toUInt32 x1552 % 65536).toInt32)] w1541 (wv_rI (fun x1554 w1554 => wv_cV G fr yX4_thrown v2 [] w1554 (wv_rI (fun x1560 w1560 => (x1560 = x1541 → (¬ x1541 = 0 → vc_L_law_1734 G fr P K28 v0 v1 v2 v3 v4 v5 w1560) ∧ (x1541 = 0 → wv_ll G w1560 v3 (0 : Int32) (fun x1577 => ((lg_cmp x1577 (Int32.toInt64 x1554)) = 0 → vc_L_law_1734 G fr P K28 v0 v1 v2 v3 v4 v5 w1560) ∧ (¬ (lg_cmp x1577 (Int32.toInt64 x1554)) = 0 → narrow .boolean (.int (0 : Int32)) = .int (0 : Int32) ∧ P (.inl (some (.int (0 : Int32)))) w1560.1)))) ∧ (¬ x1560 = x1541 → narrow .boolean (.int (0 : Int32)) = .int (0 : Int32) ∧ P (.inl (some (.int (0 : Int32)))) w1560.1)) (wv_pr P))) (wv_pr P)))) (wv_pr P)))) ∧ (¬ (x41 &&& (31 : Int32)) = (24 : Int32) → ((x41 &&& (31 : Int32)) = (25 : Int32) → wv_c0 G fr yX0_sureShare [va_rf v1, va_rf v4] w (wv_rI (fun x1593 w1593 => wv_cV G fr yX4_sureShare v2 [] w1593 (wv_rF (fun x1599 w1599 => wv_cV G fr yX4_thrown v2 [] w1599 (wv_rI (fun x1605 w1605 => (x1605 = x1593 → (¬ x1593 = 0 → vc_L_law_1734 G fr P K28 v0 v1 v2 v3 v4 v5 w1605) ∧ (x1593 = 0 → wv_ld G w1605 v4 (0 : Int32) (fun x1623 => (vf_n64 (FP.f2d x1599)) ∧ (((Op.cmpValue (FP.dcmp x1623 (FP.f2d x1599)) .l) = 0 → vc_L_law_1734 G fr P K28 v0 v1 v2 v3 v4 v5 w1605) ∧ (¬ (Op.cmpValue (FP.dcmp x1623 (FP.f2d x1599)) .l) = 0 → wv_ld G w1605 v4 (0 : Int32) (fun x1634 => wv_ld G w1605 v4 (0 : Int32) (fun x1638 => ((Op.cmpValue (FP.dcmp x1634 x1638) .l) = 0 → narrow .boolean (.int (0 : Int32)) = .int (0 : Int32) ∧ P (.inl (some (.int (0 : Int32)))) w1605.1) ∧ (¬ (Op.cmpValue (FP.dcmp x1634 x1638) .l) = 0 → (¬ (Op.cmpValue (FP.fcmp x1599 x1599) .l) = 0 → vc_L_law_1734 G fr P K28 v0 v1 v2 v3 v4 v5 w1605) ∧ ((Op.cmpValue (FP.fcmp x1599 x1599) .l) = 0 → narrow .boolean (.int (0 : Int32)) = .int (0 : Int32) ∧ P (.inl (some (.int (0 : Int32)))) w1605.1))))))))) ∧ (¬ x1605 = x1593 → narrow .boolean (.int (0 : Int32)) = .int (0 : Int32) ∧ P (.inl (some (.int (0 : Int32)))) w1605.1)) (wv_pr P))) (wv_pr P))) (wv_pr P))) ∧ (¬ (x41 &&& (31 : Int32)) = (25 : Int32) → ((x41 &&& (31 : Int32)) = (26 : Int32) → wv_c0 G fr yX0_meanSteps [va_rf v1, va_rf v4] w (wv_rI (fun x1659 w1659 => wv_cV G fr yX4_meanSteps v2 [] w1659 (wv_rD (fun x1665 w1665 => wv_cV G fr yX4_thrown v2 [] w1665 (wv_rI (fun x1671 w1671 => (x1671 = x1659 → (¬ x1659 = 0 → vc_L_law_1734 G fr P K28 v0 v1 v2 v3 v4 v5 w1671) ∧ (x1659 = 0 → wv_ld G w1671 v4 (0 : Int32) (fun x1689 => ((Op.cmpValue (FP.dcmp x1689 x1665) .l) = 0 → vc_L_law_1734 G fr P K28 v0 v1 v2 v3 v4 v5 w1671) ∧ (¬ (Op.cmpValue (FP.dcmp x1689 x1665) .l) = 0 → wv_ld G w1671 v4 (0 : Int32) (fun x1699 => wv_ld G w1671 v4 (0 : Int32) (fun x1703 => ((Op.cmpValue (FP.dcmp x1699 x1703) .l) = 0 → narrow .boolean (.int (0 : Int32)) = .int (0 : Int32) ∧ P (.inl (some (.int (0 : Int32)))) w1671.1) ∧ (¬ (Op.cmpValue (FP.dcmp x1699 x1703) .l) = 0 → (¬ (Op.cmpValue (FP.dcmp x1665 x1665) .l) = 0 → vc_L_law_1734 G fr P K28 v0 v1 v2 v3 v4 v5 w1671) ∧ ((Op.cmpValue (FP.dcmp x1665 x1665) .l) = 0 → narrow .boolean (.int (0 : Int32)) = .int (0 : Int32) ∧ P (.inl (some (.int (0 : Int32)))) w1671.1)))))))) ∧ (¬ x1671 = x1659 → narrow .boolean (.int (0 : Int32)) = .int (0 : Int32) ∧ P (.inl (some (.int (0 : Int32)))) w1671.1)) (wv_pr P))) (wv_pr P))) (wv_pr P))) ∧ (¬ (x41 &&& (31 : Int32)) = (26 : Int32) → ((x41 &&& (31 : Int32)) = (27 : Int32) → wv_cV G fr yX1_isSound v1 [] w (wv_rI (fun x1722 w1722 => wv_cV G fr yX4_isSound v2 [] w1722 (wv_rI (fun x1726 w1726 => (x1722 = x1726 → vc_L_law_1734 G fr P K28 v0 v1 v2 v3 v4 v5 w1726) ∧ (¬ x1722 = x1726 → narrow .boolean (.int (0 : Int32)) = .int (0 : Int32) ∧ P (.inl (some (.int (0 : Int32)))) w1726.1)) (wv_pr P))) (wv_pr P))) ∧ (¬ (x41 &&& (31 : Int32)) = (27 : Int32) → vc_L_law_1734 G fr P K28 v0 v1 v2 v3 v4 v5 w)))))))))))))))))))))))))))))))
def vc_L_law_0 (G : wv_G) (fr : Nat) (P : wv_R → wv_H → Prop) (v0 : Option Nat) (w : wv_W) : Prop :=
  wv_no G w (wo_o ciX1 [va_rf none, va_rf none, va_rf none, va_rf none, va_rf none, va_rf none, va_rf none]) 7 (fun a0 w0 => wv_cI G fr yX1_init (some a0) [] w0 (wv_rV (fun w4 => wv_no G w4 (wo_o ciX4 [va_rf none, va_rf none, va_rf none, va_rf none, va_rf none, va_rf none, va_rf none, va_rf none, va_rf none, va_rf none, va_rf none, va_rf none, .int 0, .int 0, .int 0, .int 0, va_rf none]) 17 (fun a8 w8 => wv_cI G fr yX4_init (some a8) [] w8 (wv_rV (fun w12 => wv_na G w12 (1 : Int32) (fun N => wo_l (wv_A G 3) N (fun _ => 0)) (fun a17 w17 => wv_na G w17 (1 : Int32) (fun N => wo_d (wv_A G 4) N (fun _ => 0)) (fun a21 w21 => wv_L (fun K28 a w => vc_L_law_28 G fr P K28 a.1 a.2.1 a.2.2.1 a.2.2.2.1 a.2.2.2.2.1 a.2.2.2.2.2 w) (v0, (some a0), (some a8), (some a17), (some a21), (0 : Int32)) w21))) (wv_pr P)))) (wv_pr P)))
set_option maxHeartbeats 4000000 in
theorem wk_L_law_1734 {G : wv_G} {p : Program} {e : Env} {R : Room} {s : State} {m : MethodId} {args : Array Value} {below : List Frame} {meth : Method} {c : Code} {fr : Nat} {P : wv_R → wv_H → Prop} (X : wv_ok G p R s m args meth c fr "WeaversgateLaw" cL_law 9 (Option.some .boolean) "law" []) {K28 : ((Option Nat) × (Option Nat) × (Option Nat) × (Option Nat) × (Option Nat) × Int32) → wv_W → Prop} (hK28 : ∀ a w, K28 a w → wv_J G p e R s m args below meth c 9 P w 28 [(0, va_rf a.1), (1, va_rf a.2.1), (2, va_rf a.2.2.1), (3, va_rf a.2.2.2.1), (4, va_rf a.2.2.2.2.1), (5, .int a.2.2.2.2.2)] []) {v0 : Option Nat} {v1 : Option Nat} {v2 : Option Nat} {v3 : Option Nat} {v4 : Option Nat} {v5 : Int32} {w : wv_W} (hv : vc_L_law_1734 G fr P K28 v0 v1 v2 v3 v4 v5 w) : wv_J G p e R s m args below meth c 9 P w 1734 [(0, va_rf v0), (1, va_rf v1), (2, va_rf v2), (3, va_rf v3), (4, va_rf v4), (5, .int v5)] [] := by
  intro H locs cells slots ls S hl
  unfold vc_L_law_1734 at hv
  refine lv_iinc (v := (v5 + (6 : Int32))) (lv' := [(5, .int (v5 + (6 : Int32))), (0, va_rf v0), (1, va_rf v1), (2, va_rf v2), (3, va_rf v3), (4, va_rf v4)]) X.hx X.hb dL_law_1734 hl (k := 5) rfl (by rfl) (by decide) (by simp [wv_rfc, wv_kI, wv_kJ, wv_kF, wv_kD]) (fun ls hl => ?_)
  refine lv_goto (tgt := 28) X.hx X.hb dL_law_1737 (by decide) ?_
  exact hK28 _ _ hv H locs cells slots ls S (lv_sub hl [1, 2, 3, 4, 5, 0] rfl)
set_option maxHeartbeats 4000000 in
theorem wk_L_law_843 {G : wv_G} {p : Program} {e : Env} {R : Room} {s : State} {m : MethodId} {args : Array Value} {below : List Frame} {meth : Method} {c : Code} {fr : Nat} {P : wv_R → wv_H → Prop} (X : wv_ok G p R s m args meth c fr "WeaversgateLaw" cL_law 9 (Option.some .boolean) "law" []) {K28 : ((Option Nat) × (Option Nat) × (Option Nat) × (Option Nat) × (Option Nat) × Int32) → wv_W → Prop} (hK28 : ∀ a w, K28 a w → wv_J G p e R s m args below meth c 9 P w 28 [(0, va_rf a.1), (1, va_rf a.2.1), (2, va_rf a.2.2.1), (3, va_rf a.2.2.2.1), (4, va_rf a.2.2.2.2.1), (5, .int a.2.2.2.2.2)] []) {v0 : Option Nat} {v1 : Option Nat} {v2 : Option Nat} {v3 : Option Nat} {v4 : Option Nat} {v5 : Int32} {s0 : Int64} {s1 : Int64} {w : wv_W} (hv : vc_L_law_843 G fr P K28 v0 v1 v2 v3 v4 v5 s0 s1 w) : wv_J G p e R s m args below meth c 9 P w 843 [(0, va_rf v0), (1, va_rf v1), (2, va_rf v2), (3, va_rf v3), (4, va_rf v4), (5, .int v5)] [.long s0, .long s1] := by
  intro H locs cells slots ls S hl
  unfold vc_L_law_843 at hv
  refine W.lcmp X.hx X.hb dL_law_843 ?_
  refine lv_if_eq (tgt := 849) X.hx X.hb dL_law_844 (by decide) (fun c844 => ?_) (fun c844 => ?_)
  · have hv := hv.1 c844
    refine lv_goto (tgt := 1734) X.hx X.hb dL_law_849 (by decide) ?_
    exact wk_L_law_1734 X hK28 hv H locs cells slots ls S (lv_sub hl [0, 1, 2, 3, 4, 5] rfl)
  · have hv := hv.2 c844
    refine lv_iconst (v := (0 : Int32)) X.hx X.hb dL_law_847 (by decide) ?_
    exact wr_iret X S hv.1 hv.2 dL_law_848
set_option maxHeartbeats 4000000 in
theorem wk_L_law_809 {G : wv_G} {p : Program} {e : Env} {R : Room} {s : State} {m : MethodId} {args : Array Value} {below : List Frame} {meth : Method} {c : Code} {fr : Nat} {P : wv_R → wv_H → Prop} (X : wv_ok G p R s m args meth c fr "WeaversgateLaw" cL_law 9 (Option.some .boolean) "law" []) {K28 : ((Option Nat) × (Option Nat) × (Option Nat) × (Option Nat) × (Option Nat) × Int32) → wv_W → Prop} (hK28 : ∀ a w, K28 a w → wv_J G p e R s m args below meth c 9 P w 28 [(0, va_rf a.1), (1, va_rf a.2.1), (2, va_rf a.2.2.1), (3, va_rf a.2.2.2.1), (4, va_rf a.2.2.2.2.1), (5, .int a.2.2.2.2.2)] []) {v0 : Option Nat} {v1 : Option Nat} {v2 : Option Nat} {v3 : Option Nat} {v4 : Option Nat} {v5 : Int32} {v6 : Int32} {s0 : Int32} {s1 : Int32} {s2 : Int32} {s3 : Option Nat} {w : wv_W} (hv : vc_L_law_809 G fr P K28 v0 v1 v2 v3 v4 v5 v6 s0 s1 s2 s3 w) : wv_J G p e R s m args below meth c 9 P w 809 [(0, va_rf v0), (1, va_rf v1), (2, va_rf v2), (3, va_rf v3), (4, va_rf v4), (5, .int v5), (6, .int v6)] [.int s0, .int s1, .int s2, va_rf s3] := by
  intro H locs cells slots ls S hl
  unfold vc_L_law_809 at hv
  refine wq_cV_I X S hv q1979 q1980 q1981 q66 ⟨by decide +kernel, by decide +kernel⟩ (nA := 3) (As := [.int s2, .int s1, .int s0]) (by decide +kernel) rfl rfl (by simp [wv_rfc, wv_kI, wv_kJ, wv_kF, wv_kD]) hl.1 dL_law_809 (fun x809 w809 H locs cells slots S hv => ?_) (wq_kx X rfl)
  refine lv_istore X.hx X.hb (i := 7) (lv' := [(7, .int x809), (0, va_rf v0), (1, va_rf v1), (2, va_rf v2), (3, va_rf v3), (4, va_rf v4), (5, .int v5), (6, .int v6)]) dL_law_812 hl (by decide) (by simp [wv_rfc, wv_kI, wv_kJ, wv_kF, wv_kD]) (fun ls hl => ?_)
  refine wq_aload_n X dL_law_814 rfl (lv_at hl 3 rfl) ?_
  refine wq_cV_I X S hv q1863 q1864 q1865 q66 ⟨by decide +kernel, by decide +kernel⟩ (nA := 0) (As := []) (by decide +kernel) rfl rfl (by simp [wv_rfc, wv_kI, wv_kJ, wv_kF, wv_kD]) hl.1 dL_law_815 (fun x815 w815 H locs cells slots S hv => ?_) (wq_kx X rfl)
  refine lv_iload X.hx X.hb dL_law_818 (lv_at hl 7 rfl) ?_
  refine lv_icmp_eq (tgt := 825) X.hx X.hb dL_law_820 (by decide) (fun c820 => ?_) (fun c820 => ?_)
  · have hv := hv.1 c820
    refine lv_iload X.hx X.hb dL_law_825 (lv_at hl 7 rfl) ?_
    refine lv_if_ne (tgt := 849) X.hx X.hb dL_law_827 (by decide) (fun c827 => ?_) (fun c827 => ?_)
    · have hv := hv.1 c827
      refine lv_goto (tgt := 1734) X.hx X.hb dL_law_849 (by decide) ?_
      exact wk_L_law_1734 X hK28 hv H locs cells slots ls S (lv_sub hl [1, 2, 3, 4, 5, 6] rfl)
    · have hv := hv.2 c827
      refine wq_aload_n X dL_law_830 rfl (lv_at hl 4 rfl) ?_
      refine lv_iconst (v := (0 : Int32)) X.hx X.hb dL_law_831 (by decide) ?_
      refine wq_ll X S hv dL_law_832 (fun x832 hv => ?_)
      refine lv_iload X.hx X.hb dL_law_833 (lv_at hl 0 rfl) ?_
      refine lv_if_eq (tgt := 842) X.hx X.hb dL_law_835 (by decide) (fun c835 => ?_) (fun c835 => ?_)
      · have hv := hv.1 c835
        refine lv_lconst (v := 0) X.hx X.hb dL_law_842 (by decide) ?_
        exact wk_L_law_843 X hK28 hv H locs cells slots ls S (lv_sub hl [1, 2, 3, 4, 5, 6] rfl)
      · have hv := hv.2 c835
        refine lv_lconst (v := 1) X.hx X.hb dL_law_838 (by decide) ?_
        refine lv_goto (tgt := 843) X.hx X.hb dL_law_839 (by decide) ?_
        exact wk_L_law_843 X hK28 hv H locs cells slots ls S (lv_sub hl [1, 2, 3, 4, 5, 6] rfl)
  · have hv := hv.2 c820
    refine lv_iconst (v := (0 : Int32)) X.hx X.hb dL_law_823 (by decide) ?_
    exact wr_iret X S hv.1 hv.2 dL_law_824
set_option maxHeartbeats 4000000 in
theorem wk_L_law_776 {G : wv_G} {p : Program} {e : Env} {R : Room} {s : State} {m : MethodId} {args : Array Value} {below : List Frame} {meth : Method} {c : Code} {fr : Nat} {P : wv_R → wv_H → Prop} (X : wv_ok G p R s m args meth c fr "WeaversgateLaw" cL_law 9 (Option.some .boolean) "law" []) {K28 : ((Option Nat) × (Option Nat) × (Option Nat) × (Option Nat) × (Option Nat) × Int32) → wv_W → Prop} (hK28 : ∀ a w, K28 a w → wv_J G p e R s m args below meth c 9 P w 28 [(0, va_rf a.1), (1, va_rf a.2.1), (2, va_rf a.2.2.1), (3, va_rf a.2.2.2.1), (4, va_rf a.2.2.2.2.1), (5, .int a.2.2.2.2.2)] []) {v0 : Option Nat} {v1 : Option Nat} {v2 : Option Nat} {v3 : Option Nat} {v4 : Option Nat} {v5 : Int32} {s0 : Int32} {s1 : Int32} {s2 : Int32} {s3 : Option Nat} {w : wv_W} (hv : vc_L_law_776 G fr P K28 v0 v1 v2 v3 v4 v5 s0 s1 s2 s3 w) : wv_J G p e R s m args below meth c 9 P w 776 [(0, va_rf v0), (1, va_rf v1), (2, va_rf v2), (3, va_rf v3), (4, va_rf v4), (5, .int v5)] [.int s0, .int s1, .int s2, va_rf s3] := by
  intro H locs cells slots ls S hl
  unfold vc_L_law_776 at hv
  refine wq_aload_n X dL_law_776 rfl (lv_at hl 3 rfl) ?_
  refine wq_cS_I X S hv q1580 q1581 q59 ⟨by decide +kernel, by decide +kernel⟩ (nA := 5) (As := [va_rf s3, .int s2, .int s1, .int s0, va_rf v3]) (by decide +kernel) rfl rfl (by simp [wv_rfc, wv_kI, wv_kJ, wv_kF, wv_kD]) hl.1 dL_law_777 (fun x777 w777 H locs cells slots S hv => ?_) (wq_kx X rfl)
  refine lv_istore X.hx X.hb (i := 6) (lv' := [(6, .int x777), (0, va_rf v0), (1, va_rf v1), (2, va_rf v2), (3, va_rf v3), (4, va_rf v4), (5, .int v5)]) dL_law_780 hl (by decide) (by simp [wv_rfc, wv_kI, wv_kJ, wv_kF, wv_kD]) (fun ls hl => ?_)
  refine wq_aload_n X dL_law_782 rfl (lv_at hl 3 rfl) ?_
  refine wq_aload_n X dL_law_783 rfl (lv_at hl 1 rfl) ?_
  refine lv_iload X.hx X.hb dL_law_784 (lv_at hl 6 rfl) ?_
  refine lv_iconst (v := (1 : Int32)) X.hx X.hb dL_law_786 (by decide) ?_
  refine lv_iadd X.hx X.hb dL_law_787 ?_
  refine wq_li0 X S hv dL_law_788 (fun x788 hv => ?_)
  refine wq_aload_n X dL_law_789 rfl (lv_at hl 1 rfl) ?_
  refine lv_iload X.hx X.hb dL_law_790 (lv_at hl 6 rfl) ?_
  refine lv_iconst (v := (2 : Int32)) X.hx X.hb dL_law_792 (by decide) ?_
  refine lv_iadd X.hx X.hb dL_law_793 ?_
  refine wq_li0 X S hv dL_law_794 (fun x794 hv => ?_)
  refine wq_aload_n X dL_law_795 rfl (lv_at hl 1 rfl) ?_
  refine lv_iload X.hx X.hb dL_law_796 (lv_at hl 6 rfl) ?_
  refine lv_iconst (v := (3 : Int32)) X.hx X.hb dL_law_798 (by decide) ?_
  refine lv_iadd X.hx X.hb dL_law_799 ?_
  refine wq_li0 X S hv dL_law_800 (fun x800 hv => ?_)
  refine lv_if_eq (tgt := 808) X.hx X.hb dL_law_801 (by decide) (fun c801 => ?_) (fun c801 => ?_)
  · have hv := hv.1 c801
    refine lv_iconst (v := (0 : Int32)) X.hx X.hb dL_law_808 (by decide) ?_
    exact wk_L_law_809 X hK28 hv H locs cells slots ls S (lv_sub hl [1, 2, 3, 4, 5, 6, 0] rfl)
  · have hv := hv.2 c801
    refine lv_iconst (v := (1 : Int32)) X.hx X.hb dL_law_804 (by decide) ?_
    refine lv_goto (tgt := 809) X.hx X.hb dL_law_805 (by decide) ?_
    exact wk_L_law_809 X hK28 hv H locs cells slots ls S (lv_sub hl [1, 2, 3, 4, 5, 6, 0] rfl)
set_option maxHeartbeats 4000000 in
theorem wk_L_law_740 {G : wv_G} {p : Program} {e : Env} {R : Room} {s : State} {m : MethodId} {args : Array Value} {below : List Frame} {meth : Method} {c : Code} {fr : Nat} {P : wv_R → wv_H → Prop} (X : wv_ok G p R s m args meth c fr "WeaversgateLaw" cL_law 9 (Option.some .boolean) "law" []) {K28 : ((Option Nat) × (Option Nat) × (Option Nat) × (Option Nat) × (Option Nat) × Int32) → wv_W → Prop} (hK28 : ∀ a w, K28 a w → wv_J G p e R s m args below meth c 9 P w 28 [(0, va_rf a.1), (1, va_rf a.2.1), (2, va_rf a.2.2.1), (3, va_rf a.2.2.2.1), (4, va_rf a.2.2.2.2.1), (5, .int a.2.2.2.2.2)] []) {v0 : Option Nat} {v1 : Option Nat} {v2 : Option Nat} {v3 : Option Nat} {v4 : Option Nat} {v5 : Int32} {s0 : Int64} {s1 : Int64} {w : wv_W} (hv : vc_L_law_740 G fr P K28 v0 v1 v2 v3 v4 v5 s0 s1 w) : wv_J G p e R s m args below meth c 9 P w 740 [(0, va_rf v0), (1, va_rf v1), (2, va_rf v2), (3, va_rf v3), (4, va_rf v4), (5, .int v5)] [.long s0, .long s1] := by
  intro H locs cells slots ls S hl
  unfold vc_L_law_740 at hv
  refine W.lcmp X.hx X.hb dL_law_740 ?_
  refine lv_if_eq (tgt := 746) X.hx X.hb dL_law_741 (by decide) (fun c741 => ?_) (fun c741 => ?_)
  · have hv := hv.1 c741
    refine lv_goto (tgt := 1734) X.hx X.hb dL_law_746 (by decide) ?_
    exact wk_L_law_1734 X hK28 hv H locs cells slots ls S (lv_sub hl [0, 1, 2, 3, 4, 5] rfl)
  · have hv := hv.2 c741
    refine lv_iconst (v := (0 : Int32)) X.hx X.hb dL_law_744 (by decide) ?_
    exact wr_iret X S hv.1 hv.2 dL_law_745
set_option maxHeartbeats 4000000 in
theorem wk_L_law_706 {G : wv_G} {p : Program} {e : Env} {R : Room} {s : State} {m : MethodId} {args : Array Value} {below : List Frame} {meth : Method} {c : Code} {fr : Nat} {P : wv_R → wv_H → Prop} (X : wv_ok G p R s m args meth c fr "WeaversgateLaw" cL_law 9 (Option.some .boolean) "law" []) {K28 : ((Option Nat) × (Option Nat) × (Option Nat) × (Option Nat) × (Option Nat) × Int32) → wv_W → Prop} (hK28 : ∀ a w, K28 a w → wv_J G p e R s m args below meth c 9 P w 28 [(0, va_rf a.1), (1, va_rf a.2.1), (2, va_rf a.2.2.1), (3, va_rf a.2.2.2.1), (4, va_rf a.2.2.2.2.1), (5, .int a.2.2.2.2.2)] []) {v0 : Option Nat} {v1 : Option Nat} {v2 : Option Nat} {v3 : Option Nat} {v4 : Option Nat} {v5 : Int32} {v6 : Int32} {s0 : Int32} {s1 : Int32} {s2 : Option Nat} {w : wv_W} (hv : vc_L_law_706 G fr P K28 v0 v1 v2 v3 v4 v5 v6 s0 s1 s2 w) : wv_J G p e R s m args below meth c 9 P w 706 [(0, va_rf v0), (1, va_rf v1), (2, va_rf v2), (3, va_rf v3), (4, va_rf v4), (5, .int v5), (6, .int v6)] [.int s0, .int s1, va_rf s2] := by
  intro H locs cells slots ls S hl
  unfold vc_L_law_706 at hv
  refine wq_cV_I X S hv q1967 q1968 q1969 q66 ⟨by decide +kernel, by decide +kernel⟩ (nA := 2) (As := [.int s1, .int s0]) (by decide +kernel) rfl rfl (by simp [wv_rfc, wv_kI, wv_kJ, wv_kF, wv_kD]) hl.1 dL_law_706 (fun x706 w706 H locs cells slots S hv => ?_) (wq_kx X rfl)
  refine lv_istore X.hx X.hb (i := 7) (lv' := [(7, .int x706), (0, va_rf v0), (1, va_rf v1), (2, va_rf v2), (3, va_rf v3), (4, va_rf v4), (5, .int v5), (6, .int v6)]) dL_law_709 hl (by decide) (by simp [wv_rfc, wv_kI, wv_kJ, wv_kF, wv_kD]) (fun ls hl => ?_)
  refine wq_aload_n X dL_law_711 rfl (lv_at hl 3 rfl) ?_
  refine wq_cV_I X S hv q1863 q1864 q1865 q66 ⟨by decide +kernel, by decide +kernel⟩ (nA := 0) (As := []) (by decide +kernel) rfl rfl (by simp [wv_rfc, wv_kI, wv_kJ, wv_kF, wv_kD]) hl.1 dL_law_712 (fun x712 w712 H locs cells slots S hv => ?_) (wq_kx X rfl)
  refine lv_iload X.hx X.hb dL_law_715 (lv_at hl 7 rfl) ?_
  refine lv_icmp_eq (tgt := 722) X.hx X.hb dL_law_717 (by decide) (fun c717 => ?_) (fun c717 => ?_)
  · have hv := hv.1 c717
    refine lv_iload X.hx X.hb dL_law_722 (lv_at hl 7 rfl) ?_
    refine lv_if_ne (tgt := 746) X.hx X.hb dL_law_724 (by decide) (fun c724 => ?_) (fun c724 => ?_)
    · have hv := hv.1 c724
      refine lv_goto (tgt := 1734) X.hx X.hb dL_law_746 (by decide) ?_
      exact wk_L_law_1734 X hK28 hv H locs cells slots ls S (lv_sub hl [1, 2, 3, 4, 5, 6] rfl)
    · have hv := hv.2 c724
      refine wq_aload_n X dL_law_727 rfl (lv_at hl 4 rfl) ?_
      refine lv_iconst (v := (0 : Int32)) X.hx X.hb dL_law_728 (by decide) ?_
      refine wq_ll X S hv dL_law_729 (fun x729 hv => ?_)
      refine lv_iload X.hx X.hb dL_law_730 (lv_at hl 0 rfl) ?_
      refine lv_if_eq (tgt := 739) X.hx X.hb dL_law_732 (by decide) (fun c732 => ?_) (fun c732 => ?_)
      · have hv := hv.1 c732
        refine lv_lconst (v := 0) X.hx X.hb dL_law_739 (by decide) ?_
        exact wk_L_law_740 X hK28 hv H locs cells slots ls S (lv_sub hl [1, 2, 3, 4, 5, 6] rfl)
      · have hv := hv.2 c732
        refine lv_lconst (v := 1) X.hx X.hb dL_law_735 (by decide) ?_
        refine lv_goto (tgt := 740) X.hx X.hb dL_law_736 (by decide) ?_
        exact wk_L_law_740 X hK28 hv H locs cells slots ls S (lv_sub hl [1, 2, 3, 4, 5, 6] rfl)
  · have hv := hv.2 c717
    refine lv_iconst (v := (0 : Int32)) X.hx X.hb dL_law_720 (by decide) ?_
    exact wr_iret X S hv.1 hv.2 dL_law_721
set_option maxHeartbeats 4000000 in
theorem wk_L_law_679 {G : wv_G} {p : Program} {e : Env} {R : Room} {s : State} {m : MethodId} {args : Array Value} {below : List Frame} {meth : Method} {c : Code} {fr : Nat} {P : wv_R → wv_H → Prop} (X : wv_ok G p R s m args meth c fr "WeaversgateLaw" cL_law 9 (Option.some .boolean) "law" []) {K28 : ((Option Nat) × (Option Nat) × (Option Nat) × (Option Nat) × (Option Nat) × Int32) → wv_W → Prop} (hK28 : ∀ a w, K28 a w → wv_J G p e R s m args below meth c 9 P w 28 [(0, va_rf a.1), (1, va_rf a.2.1), (2, va_rf a.2.2.1), (3, va_rf a.2.2.2.1), (4, va_rf a.2.2.2.2.1), (5, .int a.2.2.2.2.2)] []) {v0 : Option Nat} {v1 : Option Nat} {v2 : Option Nat} {v3 : Option Nat} {v4 : Option Nat} {v5 : Int32} {s0 : Int32} {s1 : Int32} {s2 : Option Nat} {w : wv_W} (hv : vc_L_law_679 G fr P K28 v0 v1 v2 v3 v4 v5 s0 s1 s2 w) : wv_J G p e R s m args below meth c 9 P w 679 [(0, va_rf v0), (1, va_rf v1), (2, va_rf v2), (3, va_rf v3), (4, va_rf v4), (5, .int v5)] [.int s0, .int s1, va_rf s2] := by
  intro H locs cells slots ls S hl
  unfold vc_L_law_679 at hv
  refine wq_aload_n X dL_law_679 rfl (lv_at hl 3 rfl) ?_
  refine wq_cS_I X S hv q1569 q1570 q59 ⟨by decide +kernel, by decide +kernel⟩ (nA := 4) (As := [va_rf s2, .int s1, .int s0, va_rf v3]) (by decide +kernel) rfl rfl (by simp [wv_rfc, wv_kI, wv_kJ, wv_kF, wv_kD]) hl.1 dL_law_680 (fun x680 w680 H locs cells slots S hv => ?_) (wq_kx X rfl)
  refine lv_istore X.hx X.hb (i := 6) (lv' := [(6, .int x680), (0, va_rf v0), (1, va_rf v1), (2, va_rf v2), (3, va_rf v3), (4, va_rf v4), (5, .int v5)]) dL_law_683 hl (by decide) (by simp [wv_rfc, wv_kI, wv_kJ, wv_kF, wv_kD]) (fun ls hl => ?_)
  refine wq_aload_n X dL_law_685 rfl (lv_at hl 3 rfl) ?_
  refine wq_aload_n X dL_law_686 rfl (lv_at hl 1 rfl) ?_
  refine lv_iload X.hx X.hb dL_law_687 (lv_at hl 6 rfl) ?_
  refine lv_iconst (v := (1 : Int32)) X.hx X.hb dL_law_689 (by decide) ?_
  refine lv_iadd X.hx X.hb dL_law_690 ?_
  refine wq_li0 X S hv dL_law_691 (fun x691 hv => ?_)
  refine wq_aload_n X dL_law_692 rfl (lv_at hl 1 rfl) ?_
  refine lv_iload X.hx X.hb dL_law_693 (lv_at hl 6 rfl) ?_
  refine lv_iconst (v := (2 : Int32)) X.hx X.hb dL_law_695 (by decide) ?_
  refine lv_iadd X.hx X.hb dL_law_696 ?_
  refine wq_li0 X S hv dL_law_697 (fun x697 hv => ?_)
  refine lv_if_eq (tgt := 705) X.hx X.hb dL_law_698 (by decide) (fun c698 => ?_) (fun c698 => ?_)
  · have hv := hv.1 c698
    refine lv_iconst (v := (0 : Int32)) X.hx X.hb dL_law_705 (by decide) ?_
    exact wk_L_law_706 X hK28 hv H locs cells slots ls S (lv_sub hl [1, 2, 3, 4, 5, 6, 0] rfl)
  · have hv := hv.2 c698
    refine lv_iconst (v := (1 : Int32)) X.hx X.hb dL_law_701 (by decide) ?_
    refine lv_goto (tgt := 706) X.hx X.hb dL_law_702 (by decide) ?_
    exact wk_L_law_706 X hK28 hv H locs cells slots ls S (lv_sub hl [1, 2, 3, 4, 5, 6, 0] rfl)
set_option maxHeartbeats 4000000 in
theorem wk_L_law_28 {G : wv_G} {p : Program} {e : Env} {R : Room} {s : State} {m : MethodId} {args : Array Value} {below : List Frame} {meth : Method} {c : Code} {fr : Nat} {P : wv_R → wv_H → Prop} (X : wv_ok G p R s m args meth c fr "WeaversgateLaw" cL_law 9 (Option.some .boolean) "law" []) {K28 : ((Option Nat) × (Option Nat) × (Option Nat) × (Option Nat) × (Option Nat) × Int32) → wv_W → Prop} (hK28 : ∀ a w, K28 a w → wv_J G p e R s m args below meth c 9 P w 28 [(0, va_rf a.1), (1, va_rf a.2.1), (2, va_rf a.2.2.1), (3, va_rf a.2.2.2.1), (4, va_rf a.2.2.2.2.1), (5, .int a.2.2.2.2.2)] []) {v0 : Option Nat} {v1 : Option Nat} {v2 : Option Nat} {v3 : Option Nat} {v4 : Option Nat} {v5 : Int32} {w : wv_W} (hv : vc_L_law_28 G fr P K28 v0 v1 v2 v3 v4 v5 w) : wv_J G p e R s m args below meth c 9 P w 28 [(0, va_rf v0), (1, va_rf v1), (2, va_rf v2), (3, va_rf v3), (4, va_rf v4), (5, .int v5)] [] := by
  intro H locs cells slots ls S hl
  unfold vc_L_law_28 at hv
  refine lv_iload X.hx X.hb dL_law_28 (lv_at hl 5 rfl) ?_
  refine wq_aload_n X dL_law_30 rfl (lv_at hl 0 rfl) ?_
  refine wq_len0 X S hv dL_law_31 (fun x31 hv => ?_)
  refine lv_bipush (v := (6 : Int32)) X.hx X.hb dL_law_32 (by decide) ?_
  refine lv_isub X.hx X.hb dL_law_34 ?_
  refine lv_icmp_gt (tgt := 1740) X.hx X.hb dL_law_35 (by decide) (fun c35 => ?_) (fun c35 => ?_)
  · have hv := hv.1 c35
    refine lv_iconst (v := (1 : Int32)) X.hx X.hb dL_law_1740 (by decide) ?_
    exact wr_iret X S hv.1 hv.2 dL_law_1741
  · have hv := hv.2 c35
    refine wq_aload_n X dL_law_38 rfl (lv_at hl 0 rfl) ?_
    refine lv_iload X.hx X.hb dL_law_39 (lv_at hl 5 rfl) ?_
    refine wq_li0 X S hv dL_law_41 (fun x41 hv => ?_)
    refine lv_bipush (v := (31 : Int32)) X.hx X.hb dL_law_42 (by decide) ?_
    refine lv_iand X.hx X.hb dL_law_44 ?_
    by_cases h45_0 : (x41 &&& (31 : Int32)) = (0 : Int32)
    · have hv := hv.1 h45_0
      refine lv_tableIn (tgt := 172) (off := 127) X.hx X.hb dL_law_45 (by rw [h45_0]; decide) (by rw [h45_0]; decide) (by rw [h45_0]; decide) (by decide) ?_
      refine wq_aload_n X dL_law_172 rfl (lv_at hl 1 rfl) ?_
      refine wq_aload_n X dL_law_173 rfl (lv_at hl 0 rfl) ?_
      refine lv_iload X.hx X.hb dL_law_174 (lv_at hl 5 rfl) ?_
      refine lv_iconst (v := (1 : Int32)) X.hx X.hb dL_law_176 (by decide) ?_
      refine lv_iadd X.hx X.hb dL_law_177 ?_
      refine wq_li0 X S hv dL_law_178 (fun x178 hv => ?_)
      refine wq_aload_n X dL_law_179 rfl (lv_at hl 3 rfl) ?_
      refine wq_cS_I X S hv q1212 q1213 q59 ⟨by decide +kernel, by decide +kernel⟩ (nA := 3) (As := [va_rf v1, .int x178, va_rf v3]) (by decide +kernel) rfl rfl (by simp [wv_rfc, wv_kI, wv_kJ, wv_kF, wv_kD]) hl.1 dL_law_180 (fun x180 w180 H locs cells slots S hv => ?_) (wq_kx X rfl)
      refine lv_istore X.hx X.hb (i := 6) (lv' := [(6, .int x180), (0, va_rf v0), (1, va_rf v1), (2, va_rf v2), (3, va_rf v3), (4, va_rf v4), (5, .int v5)]) dL_law_183 hl (by decide) (by simp [wv_rfc, wv_kI, wv_kJ, wv_kF, wv_kD]) (fun ls hl => ?_)
      refine wq_aload_n X dL_law_185 rfl (lv_at hl 3 rfl) ?_
      refine wq_aload_n X dL_law_186 rfl (lv_at hl 1 rfl) ?_
      refine lv_iload X.hx X.hb dL_law_187 (lv_at hl 6 rfl) ?_
      refine lv_iconst (v := (1 : Int32)) X.hx X.hb dL_law_189 (by decide) ?_
      refine lv_iadd X.hx X.hb dL_law_190 ?_
      refine wq_li0 X S hv dL_law_191 (fun x191 hv => ?_)
      refine wq_cV_I X S hv q1867 q1868 q1869 q66 ⟨by decide +kernel, by decide +kernel⟩ (nA := 1) (As := [.int x191]) (by decide +kernel) rfl rfl (by simp [wv_rfc, wv_kI, wv_kJ, wv_kF, wv_kD]) hl.1 dL_law_192 (fun x192 w192 H locs cells slots S hv => ?_) (wq_kx X rfl)
      refine lv_istore X.hx X.hb (i := 7) (lv' := [(7, .int x192), (6, .int x180), (0, va_rf v0), (1, va_rf v1), (2, va_rf v2), (3, va_rf v3), (4, va_rf v4), (5, .int v5)]) dL_law_195 hl (by decide) (by simp [wv_rfc, wv_kI, wv_kJ, wv_kF, wv_kD]) (fun ls hl => ?_)
      refine wq_aload_n X dL_law_197 rfl (lv_at hl 4 rfl) ?_
      refine wq_cV_I X S hv q1863 q1864 q1865 q66 ⟨by decide +kernel, by decide +kernel⟩ (nA := 0) (As := []) (by decide +kernel) rfl rfl (by simp [wv_rfc, wv_kI, wv_kJ, wv_kF, wv_kD]) hl.1 dL_law_198 (fun x198 w198 H locs cells slots S hv => ?_) (wq_kx X rfl)
      refine lv_iload X.hx X.hb dL_law_201 (lv_at hl 1 rfl) ?_
      refine lv_icmp_eq (tgt := 208) X.hx X.hb dL_law_203 (by decide) (fun c203 => ?_) (fun c203 => ?_)
      · have hv := hv.1 c203
        refine lv_iload X.hx X.hb dL_law_208 (lv_at hl 1 rfl) ?_
        refine lv_if_ne (tgt := 225) X.hx X.hb dL_law_210 (by decide) (fun c210 => ?_) (fun c210 => ?_)
        · have hv := hv.1 c210
          refine lv_goto (tgt := 1734) X.hx X.hb dL_law_225 (by decide) ?_
          exact wk_L_law_1734 X hK28 hv H locs cells slots ls S (lv_sub hl [2, 3, 4, 5, 6, 7] rfl)
        · have hv := hv.2 c210
          refine wq_aload_n X dL_law_213 rfl (lv_at hl 5 rfl) ?_
          refine lv_iconst (v := (0 : Int32)) X.hx X.hb dL_law_214 (by decide) ?_
          refine wq_ll X S hv dL_law_215 (fun x215 hv => ?_)
          refine lv_iload X.hx X.hb dL_law_216 (lv_at hl 0 rfl) ?_
          refine lv_i2l X.hx X.hb dL_law_218 rfl ?_
          refine W.lcmp X.hx X.hb dL_law_219 ?_
          refine lv_if_eq (tgt := 225) X.hx X.hb dL_law_220 (by decide) (fun c220 => ?_) (fun c220 => ?_)
          · have hv := hv.1 c220
            refine lv_goto (tgt := 1734) X.hx X.hb dL_law_225 (by decide) ?_
            exact wk_L_law_1734 X hK28 hv H locs cells slots ls S (lv_sub hl [2, 3, 4, 5, 6, 7] rfl)
          · have hv := hv.2 c220
            refine lv_iconst (v := (0 : Int32)) X.hx X.hb dL_law_223 (by decide) ?_
            exact wr_iret X S hv.1 hv.2 dL_law_224
      · have hv := hv.2 c203
        refine lv_iconst (v := (0 : Int32)) X.hx X.hb dL_law_206 (by decide) ?_
        exact wr_iret X S hv.1 hv.2 dL_law_207
    · have hv := hv.2 h45_0
      by_cases h45_1 : (x41 &&& (31 : Int32)) = (1 : Int32)
      · have hv := hv.1 h45_1
        refine lv_tableIn (tgt := 228) (off := 183) X.hx X.hb dL_law_45 (by rw [h45_1]; decide) (by rw [h45_1]; decide) (by rw [h45_1]; decide) (by decide) ?_
        refine wq_aload_n X dL_law_228 rfl (lv_at hl 1 rfl) ?_
        refine wq_aload_n X dL_law_229 rfl (lv_at hl 0 rfl) ?_
        refine lv_iload X.hx X.hb dL_law_230 (lv_at hl 5 rfl) ?_
        refine lv_iconst (v := (1 : Int32)) X.hx X.hb dL_law_232 (by decide) ?_
        refine lv_iadd X.hx X.hb dL_law_233 ?_
        refine wq_li0 X S hv dL_law_234 (fun x234 hv => ?_)
        refine wq_aload_n X dL_law_235 rfl (lv_at hl 0 rfl) ?_
        refine lv_iload X.hx X.hb dL_law_236 (lv_at hl 5 rfl) ?_
        refine lv_iconst (v := (2 : Int32)) X.hx X.hb dL_law_238 (by decide) ?_
        refine lv_iadd X.hx X.hb dL_law_239 ?_
        refine wq_li0 X S hv dL_law_240 (fun x240 hv => ?_)
        refine wq_aload_n X dL_law_241 rfl (lv_at hl 0 rfl) ?_
        refine lv_iload X.hx X.hb dL_law_242 (lv_at hl 5 rfl) ?_
        refine lv_iconst (v := (3 : Int32)) X.hx X.hb dL_law_244 (by decide) ?_
        refine lv_iadd X.hx X.hb dL_law_245 ?_
        refine wq_li0 X S hv dL_law_246 (fun x246 hv => ?_)
        refine lv_i2c X.hx X.hb dL_law_247 rfl ?_
        refine wq_aload_n X dL_law_248 rfl (lv_at hl 0 rfl) ?_
        refine lv_iload X.hx X.hb dL_law_249 (lv_at hl 5 rfl) ?_
        refine lv_iconst (v := (4 : Int32)) X.hx X.hb dL_law_251 (by decide) ?_
        refine lv_iadd X.hx X.hb dL_law_252 ?_
        refine wq_li0 X S hv dL_law_253 (fun x253 hv => ?_)
        refine wq_aload_n X dL_law_254 rfl (lv_at hl 0 rfl) ?_
        refine lv_iload X.hx X.hb dL_law_255 (lv_at hl 5 rfl) ?_
        refine lv_iconst (v := (5 : Int32)) X.hx X.hb dL_law_257 (by decide) ?_
        refine lv_iadd X.hx X.hb dL_law_258 ?_
        refine wq_li0 X S hv dL_law_259 (fun x259 hv => ?_)
        refine wq_aload_n X dL_law_260 rfl (lv_at hl 3 rfl) ?_
        refine wq_cS_I X S hv q1315 q1316 q59 ⟨by decide +kernel, by decide +kernel⟩ (nA := 7) (As := [va_rf v1, .int x234, .int x240, .int ((Int32.toUInt32 x246 % 65536).toInt32), .int x253, .int x259, va_rf v3]) (by decide +kernel) rfl rfl (by simp [wv_rfc, wv_kI, wv_kJ, wv_kF, wv_kD]) hl.1 dL_law_261 (fun x261 w261 H locs cells slots S hv => ?_) (wq_kx X rfl)
        refine lv_istore X.hx X.hb (i := 6) (lv' := [(6, .int x261), (0, va_rf v0), (1, va_rf v1), (2, va_rf v2), (3, va_rf v3), (4, va_rf v4), (5, .int v5)]) dL_law_264 hl (by decide) (by simp [wv_rfc, wv_kI, wv_kJ, wv_kF, wv_kD]) (fun ls hl => ?_)
        refine wq_aload_n X dL_law_266 rfl (lv_at hl 3 rfl) ?_
        refine wq_aload_n X dL_law_267 rfl (lv_at hl 1 rfl) ?_
        refine lv_iload X.hx X.hb dL_law_268 (lv_at hl 6 rfl) ?_
        refine lv_iconst (v := (1 : Int32)) X.hx X.hb dL_law_270 (by decide) ?_
        refine lv_iadd X.hx X.hb dL_law_271 ?_
        refine wq_li0 X S hv dL_law_272 (fun x272 hv => ?_)
        refine wq_aload_n X dL_law_273 rfl (lv_at hl 1 rfl) ?_
        refine lv_iload X.hx X.hb dL_law_274 (lv_at hl 6 rfl) ?_
        refine lv_iconst (v := (2 : Int32)) X.hx X.hb dL_law_276 (by decide) ?_
        refine lv_iadd X.hx X.hb dL_law_277 ?_
        refine wq_li0 X S hv dL_law_278 (fun x278 hv => ?_)
        refine wq_aload_n X dL_law_279 rfl (lv_at hl 1 rfl) ?_
        refine lv_iload X.hx X.hb dL_law_280 (lv_at hl 6 rfl) ?_
        refine lv_iconst (v := (3 : Int32)) X.hx X.hb dL_law_282 (by decide) ?_
        refine lv_iadd X.hx X.hb dL_law_283 ?_
        refine wq_li0 X S hv dL_law_284 (fun x284 hv => ?_)
        refine lv_i2c X.hx X.hb dL_law_285 rfl ?_
        refine wq_aload_n X dL_law_286 rfl (lv_at hl 1 rfl) ?_
        refine lv_iload X.hx X.hb dL_law_287 (lv_at hl 6 rfl) ?_
        refine lv_iconst (v := (4 : Int32)) X.hx X.hb dL_law_289 (by decide) ?_
        refine lv_iadd X.hx X.hb dL_law_290 ?_
        refine wq_li0 X S hv dL_law_291 (fun x291 hv => ?_)
        refine wq_aload_n X dL_law_292 rfl (lv_at hl 1 rfl) ?_
        refine lv_iload X.hx X.hb dL_law_293 (lv_at hl 6 rfl) ?_
        refine lv_iconst (v := (5 : Int32)) X.hx X.hb dL_law_295 (by decide) ?_
        refine lv_iadd X.hx X.hb dL_law_296 ?_
        refine wq_li0 X S hv dL_law_297 (fun x297 hv => ?_)
        refine wq_cV_I X S hv q1878 q1879 q1880 q66 ⟨by decide +kernel, by decide +kernel⟩ (nA := 5) (As := [.int x272, .int x278, .int ((Int32.toUInt32 x284 % 65536).toInt32), .int x291, .int x297]) (by decide +kernel) rfl rfl (by simp [wv_rfc, wv_kI, wv_kJ, wv_kF, wv_kD]) hl.1 dL_law_298 (fun x298 w298 H locs cells slots S hv => ?_) (wq_kx X rfl)
        refine lv_istore X.hx X.hb (i := 7) (lv' := [(7, .int x298), (6, .int x261), (0, va_rf v0), (1, va_rf v1), (2, va_rf v2), (3, va_rf v3), (4, va_rf v4), (5, .int v5)]) dL_law_301 hl (by decide) (by simp [wv_rfc, wv_kI, wv_kJ, wv_kF, wv_kD]) (fun ls hl => ?_)
        refine wq_aload_n X dL_law_303 rfl (lv_at hl 4 rfl) ?_
        refine wq_cV_I X S hv q1863 q1864 q1865 q66 ⟨by decide +kernel, by decide +kernel⟩ (nA := 0) (As := []) (by decide +kernel) rfl rfl (by simp [wv_rfc, wv_kI, wv_kJ, wv_kF, wv_kD]) hl.1 dL_law_304 (fun x304 w304 H locs cells slots S hv => ?_) (wq_kx X rfl)
        refine lv_iload X.hx X.hb dL_law_307 (lv_at hl 1 rfl) ?_
        refine lv_icmp_eq (tgt := 314) X.hx X.hb dL_law_309 (by decide) (fun c309 => ?_) (fun c309 => ?_)
        · have hv := hv.1 c309
          refine lv_iload X.hx X.hb dL_law_314 (lv_at hl 1 rfl) ?_
          refine lv_if_ne (tgt := 331) X.hx X.hb dL_law_316 (by decide) (fun c316 => ?_) (fun c316 => ?_)
          · have hv := hv.1 c316
            refine lv_goto (tgt := 1734) X.hx X.hb dL_law_331 (by decide) ?_
            exact wk_L_law_1734 X hK28 hv H locs cells slots ls S (lv_sub hl [2, 3, 4, 5, 6, 7] rfl)
          · have hv := hv.2 c316
            refine wq_aload_n X dL_law_319 rfl (lv_at hl 5 rfl) ?_
            refine lv_iconst (v := (0 : Int32)) X.hx X.hb dL_law_320 (by decide) ?_
            refine wq_ll X S hv dL_law_321 (fun x321 hv => ?_)
            refine lv_iload X.hx X.hb dL_law_322 (lv_at hl 0 rfl) ?_
            refine lv_i2l X.hx X.hb dL_law_324 rfl ?_
            refine W.lcmp X.hx X.hb dL_law_325 ?_
            refine lv_if_eq (tgt := 331) X.hx X.hb dL_law_326 (by decide) (fun c326 => ?_) (fun c326 => ?_)
            · have hv := hv.1 c326
              refine lv_goto (tgt := 1734) X.hx X.hb dL_law_331 (by decide) ?_
              exact wk_L_law_1734 X hK28 hv H locs cells slots ls S (lv_sub hl [2, 3, 4, 5, 6, 7] rfl)
            · have hv := hv.2 c326
              refine lv_iconst (v := (0 : Int32)) X.hx X.hb dL_law_329 (by decide) ?_
              exact wr_iret X S hv.1 hv.2 dL_law_330
        · have hv := hv.2 c309
          refine lv_iconst (v := (0 : Int32)) X.hx X.hb dL_law_312 (by decide) ?_
          exact wr_iret X S hv.1 hv.2 dL_law_313
      · have hv := hv.2 h45_1
        by_cases h45_2 : (x41 &&& (31 : Int32)) = (2 : Int32)
        · have hv := hv.1 h45_2
          refine lv_tableIn (tgt := 334) (off := 289) X.hx X.hb dL_law_45 (by rw [h45_2]; decide) (by rw [h45_2]; decide) (by rw [h45_2]; decide) (by decide) ?_
          refine wq_aload_n X dL_law_334 rfl (lv_at hl 1 rfl) ?_
          refine wq_aload_n X dL_law_335 rfl (lv_at hl 0 rfl) ?_
          refine lv_iload X.hx X.hb dL_law_336 (lv_at hl 5 rfl) ?_
          refine lv_iconst (v := (1 : Int32)) X.hx X.hb dL_law_338 (by decide) ?_
          refine lv_iadd X.hx X.hb dL_law_339 ?_
          refine wq_li0 X S hv dL_law_340 (fun x340 hv => ?_)
          refine wq_aload_n X dL_law_341 rfl (lv_at hl 0 rfl) ?_
          refine lv_iload X.hx X.hb dL_law_342 (lv_at hl 5 rfl) ?_
          refine lv_iconst (v := (2 : Int32)) X.hx X.hb dL_law_344 (by decide) ?_
          refine lv_iadd X.hx X.hb dL_law_345 ?_
          refine wq_li0 X S hv dL_law_346 (fun x346 hv => ?_)
          refine wq_aload_n X dL_law_347 rfl (lv_at hl 3 rfl) ?_
          refine wq_cS_I X S hv q1359 q1360 q59 ⟨by decide +kernel, by decide +kernel⟩ (nA := 4) (As := [va_rf v1, .int x340, .int x346, va_rf v3]) (by decide +kernel) rfl rfl (by simp [wv_rfc, wv_kI, wv_kJ, wv_kF, wv_kD]) hl.1 dL_law_348 (fun x348 w348 H locs cells slots S hv => ?_) (wq_kx X rfl)
          refine lv_istore X.hx X.hb (i := 6) (lv' := [(6, .int x348), (0, va_rf v0), (1, va_rf v1), (2, va_rf v2), (3, va_rf v3), (4, va_rf v4), (5, .int v5)]) dL_law_351 hl (by decide) (by simp [wv_rfc, wv_kI, wv_kJ, wv_kF, wv_kD]) (fun ls hl => ?_)
          refine wq_aload_n X dL_law_353 rfl (lv_at hl 3 rfl) ?_
          refine wq_aload_n X dL_law_354 rfl (lv_at hl 1 rfl) ?_
          refine lv_iload X.hx X.hb dL_law_355 (lv_at hl 6 rfl) ?_
          refine lv_iconst (v := (1 : Int32)) X.hx X.hb dL_law_357 (by decide) ?_
          refine lv_iadd X.hx X.hb dL_law_358 ?_
          refine wq_li0 X S hv dL_law_359 (fun x359 hv => ?_)
          refine wq_aload_n X dL_law_360 rfl (lv_at hl 1 rfl) ?_
          refine lv_iload X.hx X.hb dL_law_361 (lv_at hl 6 rfl) ?_
          refine lv_iconst (v := (2 : Int32)) X.hx X.hb dL_law_363 (by decide) ?_
          refine lv_iadd X.hx X.hb dL_law_364 ?_
          refine wq_li0 X S hv dL_law_365 (fun x365 hv => ?_)
          refine wq_cV_I X S hv q1919 q1920 q1921 q66 ⟨by decide +kernel, by decide +kernel⟩ (nA := 2) (As := [.int x359, .int x365]) (by decide +kernel) rfl rfl (by simp [wv_rfc, wv_kI, wv_kJ, wv_kF, wv_kD]) hl.1 dL_law_366 (fun x366 w366 H locs cells slots S hv => ?_) (wq_kx X rfl)
          refine lv_istore X.hx X.hb (i := 7) (lv' := [(7, .int x366), (6, .int x348), (0, va_rf v0), (1, va_rf v1), (2, va_rf v2), (3, va_rf v3), (4, va_rf v4), (5, .int v5)]) dL_law_369 hl (by decide) (by simp [wv_rfc, wv_kI, wv_kJ, wv_kF, wv_kD]) (fun ls hl => ?_)
          refine wq_aload_n X dL_law_371 rfl (lv_at hl 4 rfl) ?_
          refine wq_cV_I X S hv q1863 q1864 q1865 q66 ⟨by decide +kernel, by decide +kernel⟩ (nA := 0) (As := []) (by decide +kernel) rfl rfl (by simp [wv_rfc, wv_kI, wv_kJ, wv_kF, wv_kD]) hl.1 dL_law_372 (fun x372 w372 H locs cells slots S hv => ?_) (wq_kx X rfl)
          refine lv_iload X.hx X.hb dL_law_375 (lv_at hl 1 rfl) ?_
          refine lv_icmp_eq (tgt := 382) X.hx X.hb dL_law_377 (by decide) (fun c377 => ?_) (fun c377 => ?_)
          · have hv := hv.1 c377
            refine lv_iload X.hx X.hb dL_law_382 (lv_at hl 1 rfl) ?_
            refine lv_if_ne (tgt := 399) X.hx X.hb dL_law_384 (by decide) (fun c384 => ?_) (fun c384 => ?_)
            · have hv := hv.1 c384
              refine lv_goto (tgt := 1734) X.hx X.hb dL_law_399 (by decide) ?_
              exact wk_L_law_1734 X hK28 hv H locs cells slots ls S (lv_sub hl [2, 3, 4, 5, 6, 7] rfl)
            · have hv := hv.2 c384
              refine wq_aload_n X dL_law_387 rfl (lv_at hl 5 rfl) ?_
              refine lv_iconst (v := (0 : Int32)) X.hx X.hb dL_law_388 (by decide) ?_
              refine wq_ll X S hv dL_law_389 (fun x389 hv => ?_)
              refine lv_iload X.hx X.hb dL_law_390 (lv_at hl 0 rfl) ?_
              refine lv_i2l X.hx X.hb dL_law_392 rfl ?_
              refine W.lcmp X.hx X.hb dL_law_393 ?_
              refine lv_if_eq (tgt := 399) X.hx X.hb dL_law_394 (by decide) (fun c394 => ?_) (fun c394 => ?_)
              · have hv := hv.1 c394
                refine lv_goto (tgt := 1734) X.hx X.hb dL_law_399 (by decide) ?_
                exact wk_L_law_1734 X hK28 hv H locs cells slots ls S (lv_sub hl [2, 3, 4, 5, 6, 7] rfl)
              · have hv := hv.2 c394
                refine lv_iconst (v := (0 : Int32)) X.hx X.hb dL_law_397 (by decide) ?_
                exact wr_iret X S hv.1 hv.2 dL_law_398
          · have hv := hv.2 c377
            refine lv_iconst (v := (0 : Int32)) X.hx X.hb dL_law_380 (by decide) ?_
            exact wr_iret X S hv.1 hv.2 dL_law_381
        · have hv := hv.2 h45_2
          by_cases h45_3 : (x41 &&& (31 : Int32)) = (3 : Int32)
          · have hv := hv.1 h45_3
            refine lv_tableIn (tgt := 402) (off := 357) X.hx X.hb dL_law_45 (by rw [h45_3]; decide) (by rw [h45_3]; decide) (by rw [h45_3]; decide) (by decide) ?_
            refine wq_aload_n X dL_law_402 rfl (lv_at hl 1 rfl) ?_
            refine wq_aload_n X dL_law_403 rfl (lv_at hl 0 rfl) ?_
            refine lv_iload X.hx X.hb dL_law_404 (lv_at hl 5 rfl) ?_
            refine lv_iconst (v := (1 : Int32)) X.hx X.hb dL_law_406 (by decide) ?_
            refine lv_iadd X.hx X.hb dL_law_407 ?_
            refine wq_li0 X S hv dL_law_408 (fun x408 hv => ?_)
            refine wq_aload_n X dL_law_409 rfl (lv_at hl 0 rfl) ?_
            refine lv_iload X.hx X.hb dL_law_410 (lv_at hl 5 rfl) ?_
            refine lv_iconst (v := (2 : Int32)) X.hx X.hb dL_law_412 (by decide) ?_
            refine lv_iadd X.hx X.hb dL_law_413 ?_
            refine wq_li0 X S hv dL_law_414 (fun x414 hv => ?_)
            refine wq_aload_n X dL_law_415 rfl (lv_at hl 3 rfl) ?_
            refine wq_cS_I X S hv q1366 q1367 q59 ⟨by decide +kernel, by decide +kernel⟩ (nA := 4) (As := [va_rf v1, .int x408, .int x414, va_rf v3]) (by decide +kernel) rfl rfl (by simp [wv_rfc, wv_kI, wv_kJ, wv_kF, wv_kD]) hl.1 dL_law_416 (fun x416 w416 H locs cells slots S hv => ?_) (wq_kx X rfl)
            refine lv_istore X.hx X.hb (i := 6) (lv' := [(6, .int x416), (0, va_rf v0), (1, va_rf v1), (2, va_rf v2), (3, va_rf v3), (4, va_rf v4), (5, .int v5)]) dL_law_419 hl (by decide) (by simp [wv_rfc, wv_kI, wv_kJ, wv_kF, wv_kD]) (fun ls hl => ?_)
            refine wq_aload_n X dL_law_421 rfl (lv_at hl 3 rfl) ?_
            refine wq_aload_n X dL_law_422 rfl (lv_at hl 1 rfl) ?_
            refine lv_iload X.hx X.hb dL_law_423 (lv_at hl 6 rfl) ?_
            refine lv_iconst (v := (1 : Int32)) X.hx X.hb dL_law_425 (by decide) ?_
            refine lv_iadd X.hx X.hb dL_law_426 ?_
            refine wq_li0 X S hv dL_law_427 (fun x427 hv => ?_)
            refine wq_aload_n X dL_law_428 rfl (lv_at hl 1 rfl) ?_
            refine lv_iload X.hx X.hb dL_law_429 (lv_at hl 6 rfl) ?_
            refine lv_iconst (v := (2 : Int32)) X.hx X.hb dL_law_431 (by decide) ?_
            refine lv_iadd X.hx X.hb dL_law_432 ?_
            refine wq_li0 X S hv dL_law_433 (fun x433 hv => ?_)
            refine wq_cV_I X S hv q1927 q1928 q1929 q66 ⟨by decide +kernel, by decide +kernel⟩ (nA := 2) (As := [.int x427, .int x433]) (by decide +kernel) rfl rfl (by simp [wv_rfc, wv_kI, wv_kJ, wv_kF, wv_kD]) hl.1 dL_law_434 (fun x434 w434 H locs cells slots S hv => ?_) (wq_kx X rfl)
            refine lv_istore X.hx X.hb (i := 7) (lv' := [(7, .int x434), (6, .int x416), (0, va_rf v0), (1, va_rf v1), (2, va_rf v2), (3, va_rf v3), (4, va_rf v4), (5, .int v5)]) dL_law_437 hl (by decide) (by simp [wv_rfc, wv_kI, wv_kJ, wv_kF, wv_kD]) (fun ls hl => ?_)
            refine wq_aload_n X dL_law_439 rfl (lv_at hl 4 rfl) ?_
            refine wq_cV_I X S hv q1863 q1864 q1865 q66 ⟨by decide +kernel, by decide +kernel⟩ (nA := 0) (As := []) (by decide +kernel) rfl rfl (by simp [wv_rfc, wv_kI, wv_kJ, wv_kF, wv_kD]) hl.1 dL_law_440 (fun x440 w440 H locs cells slots S hv => ?_) (wq_kx X rfl)
            refine lv_iload X.hx X.hb dL_law_443 (lv_at hl 1 rfl) ?_
            refine lv_icmp_eq (tgt := 450) X.hx X.hb dL_law_445 (by decide) (fun c445 => ?_) (fun c445 => ?_)
            · have hv := hv.1 c445
              refine lv_iload X.hx X.hb dL_law_450 (lv_at hl 1 rfl) ?_
              refine lv_if_ne (tgt := 467) X.hx X.hb dL_law_452 (by decide) (fun c452 => ?_) (fun c452 => ?_)
              · have hv := hv.1 c452
                refine lv_goto (tgt := 1734) X.hx X.hb dL_law_467 (by decide) ?_
                exact wk_L_law_1734 X hK28 hv H locs cells slots ls S (lv_sub hl [2, 3, 4, 5, 6, 7] rfl)
              · have hv := hv.2 c452
                refine wq_aload_n X dL_law_455 rfl (lv_at hl 5 rfl) ?_
                refine lv_iconst (v := (0 : Int32)) X.hx X.hb dL_law_456 (by decide) ?_
                refine wq_ll X S hv dL_law_457 (fun x457 hv => ?_)
                refine lv_iload X.hx X.hb dL_law_458 (lv_at hl 0 rfl) ?_
                refine lv_i2l X.hx X.hb dL_law_460 rfl ?_
                refine W.lcmp X.hx X.hb dL_law_461 ?_
                refine lv_if_eq (tgt := 467) X.hx X.hb dL_law_462 (by decide) (fun c462 => ?_) (fun c462 => ?_)
                · have hv := hv.1 c462
                  refine lv_goto (tgt := 1734) X.hx X.hb dL_law_467 (by decide) ?_
                  exact wk_L_law_1734 X hK28 hv H locs cells slots ls S (lv_sub hl [2, 3, 4, 5, 6, 7] rfl)
                · have hv := hv.2 c462
                  refine lv_iconst (v := (0 : Int32)) X.hx X.hb dL_law_465 (by decide) ?_
                  exact wr_iret X S hv.1 hv.2 dL_law_466
            · have hv := hv.2 c445
              refine lv_iconst (v := (0 : Int32)) X.hx X.hb dL_law_448 (by decide) ?_
              exact wr_iret X S hv.1 hv.2 dL_law_449
          · have hv := hv.2 h45_3
            by_cases h45_4 : (x41 &&& (31 : Int32)) = (4 : Int32)
            · have hv := hv.1 h45_4
              refine lv_tableIn (tgt := 470) (off := 425) X.hx X.hb dL_law_45 (by rw [h45_4]; decide) (by rw [h45_4]; decide) (by rw [h45_4]; decide) (by decide) ?_
              refine wq_aload_n X dL_law_470 rfl (lv_at hl 1 rfl) ?_
              refine wq_aload_n X dL_law_471 rfl (lv_at hl 0 rfl) ?_
              refine lv_iload X.hx X.hb dL_law_472 (lv_at hl 5 rfl) ?_
              refine lv_iconst (v := (1 : Int32)) X.hx X.hb dL_law_474 (by decide) ?_
              refine lv_iadd X.hx X.hb dL_law_475 ?_
              refine wq_li0 X S hv dL_law_476 (fun x476 hv => ?_)
              refine lv_i2c X.hx X.hb dL_law_477 rfl ?_
              refine wq_aload_n X dL_law_478 rfl (lv_at hl 0 rfl) ?_
              refine lv_iload X.hx X.hb dL_law_479 (lv_at hl 5 rfl) ?_
              refine lv_iconst (v := (2 : Int32)) X.hx X.hb dL_law_481 (by decide) ?_
              refine lv_iadd X.hx X.hb dL_law_482 ?_
              refine wq_li0 X S hv dL_law_483 (fun x483 hv => ?_)
              refine wq_aload_n X dL_law_484 rfl (lv_at hl 0 rfl) ?_
              refine lv_iload X.hx X.hb dL_law_485 (lv_at hl 5 rfl) ?_
              refine lv_iconst (v := (3 : Int32)) X.hx X.hb dL_law_487 (by decide) ?_
              refine lv_iadd X.hx X.hb dL_law_488 ?_
              refine wq_li0 X S hv dL_law_489 (fun x489 hv => ?_)
              refine wq_aload_n X dL_law_490 rfl (lv_at hl 3 rfl) ?_
              refine wq_cS_I X S hv q1373 q1374 q59 ⟨by decide +kernel, by decide +kernel⟩ (nA := 5) (As := [va_rf v1, .int ((Int32.toUInt32 x476 % 65536).toInt32), .int x483, .int x489, va_rf v3]) (by decide +kernel) rfl rfl (by simp [wv_rfc, wv_kI, wv_kJ, wv_kF, wv_kD]) hl.1 dL_law_491 (fun x491 w491 H locs cells slots S hv => ?_) (wq_kx X rfl)
              refine lv_istore X.hx X.hb (i := 6) (lv' := [(6, .int x491), (0, va_rf v0), (1, va_rf v1), (2, va_rf v2), (3, va_rf v3), (4, va_rf v4), (5, .int v5)]) dL_law_494 hl (by decide) (by simp [wv_rfc, wv_kI, wv_kJ, wv_kF, wv_kD]) (fun ls hl => ?_)
              refine wq_aload_n X dL_law_496 rfl (lv_at hl 3 rfl) ?_
              refine wq_aload_n X dL_law_497 rfl (lv_at hl 1 rfl) ?_
              refine lv_iload X.hx X.hb dL_law_498 (lv_at hl 6 rfl) ?_
              refine lv_iconst (v := (1 : Int32)) X.hx X.hb dL_law_500 (by decide) ?_
              refine lv_iadd X.hx X.hb dL_law_501 ?_
              refine wq_li0 X S hv dL_law_502 (fun x502 hv => ?_)
              refine lv_i2c X.hx X.hb dL_law_503 rfl ?_
              refine wq_aload_n X dL_law_504 rfl (lv_at hl 1 rfl) ?_
              refine lv_iload X.hx X.hb dL_law_505 (lv_at hl 6 rfl) ?_
              refine lv_iconst (v := (2 : Int32)) X.hx X.hb dL_law_507 (by decide) ?_
              refine lv_iadd X.hx X.hb dL_law_508 ?_
              refine wq_li0 X S hv dL_law_509 (fun x509 hv => ?_)
              refine wq_aload_n X dL_law_510 rfl (lv_at hl 1 rfl) ?_
              refine lv_iload X.hx X.hb dL_law_511 (lv_at hl 6 rfl) ?_
              refine lv_iconst (v := (3 : Int32)) X.hx X.hb dL_law_513 (by decide) ?_
              refine lv_iadd X.hx X.hb dL_law_514 ?_
              refine wq_li0 X S hv dL_law_515 (fun x515 hv => ?_)
              refine wq_cV_I X S hv q1935 q1936 q1937 q66 ⟨by decide +kernel, by decide +kernel⟩ (nA := 3) (As := [.int ((Int32.toUInt32 x502 % 65536).toInt32), .int x509, .int x515]) (by decide +kernel) rfl rfl (by simp [wv_rfc, wv_kI, wv_kJ, wv_kF, wv_kD]) hl.1 dL_law_516 (fun x516 w516 H locs cells slots S hv => ?_) (wq_kx X rfl)
              refine lv_istore X.hx X.hb (i := 7) (lv' := [(7, .int x516), (6, .int x491), (0, va_rf v0), (1, va_rf v1), (2, va_rf v2), (3, va_rf v3), (4, va_rf v4), (5, .int v5)]) dL_law_519 hl (by decide) (by simp [wv_rfc, wv_kI, wv_kJ, wv_kF, wv_kD]) (fun ls hl => ?_)
              refine wq_aload_n X dL_law_521 rfl (lv_at hl 4 rfl) ?_
              refine wq_cV_I X S hv q1863 q1864 q1865 q66 ⟨by decide +kernel, by decide +kernel⟩ (nA := 0) (As := []) (by decide +kernel) rfl rfl (by simp [wv_rfc, wv_kI, wv_kJ, wv_kF, wv_kD]) hl.1 dL_law_522 (fun x522 w522 H locs cells slots S hv => ?_) (wq_kx X rfl)
              refine lv_iload X.hx X.hb dL_law_525 (lv_at hl 1 rfl) ?_
              refine lv_icmp_eq (tgt := 532) X.hx X.hb dL_law_527 (by decide) (fun c527 => ?_) (fun c527 => ?_)
              · have hv := hv.1 c527
                refine lv_iload X.hx X.hb dL_law_532 (lv_at hl 1 rfl) ?_
                refine lv_if_ne (tgt := 549) X.hx X.hb dL_law_534 (by decide) (fun c534 => ?_) (fun c534 => ?_)
                · have hv := hv.1 c534
                  refine lv_goto (tgt := 1734) X.hx X.hb dL_law_549 (by decide) ?_
                  exact wk_L_law_1734 X hK28 hv H locs cells slots ls S (lv_sub hl [2, 3, 4, 5, 6, 7] rfl)
                · have hv := hv.2 c534
                  refine wq_aload_n X dL_law_537 rfl (lv_at hl 5 rfl) ?_
                  refine lv_iconst (v := (0 : Int32)) X.hx X.hb dL_law_538 (by decide) ?_
                  refine wq_ll X S hv dL_law_539 (fun x539 hv => ?_)
                  refine lv_iload X.hx X.hb dL_law_540 (lv_at hl 0 rfl) ?_
                  refine lv_i2l X.hx X.hb dL_law_542 rfl ?_
                  refine W.lcmp X.hx X.hb dL_law_543 ?_
                  refine lv_if_eq (tgt := 549) X.hx X.hb dL_law_544 (by decide) (fun c544 => ?_) (fun c544 => ?_)
                  · have hv := hv.1 c544
                    refine lv_goto (tgt := 1734) X.hx X.hb dL_law_549 (by decide) ?_
                    exact wk_L_law_1734 X hK28 hv H locs cells slots ls S (lv_sub hl [2, 3, 4, 5, 6, 7] rfl)
                  · have hv := hv.2 c544
                    refine lv_iconst (v := (0 : Int32)) X.hx X.hb dL_law_547 (by decide) ?_
                    exact wr_iret X S hv.1 hv.2 dL_law_548
              · have hv := hv.2 c527
                refine lv_iconst (v := (0 : Int32)) X.hx X.hb dL_law_530 (by decide) ?_
                exact wr_iret X S hv.1 hv.2 dL_law_531
            · have hv := hv.2 h45_4
              by_cases h45_5 : (x41 &&& (31 : Int32)) = (5 : Int32)
              · have hv := hv.1 h45_5
                refine lv_tableIn (tgt := 552) (off := 507) X.hx X.hb dL_law_45 (by rw [h45_5]; decide) (by rw [h45_5]; decide) (by rw [h45_5]; decide) (by decide) ?_
                refine wq_aload_n X dL_law_552 rfl (lv_at hl 1 rfl) ?_
                refine wq_aload_n X dL_law_553 rfl (lv_at hl 0 rfl) ?_
                refine lv_iload X.hx X.hb dL_law_554 (lv_at hl 5 rfl) ?_
                refine lv_iconst (v := (1 : Int32)) X.hx X.hb dL_law_556 (by decide) ?_
                refine lv_iadd X.hx X.hb dL_law_557 ?_
                refine wq_li0 X S hv dL_law_558 (fun x558 hv => ?_)
                refine wq_aload_n X dL_law_559 rfl (lv_at hl 0 rfl) ?_
                refine lv_iload X.hx X.hb dL_law_560 (lv_at hl 5 rfl) ?_
                refine lv_iconst (v := (2 : Int32)) X.hx X.hb dL_law_562 (by decide) ?_
                refine lv_iadd X.hx X.hb dL_law_563 ?_
                refine wq_li0 X S hv dL_law_564 (fun x564 hv => ?_)
                refine lv_i2c X.hx X.hb dL_law_565 rfl ?_
                refine wq_aload_n X dL_law_566 rfl (lv_at hl 0 rfl) ?_
                refine lv_iload X.hx X.hb dL_law_567 (lv_at hl 5 rfl) ?_
                refine lv_iconst (v := (3 : Int32)) X.hx X.hb dL_law_569 (by decide) ?_
                refine lv_iadd X.hx X.hb dL_law_570 ?_
                refine wq_li0 X S hv dL_law_571 (fun x571 hv => ?_)
                refine wq_aload_n X dL_law_572 rfl (lv_at hl 0 rfl) ?_
                refine lv_iload X.hx X.hb dL_law_573 (lv_at hl 5 rfl) ?_
                refine lv_iconst (v := (4 : Int32)) X.hx X.hb dL_law_575 (by decide) ?_
                refine lv_iadd X.hx X.hb dL_law_576 ?_
                refine wq_li0 X S hv dL_law_577 (fun x577 hv => ?_)
                refine wq_aload_n X dL_law_578 rfl (lv_at hl 0 rfl) ?_
                refine lv_iload X.hx X.hb dL_law_579 (lv_at hl 5 rfl) ?_
                refine lv_iconst (v := (5 : Int32)) X.hx X.hb dL_law_581 (by decide) ?_
                refine lv_iadd X.hx X.hb dL_law_582 ?_
                refine wq_li0 X S hv dL_law_583 (fun x583 hv => ?_)
                refine wq_aload_n X dL_law_584 rfl (lv_at hl 3 rfl) ?_
                refine wq_cS_I X S hv q1522 q1523 q59 ⟨by decide +kernel, by decide +kernel⟩ (nA := 7) (As := [va_rf v1, .int x558, .int ((Int32.toUInt32 x564 % 65536).toInt32), .int x571, .int x577, .int x583, va_rf v3]) (by decide +kernel) rfl rfl (by simp [wv_rfc, wv_kI, wv_kJ, wv_kF, wv_kD]) hl.1 dL_law_585 (fun x585 w585 H locs cells slots S hv => ?_) (wq_kx X rfl)
                refine lv_istore X.hx X.hb (i := 6) (lv' := [(6, .int x585), (0, va_rf v0), (1, va_rf v1), (2, va_rf v2), (3, va_rf v3), (4, va_rf v4), (5, .int v5)]) dL_law_588 hl (by decide) (by simp [wv_rfc, wv_kI, wv_kJ, wv_kF, wv_kD]) (fun ls hl => ?_)
                refine wq_aload_n X dL_law_590 rfl (lv_at hl 3 rfl) ?_
                refine wq_aload_n X dL_law_591 rfl (lv_at hl 1 rfl) ?_
                refine lv_iload X.hx X.hb dL_law_592 (lv_at hl 6 rfl) ?_
                refine lv_iconst (v := (1 : Int32)) X.hx X.hb dL_law_594 (by decide) ?_
                refine lv_iadd X.hx X.hb dL_law_595 ?_
                refine wq_li0 X S hv dL_law_596 (fun x596 hv => ?_)
                refine wq_aload_n X dL_law_597 rfl (lv_at hl 1 rfl) ?_
                refine lv_iload X.hx X.hb dL_law_598 (lv_at hl 6 rfl) ?_
                refine lv_iconst (v := (2 : Int32)) X.hx X.hb dL_law_600 (by decide) ?_
                refine lv_iadd X.hx X.hb dL_law_601 ?_
                refine wq_li0 X S hv dL_law_602 (fun x602 hv => ?_)
                refine lv_i2c X.hx X.hb dL_law_603 rfl ?_
                refine wq_aload_n X dL_law_604 rfl (lv_at hl 1 rfl) ?_
                refine lv_iload X.hx X.hb dL_law_605 (lv_at hl 6 rfl) ?_
                refine lv_iconst (v := (3 : Int32)) X.hx X.hb dL_law_607 (by decide) ?_
                refine lv_iadd X.hx X.hb dL_law_608 ?_
                refine wq_li0 X S hv dL_law_609 (fun x609 hv => ?_)
                refine wq_aload_n X dL_law_610 rfl (lv_at hl 1 rfl) ?_
                refine lv_iload X.hx X.hb dL_law_611 (lv_at hl 6 rfl) ?_
                refine lv_iconst (v := (4 : Int32)) X.hx X.hb dL_law_613 (by decide) ?_
                refine lv_iadd X.hx X.hb dL_law_614 ?_
                refine wq_li0 X S hv dL_law_615 (fun x615 hv => ?_)
                refine wq_aload_n X dL_law_616 rfl (lv_at hl 1 rfl) ?_
                refine lv_iload X.hx X.hb dL_law_617 (lv_at hl 6 rfl) ?_
                refine lv_iconst (v := (5 : Int32)) X.hx X.hb dL_law_619 (by decide) ?_
                refine lv_iadd X.hx X.hb dL_law_620 ?_
                refine wq_li0 X S hv dL_law_621 (fun x621 hv => ?_)
                refine wq_cV_I X S hv q1959 q1960 q1961 q66 ⟨by decide +kernel, by decide +kernel⟩ (nA := 5) (As := [.int x596, .int ((Int32.toUInt32 x602 % 65536).toInt32), .int x609, .int x615, .int x621]) (by decide +kernel) rfl rfl (by simp [wv_rfc, wv_kI, wv_kJ, wv_kF, wv_kD]) hl.1 dL_law_622 (fun x622 w622 H locs cells slots S hv => ?_) (wq_kx X rfl)
                refine lv_istore X.hx X.hb (i := 7) (lv' := [(7, .int x622), (6, .int x585), (0, va_rf v0), (1, va_rf v1), (2, va_rf v2), (3, va_rf v3), (4, va_rf v4), (5, .int v5)]) dL_law_625 hl (by decide) (by simp [wv_rfc, wv_kI, wv_kJ, wv_kF, wv_kD]) (fun ls hl => ?_)
                refine wq_aload_n X dL_law_627 rfl (lv_at hl 4 rfl) ?_
                refine wq_cV_I X S hv q1863 q1864 q1865 q66 ⟨by decide +kernel, by decide +kernel⟩ (nA := 0) (As := []) (by decide +kernel) rfl rfl (by simp [wv_rfc, wv_kI, wv_kJ, wv_kF, wv_kD]) hl.1 dL_law_628 (fun x628 w628 H locs cells slots S hv => ?_) (wq_kx X rfl)
                refine lv_iload X.hx X.hb dL_law_631 (lv_at hl 1 rfl) ?_
                refine lv_icmp_eq (tgt := 638) X.hx X.hb dL_law_633 (by decide) (fun c633 => ?_) (fun c633 => ?_)
                · have hv := hv.1 c633
                  refine lv_iload X.hx X.hb dL_law_638 (lv_at hl 1 rfl) ?_
                  refine lv_if_ne (tgt := 655) X.hx X.hb dL_law_640 (by decide) (fun c640 => ?_) (fun c640 => ?_)
                  · have hv := hv.1 c640
                    refine lv_goto (tgt := 1734) X.hx X.hb dL_law_655 (by decide) ?_
                    exact wk_L_law_1734 X hK28 hv H locs cells slots ls S (lv_sub hl [2, 3, 4, 5, 6, 7] rfl)
                  · have hv := hv.2 c640
                    refine wq_aload_n X dL_law_643 rfl (lv_at hl 5 rfl) ?_
                    refine lv_iconst (v := (0 : Int32)) X.hx X.hb dL_law_644 (by decide) ?_
                    refine wq_ll X S hv dL_law_645 (fun x645 hv => ?_)
                    refine lv_iload X.hx X.hb dL_law_646 (lv_at hl 0 rfl) ?_
                    refine lv_i2l X.hx X.hb dL_law_648 rfl ?_
                    refine W.lcmp X.hx X.hb dL_law_649 ?_
                    refine lv_if_eq (tgt := 655) X.hx X.hb dL_law_650 (by decide) (fun c650 => ?_) (fun c650 => ?_)
                    · have hv := hv.1 c650
                      refine lv_goto (tgt := 1734) X.hx X.hb dL_law_655 (by decide) ?_
                      exact wk_L_law_1734 X hK28 hv H locs cells slots ls S (lv_sub hl [2, 3, 4, 5, 6, 7] rfl)
                    · have hv := hv.2 c650
                      refine lv_iconst (v := (0 : Int32)) X.hx X.hb dL_law_653 (by decide) ?_
                      exact wr_iret X S hv.1 hv.2 dL_law_654
                · have hv := hv.2 c633
                  refine lv_iconst (v := (0 : Int32)) X.hx X.hb dL_law_636 (by decide) ?_
                  exact wr_iret X S hv.1 hv.2 dL_law_637
              · have hv := hv.2 h45_5
                by_cases h45_6 : (x41 &&& (31 : Int32)) = (6 : Int32)
                · have hv := hv.1 h45_6
                  refine lv_tableIn (tgt := 658) (off := 613) X.hx X.hb dL_law_45 (by rw [h45_6]; decide) (by rw [h45_6]; decide) (by rw [h45_6]; decide) (by decide) ?_
                  refine wq_aload_n X dL_law_658 rfl (lv_at hl 1 rfl) ?_
                  refine wq_aload_n X dL_law_659 rfl (lv_at hl 0 rfl) ?_
                  refine lv_iload X.hx X.hb dL_law_660 (lv_at hl 5 rfl) ?_
                  refine lv_iconst (v := (1 : Int32)) X.hx X.hb dL_law_662 (by decide) ?_
                  refine lv_iadd X.hx X.hb dL_law_663 ?_
                  refine wq_li0 X S hv dL_law_664 (fun x664 hv => ?_)
                  refine wq_aload_n X dL_law_665 rfl (lv_at hl 0 rfl) ?_
                  refine lv_iload X.hx X.hb dL_law_666 (lv_at hl 5 rfl) ?_
                  refine lv_iconst (v := (2 : Int32)) X.hx X.hb dL_law_668 (by decide) ?_
                  refine lv_iadd X.hx X.hb dL_law_669 ?_
                  refine wq_li0 X S hv dL_law_670 (fun x670 hv => ?_)
                  refine lv_if_eq (tgt := 678) X.hx X.hb dL_law_671 (by decide) (fun c671 => ?_) (fun c671 => ?_)
                  · have hv := hv.1 c671
                    refine lv_iconst (v := (0 : Int32)) X.hx X.hb dL_law_678 (by decide) ?_
                    exact wk_L_law_679 X hK28 hv H locs cells slots ls S (lv_sub hl [0, 1, 2, 3, 4, 5] rfl)
                  · have hv := hv.2 c671
                    refine lv_iconst (v := (1 : Int32)) X.hx X.hb dL_law_674 (by decide) ?_
                    refine lv_goto (tgt := 679) X.hx X.hb dL_law_675 (by decide) ?_
                    exact wk_L_law_679 X hK28 hv H locs cells slots ls S (lv_sub hl [0, 1, 2, 3, 4, 5] rfl)
                · have hv := hv.2 h45_6
                  by_cases h45_7 : (x41 &&& (31 : Int32)) = (7 : Int32)
                  · have hv := hv.1 h45_7
                    refine lv_tableIn (tgt := 749) (off := 704) X.hx X.hb dL_law_45 (by rw [h45_7]; decide) (by rw [h45_7]; decide) (by rw [h45_7]; decide) (by decide) ?_
                    refine wq_aload_n X dL_law_749 rfl (lv_at hl 1 rfl) ?_
                    refine wq_aload_n X dL_law_750 rfl (lv_at hl 0 rfl) ?_
                    refine lv_iload X.hx X.hb dL_law_751 (lv_at hl 5 rfl) ?_
                    refine lv_iconst (v := (1 : Int32)) X.hx X.hb dL_law_753 (by decide) ?_
                    refine lv_iadd X.hx X.hb dL_law_754 ?_
                    refine wq_li0 X S hv dL_law_755 (fun x755 hv => ?_)
                    refine wq_aload_n X dL_law_756 rfl (lv_at hl 0 rfl) ?_
                    refine lv_iload X.hx X.hb dL_law_757 (lv_at hl 5 rfl) ?_
                    refine lv_iconst (v := (2 : Int32)) X.hx X.hb dL_law_759 (by decide) ?_
                    refine lv_iadd X.hx X.hb dL_law_760 ?_
                    refine wq_li0 X S hv dL_law_761 (fun x761 hv => ?_)
                    refine wq_aload_n X dL_law_762 rfl (lv_at hl 0 rfl) ?_
                    refine lv_iload X.hx X.hb dL_law_763 (lv_at hl 5 rfl) ?_
                    refine lv_iconst (v := (3 : Int32)) X.hx X.hb dL_law_765 (by decide) ?_
                    refine lv_iadd X.hx X.hb dL_law_766 ?_
                    refine wq_li0 X S hv dL_law_767 (fun x767 hv => ?_)
                    refine lv_if_eq (tgt := 775) X.hx X.hb dL_law_768 (by decide) (fun c768 => ?_) (fun c768 => ?_)
                    · have hv := hv.1 c768
                      refine lv_iconst (v := (0 : Int32)) X.hx X.hb dL_law_775 (by decide) ?_
                      exact wk_L_law_776 X hK28 hv H locs cells slots ls S (lv_sub hl [0, 1, 2, 3, 4, 5] rfl)
                    · have hv := hv.2 c768
                      refine lv_iconst (v := (1 : Int32)) X.hx X.hb dL_law_771 (by decide) ?_
                      refine lv_goto (tgt := 776) X.hx X.hb dL_law_772 (by decide) ?_
                      exact wk_L_law_776 X hK28 hv H locs cells slots ls S (lv_sub hl [0, 1, 2, 3, 4, 5] rfl)
                  · have hv := hv.2 h45_7
                    by_cases h45_8 : (x41 &&& (31 : Int32)) = (8 : Int32)
                    · have hv := hv.1 h45_8
                      refine lv_tableIn (tgt := 852) (off := 807) X.hx X.hb dL_law_45 (by rw [h45_8]; decide) (by rw [h45_8]; decide) (by rw [h45_8]; decide) (by decide) ?_
                      refine wq_aload_n X dL_law_852 rfl (lv_at hl 1 rfl) ?_
                      refine wq_cV_I X S hv q249 q250 q251 q60 ⟨by decide +kernel, by decide +kernel⟩ (nA := 0) (As := []) (by decide +kernel) rfl rfl (by simp [wv_rfc, wv_kI, wv_kJ, wv_kF, wv_kD]) hl.1 dL_law_853 (fun x853 w853 H locs cells slots S hv => ?_) (wq_kx X rfl)
                      refine wq_aload_n X dL_law_856 rfl (lv_at hl 2 rfl) ?_
                      refine wq_cV_I X S hv q1983 q1984 q1985 q66 ⟨by decide +kernel, by decide +kernel⟩ (nA := 0) (As := []) (by decide +kernel) rfl rfl (by simp [wv_rfc, wv_kI, wv_kJ, wv_kF, wv_kD]) hl.1 dL_law_857 (fun x857 w857 H locs cells slots S hv => ?_) (wq_kx X rfl)
                      refine lv_icmp_eq (tgt := 1734) X.hx X.hb dL_law_860 (by decide) (fun c860 => ?_) (fun c860 => ?_)
                      · have hv := hv.1 c860
                        exact wk_L_law_1734 X hK28 hv H locs cells slots ls S (lv_sub hl [0, 1, 2, 3, 4, 5] rfl)
                      · have hv := hv.2 c860
                        refine lv_iconst (v := (0 : Int32)) X.hx X.hb dL_law_863 (by decide) ?_
                        exact wr_iret X S hv.1 hv.2 dL_law_864
                    · have hv := hv.2 h45_8
                      by_cases h45_9 : (x41 &&& (31 : Int32)) = (9 : Int32)
                      · have hv := hv.1 h45_9
                        refine lv_tableIn (tgt := 865) (off := 820) X.hx X.hb dL_law_45 (by rw [h45_9]; decide) (by rw [h45_9]; decide) (by rw [h45_9]; decide) (by decide) ?_
                        refine wq_aload_n X dL_law_865 rfl (lv_at hl 1 rfl) ?_
                        refine wq_aload_n X dL_law_866 rfl (lv_at hl 0 rfl) ?_
                        refine lv_iload X.hx X.hb dL_law_867 (lv_at hl 5 rfl) ?_
                        refine lv_iconst (v := (1 : Int32)) X.hx X.hb dL_law_869 (by decide) ?_
                        refine lv_iadd X.hx X.hb dL_law_870 ?_
                        refine wq_li0 X S hv dL_law_871 (fun x871 hv => ?_)
                        refine wq_aload_n X dL_law_872 rfl (lv_at hl 3 rfl) ?_
                        refine wq_cS_I X S hv q1587 q1588 q59 ⟨by decide +kernel, by decide +kernel⟩ (nA := 3) (As := [va_rf v1, .int x871, va_rf v3]) (by decide +kernel) rfl rfl (by simp [wv_rfc, wv_kI, wv_kJ, wv_kF, wv_kD]) hl.1 dL_law_873 (fun x873 w873 H locs cells slots S hv => ?_) (wq_kx X rfl)
                        refine lv_istore X.hx X.hb (i := 6) (lv' := [(6, .int x873), (0, va_rf v0), (1, va_rf v1), (2, va_rf v2), (3, va_rf v3), (4, va_rf v4), (5, .int v5)]) dL_law_876 hl (by decide) (by simp [wv_rfc, wv_kI, wv_kJ, wv_kF, wv_kD]) (fun ls hl => ?_)
                        refine wq_aload_n X dL_law_878 rfl (lv_at hl 3 rfl) ?_
                        refine wq_aload_n X dL_law_879 rfl (lv_at hl 1 rfl) ?_
                        refine lv_iload X.hx X.hb dL_law_880 (lv_at hl 6 rfl) ?_
                        refine lv_iconst (v := (1 : Int32)) X.hx X.hb dL_law_882 (by decide) ?_
                        refine lv_iadd X.hx X.hb dL_law_883 ?_
                        refine wq_li0 X S hv dL_law_884 (fun x884 hv => ?_)
                        refine wq_cV_I X S hv q2087 q2088 q2089 q66 ⟨by decide +kernel, by decide +kernel⟩ (nA := 1) (As := [.int x884]) (by decide +kernel) rfl rfl (by simp [wv_rfc, wv_kI, wv_kJ, wv_kF, wv_kD]) hl.1 dL_law_885 (fun x885 w885 H locs cells slots S hv => ?_) (wq_kx X rfl)
                        refine lv_istore X.hx X.hb (i := 7) (lv' := [(7, .int x885), (6, .int x873), (0, va_rf v0), (1, va_rf v1), (2, va_rf v2), (3, va_rf v3), (4, va_rf v4), (5, .int v5)]) dL_law_888 hl (by decide) (by simp [wv_rfc, wv_kI, wv_kJ, wv_kF, wv_kD]) (fun ls hl => ?_)
                        refine wq_aload_n X dL_law_890 rfl (lv_at hl 4 rfl) ?_
                        refine wq_cV_I X S hv q1863 q1864 q1865 q66 ⟨by decide +kernel, by decide +kernel⟩ (nA := 0) (As := []) (by decide +kernel) rfl rfl (by simp [wv_rfc, wv_kI, wv_kJ, wv_kF, wv_kD]) hl.1 dL_law_891 (fun x891 w891 H locs cells slots S hv => ?_) (wq_kx X rfl)
                        refine lv_iload X.hx X.hb dL_law_894 (lv_at hl 1 rfl) ?_
                        refine lv_icmp_eq (tgt := 901) X.hx X.hb dL_law_896 (by decide) (fun c896 => ?_) (fun c896 => ?_)
                        · have hv := hv.1 c896
                          refine lv_iload X.hx X.hb dL_law_901 (lv_at hl 1 rfl) ?_
                          refine lv_if_ne (tgt := 918) X.hx X.hb dL_law_903 (by decide) (fun c903 => ?_) (fun c903 => ?_)
                          · have hv := hv.1 c903
                            refine lv_goto (tgt := 1734) X.hx X.hb dL_law_918 (by decide) ?_
                            exact wk_L_law_1734 X hK28 hv H locs cells slots ls S (lv_sub hl [2, 3, 4, 5, 6, 7] rfl)
                          · have hv := hv.2 c903
                            refine wq_aload_n X dL_law_906 rfl (lv_at hl 5 rfl) ?_
                            refine lv_iconst (v := (0 : Int32)) X.hx X.hb dL_law_907 (by decide) ?_
                            refine wq_ll X S hv dL_law_908 (fun x908 hv => ?_)
                            refine lv_iload X.hx X.hb dL_law_909 (lv_at hl 0 rfl) ?_
                            refine lv_i2l X.hx X.hb dL_law_911 rfl ?_
                            refine W.lcmp X.hx X.hb dL_law_912 ?_
                            refine lv_if_eq (tgt := 918) X.hx X.hb dL_law_913 (by decide) (fun c913 => ?_) (fun c913 => ?_)
                            · have hv := hv.1 c913
                              refine lv_goto (tgt := 1734) X.hx X.hb dL_law_918 (by decide) ?_
                              exact wk_L_law_1734 X hK28 hv H locs cells slots ls S (lv_sub hl [2, 3, 4, 5, 6, 7] rfl)
                            · have hv := hv.2 c913
                              refine lv_iconst (v := (0 : Int32)) X.hx X.hb dL_law_916 (by decide) ?_
                              exact wr_iret X S hv.1 hv.2 dL_law_917
                        · have hv := hv.2 c896
                          refine lv_iconst (v := (0 : Int32)) X.hx X.hb dL_law_899 (by decide) ?_
                          exact wr_iret X S hv.1 hv.2 dL_law_900
                      · have hv := hv.2 h45_9
                        by_cases h45_10 : (x41 &&& (31 : Int32)) = (10 : Int32)
                        · have hv := hv.1 h45_10
                          refine lv_tableIn (tgt := 921) (off := 876) X.hx X.hb dL_law_45 (by rw [h45_10]; decide) (by rw [h45_10]; decide) (by rw [h45_10]; decide) (by decide) ?_
                          refine wq_aload_n X dL_law_921 rfl (lv_at hl 1 rfl) ?_
                          refine wq_aload_n X dL_law_922 rfl (lv_at hl 0 rfl) ?_
                          refine lv_iload X.hx X.hb dL_law_923 (lv_at hl 5 rfl) ?_
                          refine lv_iconst (v := (1 : Int32)) X.hx X.hb dL_law_925 (by decide) ?_
                          refine lv_iadd X.hx X.hb dL_law_926 ?_
                          refine wq_li0 X S hv dL_law_927 (fun x927 hv => ?_)
                          refine wq_aload_n X dL_law_928 rfl (lv_at hl 0 rfl) ?_
                          refine lv_iload X.hx X.hb dL_law_929 (lv_at hl 5 rfl) ?_
                          refine lv_iconst (v := (2 : Int32)) X.hx X.hb dL_law_931 (by decide) ?_
                          refine lv_iadd X.hx X.hb dL_law_932 ?_
                          refine wq_li0 X S hv dL_law_933 (fun x933 hv => ?_)
                          refine wq_aload_n X dL_law_934 rfl (lv_at hl 3 rfl) ?_
                          refine wq_cS_I X S hv q1594 q1595 q59 ⟨by decide +kernel, by decide +kernel⟩ (nA := 4) (As := [va_rf v1, .int x927, .int x933, va_rf v3]) (by decide +kernel) rfl rfl (by simp [wv_rfc, wv_kI, wv_kJ, wv_kF, wv_kD]) hl.1 dL_law_935 (fun x935 w935 H locs cells slots S hv => ?_) (wq_kx X rfl)
                          refine lv_istore X.hx X.hb (i := 6) (lv' := [(6, .int x935), (0, va_rf v0), (1, va_rf v1), (2, va_rf v2), (3, va_rf v3), (4, va_rf v4), (5, .int v5)]) dL_law_938 hl (by decide) (by simp [wv_rfc, wv_kI, wv_kJ, wv_kF, wv_kD]) (fun ls hl => ?_)
                          refine wq_aload_n X dL_law_940 rfl (lv_at hl 3 rfl) ?_
                          refine wq_aload_n X dL_law_941 rfl (lv_at hl 1 rfl) ?_
                          refine lv_iload X.hx X.hb dL_law_942 (lv_at hl 6 rfl) ?_
                          refine lv_iconst (v := (1 : Int32)) X.hx X.hb dL_law_944 (by decide) ?_
                          refine lv_iadd X.hx X.hb dL_law_945 ?_
                          refine wq_li0 X S hv dL_law_946 (fun x946 hv => ?_)
                          refine wq_aload_n X dL_law_947 rfl (lv_at hl 1 rfl) ?_
                          refine lv_iload X.hx X.hb dL_law_948 (lv_at hl 6 rfl) ?_
                          refine lv_iconst (v := (2 : Int32)) X.hx X.hb dL_law_950 (by decide) ?_
                          refine lv_iadd X.hx X.hb dL_law_951 ?_
                          refine wq_li0 X S hv dL_law_952 (fun x952 hv => ?_)
                          refine wq_cV_I X S hv q2094 q2095 q2096 q66 ⟨by decide +kernel, by decide +kernel⟩ (nA := 2) (As := [.int x946, .int x952]) (by decide +kernel) rfl rfl (by simp [wv_rfc, wv_kI, wv_kJ, wv_kF, wv_kD]) hl.1 dL_law_953 (fun x953 w953 H locs cells slots S hv => ?_) (wq_kx X rfl)
                          refine lv_istore X.hx X.hb (i := 7) (lv' := [(7, .int x953), (6, .int x935), (0, va_rf v0), (1, va_rf v1), (2, va_rf v2), (3, va_rf v3), (4, va_rf v4), (5, .int v5)]) dL_law_956 hl (by decide) (by simp [wv_rfc, wv_kI, wv_kJ, wv_kF, wv_kD]) (fun ls hl => ?_)
                          refine wq_aload_n X dL_law_958 rfl (lv_at hl 4 rfl) ?_
                          refine wq_cV_I X S hv q1863 q1864 q1865 q66 ⟨by decide +kernel, by decide +kernel⟩ (nA := 0) (As := []) (by decide +kernel) rfl rfl (by simp [wv_rfc, wv_kI, wv_kJ, wv_kF, wv_kD]) hl.1 dL_law_959 (fun x959 w959 H locs cells slots S hv => ?_) (wq_kx X rfl)
                          refine lv_iload X.hx X.hb dL_law_962 (lv_at hl 1 rfl) ?_
                          refine lv_icmp_eq (tgt := 969) X.hx X.hb dL_law_964 (by decide) (fun c964 => ?_) (fun c964 => ?_)
                          · have hv := hv.1 c964
                            refine lv_iload X.hx X.hb dL_law_969 (lv_at hl 1 rfl) ?_
                            refine lv_if_ne (tgt := 986) X.hx X.hb dL_law_971 (by decide) (fun c971 => ?_) (fun c971 => ?_)
                            · have hv := hv.1 c971
                              refine lv_goto (tgt := 1734) X.hx X.hb dL_law_986 (by decide) ?_
                              exact wk_L_law_1734 X hK28 hv H locs cells slots ls S (lv_sub hl [2, 3, 4, 5, 6, 7] rfl)
                            · have hv := hv.2 c971
                              refine wq_aload_n X dL_law_974 rfl (lv_at hl 5 rfl) ?_
                              refine lv_iconst (v := (0 : Int32)) X.hx X.hb dL_law_975 (by decide) ?_
                              refine wq_ll X S hv dL_law_976 (fun x976 hv => ?_)
                              refine lv_iload X.hx X.hb dL_law_977 (lv_at hl 0 rfl) ?_
                              refine lv_i2l X.hx X.hb dL_law_979 rfl ?_
                              refine W.lcmp X.hx X.hb dL_law_980 ?_
                              refine lv_if_eq (tgt := 986) X.hx X.hb dL_law_981 (by decide) (fun c981 => ?_) (fun c981 => ?_)
                              · have hv := hv.1 c981
                                refine lv_goto (tgt := 1734) X.hx X.hb dL_law_986 (by decide) ?_
                                exact wk_L_law_1734 X hK28 hv H locs cells slots ls S (lv_sub hl [2, 3, 4, 5, 6, 7] rfl)
                              · have hv := hv.2 c981
                                refine lv_iconst (v := (0 : Int32)) X.hx X.hb dL_law_984 (by decide) ?_
                                exact wr_iret X S hv.1 hv.2 dL_law_985
                          · have hv := hv.2 c964
                            refine lv_iconst (v := (0 : Int32)) X.hx X.hb dL_law_967 (by decide) ?_
                            exact wr_iret X S hv.1 hv.2 dL_law_968
                        · have hv := hv.2 h45_10
                          by_cases h45_11 : (x41 &&& (31 : Int32)) = (11 : Int32)
                          · have hv := hv.1 h45_11
                            refine lv_tableIn (tgt := 989) (off := 944) X.hx X.hb dL_law_45 (by rw [h45_11]; decide) (by rw [h45_11]; decide) (by rw [h45_11]; decide) (by decide) ?_
                            refine wq_aload_n X dL_law_989 rfl (lv_at hl 1 rfl) ?_
                            refine wq_aload_n X dL_law_990 rfl (lv_at hl 0 rfl) ?_
                            refine lv_iload X.hx X.hb dL_law_991 (lv_at hl 5 rfl) ?_
                            refine lv_iconst (v := (1 : Int32)) X.hx X.hb dL_law_993 (by decide) ?_
                            refine lv_iadd X.hx X.hb dL_law_994 ?_
                            refine wq_li0 X S hv dL_law_995 (fun x995 hv => ?_)
                            refine wq_aload_n X dL_law_996 rfl (lv_at hl 0 rfl) ?_
                            refine lv_iload X.hx X.hb dL_law_997 (lv_at hl 5 rfl) ?_
                            refine lv_iconst (v := (2 : Int32)) X.hx X.hb dL_law_999 (by decide) ?_
                            refine lv_iadd X.hx X.hb dL_law_1000 ?_
                            refine wq_li0 X S hv dL_law_1001 (fun x1001 hv => ?_)
                            refine wq_aload_n X dL_law_1002 rfl (lv_at hl 0 rfl) ?_
                            refine lv_iload X.hx X.hb dL_law_1003 (lv_at hl 5 rfl) ?_
                            refine lv_iconst (v := (3 : Int32)) X.hx X.hb dL_law_1005 (by decide) ?_
                            refine lv_iadd X.hx X.hb dL_law_1006 ?_
                            refine wq_li0 X S hv dL_law_1007 (fun x1007 hv => ?_)
                            refine wq_aload_n X dL_law_1008 rfl (lv_at hl 0 rfl) ?_
                            refine lv_iload X.hx X.hb dL_law_1009 (lv_at hl 5 rfl) ?_
                            refine lv_iconst (v := (4 : Int32)) X.hx X.hb dL_law_1011 (by decide) ?_
                            refine lv_iadd X.hx X.hb dL_law_1012 ?_
                            refine wq_li0 X S hv dL_law_1013 (fun x1013 hv => ?_)
                            refine wq_aload_n X dL_law_1014 rfl (lv_at hl 3 rfl) ?_
                            refine wq_cS_I X S hv q1601 q1602 q59 ⟨by decide +kernel, by decide +kernel⟩ (nA := 6) (As := [va_rf v1, .int x995, .int x1001, .int x1007, .int x1013, va_rf v3]) (by decide +kernel) rfl rfl (by simp [wv_rfc, wv_kI, wv_kJ, wv_kF, wv_kD]) hl.1 dL_law_1015 (fun x1015 w1015 H locs cells slots S hv => ?_) (wq_kx X rfl)
                            refine lv_istore X.hx X.hb (i := 6) (lv' := [(6, .int x1015), (0, va_rf v0), (1, va_rf v1), (2, va_rf v2), (3, va_rf v3), (4, va_rf v4), (5, .int v5)]) dL_law_1018 hl (by decide) (by simp [wv_rfc, wv_kI, wv_kJ, wv_kF, wv_kD]) (fun ls hl => ?_)
                            refine wq_aload_n X dL_law_1020 rfl (lv_at hl 3 rfl) ?_
                            refine wq_aload_n X dL_law_1021 rfl (lv_at hl 1 rfl) ?_
                            refine lv_iload X.hx X.hb dL_law_1022 (lv_at hl 6 rfl) ?_
                            refine lv_iconst (v := (1 : Int32)) X.hx X.hb dL_law_1024 (by decide) ?_
                            refine lv_iadd X.hx X.hb dL_law_1025 ?_
                            refine wq_li0 X S hv dL_law_1026 (fun x1026 hv => ?_)
                            refine wq_aload_n X dL_law_1027 rfl (lv_at hl 1 rfl) ?_
                            refine lv_iload X.hx X.hb dL_law_1028 (lv_at hl 6 rfl) ?_
                            refine lv_iconst (v := (2 : Int32)) X.hx X.hb dL_law_1030 (by decide) ?_
                            refine lv_iadd X.hx X.hb dL_law_1031 ?_
                            refine wq_li0 X S hv dL_law_1032 (fun x1032 hv => ?_)
                            refine wq_aload_n X dL_law_1033 rfl (lv_at hl 1 rfl) ?_
                            refine lv_iload X.hx X.hb dL_law_1034 (lv_at hl 6 rfl) ?_
                            refine lv_iconst (v := (3 : Int32)) X.hx X.hb dL_law_1036 (by decide) ?_
                            refine lv_iadd X.hx X.hb dL_law_1037 ?_
                            refine wq_li0 X S hv dL_law_1038 (fun x1038 hv => ?_)
                            refine wq_aload_n X dL_law_1039 rfl (lv_at hl 1 rfl) ?_
                            refine lv_iload X.hx X.hb dL_law_1040 (lv_at hl 6 rfl) ?_
                            refine lv_iconst (v := (4 : Int32)) X.hx X.hb dL_law_1042 (by decide) ?_
                            refine lv_iadd X.hx X.hb dL_law_1043 ?_
                            refine wq_li0 X S hv dL_law_1044 (fun x1044 hv => ?_)
                            refine wq_cV_I X S hv q2125 q2126 q2127 q66 ⟨by decide +kernel, by decide +kernel⟩ (nA := 4) (As := [.int x1026, .int x1032, .int x1038, .int x1044]) (by decide +kernel) rfl rfl (by simp [wv_rfc, wv_kI, wv_kJ, wv_kF, wv_kD]) hl.1 dL_law_1045 (fun x1045 w1045 H locs cells slots S hv => ?_) (wq_kx X rfl)
                            refine lv_istore X.hx X.hb (i := 7) (lv' := [(7, .int x1045), (6, .int x1015), (0, va_rf v0), (1, va_rf v1), (2, va_rf v2), (3, va_rf v3), (4, va_rf v4), (5, .int v5)]) dL_law_1048 hl (by decide) (by simp [wv_rfc, wv_kI, wv_kJ, wv_kF, wv_kD]) (fun ls hl => ?_)
                            refine wq_aload_n X dL_law_1050 rfl (lv_at hl 4 rfl) ?_
                            refine wq_cV_I X S hv q1863 q1864 q1865 q66 ⟨by decide +kernel, by decide +kernel⟩ (nA := 0) (As := []) (by decide +kernel) rfl rfl (by simp [wv_rfc, wv_kI, wv_kJ, wv_kF, wv_kD]) hl.1 dL_law_1051 (fun x1051 w1051 H locs cells slots S hv => ?_) (wq_kx X rfl)
                            refine lv_iload X.hx X.hb dL_law_1054 (lv_at hl 1 rfl) ?_
                            refine lv_icmp_eq (tgt := 1061) X.hx X.hb dL_law_1056 (by decide) (fun c1056 => ?_) (fun c1056 => ?_)
                            · have hv := hv.1 c1056
                              refine lv_iload X.hx X.hb dL_law_1061 (lv_at hl 1 rfl) ?_
                              refine lv_if_ne (tgt := 1078) X.hx X.hb dL_law_1063 (by decide) (fun c1063 => ?_) (fun c1063 => ?_)
                              · have hv := hv.1 c1063
                                refine lv_goto (tgt := 1734) X.hx X.hb dL_law_1078 (by decide) ?_
                                exact wk_L_law_1734 X hK28 hv H locs cells slots ls S (lv_sub hl [2, 3, 4, 5, 6, 7] rfl)
                              · have hv := hv.2 c1063
                                refine wq_aload_n X dL_law_1066 rfl (lv_at hl 5 rfl) ?_
                                refine lv_iconst (v := (0 : Int32)) X.hx X.hb dL_law_1067 (by decide) ?_
                                refine wq_ll X S hv dL_law_1068 (fun x1068 hv => ?_)
                                refine lv_iload X.hx X.hb dL_law_1069 (lv_at hl 0 rfl) ?_
                                refine lv_i2l X.hx X.hb dL_law_1071 rfl ?_
                                refine W.lcmp X.hx X.hb dL_law_1072 ?_
                                refine lv_if_eq (tgt := 1078) X.hx X.hb dL_law_1073 (by decide) (fun c1073 => ?_) (fun c1073 => ?_)
                                · have hv := hv.1 c1073
                                  refine lv_goto (tgt := 1734) X.hx X.hb dL_law_1078 (by decide) ?_
                                  exact wk_L_law_1734 X hK28 hv H locs cells slots ls S (lv_sub hl [2, 3, 4, 5, 6, 7] rfl)
                                · have hv := hv.2 c1073
                                  refine lv_iconst (v := (0 : Int32)) X.hx X.hb dL_law_1076 (by decide) ?_
                                  exact wr_iret X S hv.1 hv.2 dL_law_1077
                            · have hv := hv.2 c1056
                              refine lv_iconst (v := (0 : Int32)) X.hx X.hb dL_law_1059 (by decide) ?_
                              exact wr_iret X S hv.1 hv.2 dL_law_1060
                          · have hv := hv.2 h45_11
                            by_cases h45_12 : (x41 &&& (31 : Int32)) = (12 : Int32)
                            · have hv := hv.1 h45_12
                              refine lv_tableIn (tgt := 1081) (off := 1036) X.hx X.hb dL_law_45 (by rw [h45_12]; decide) (by rw [h45_12]; decide) (by rw [h45_12]; decide) (by decide) ?_
                              refine wq_aload_n X dL_law_1081 rfl (lv_at hl 1 rfl) ?_
                              refine wq_cV_I X S hv q261 q262 q263 q60 ⟨by decide +kernel, by decide +kernel⟩ (nA := 0) (As := []) (by decide +kernel) rfl rfl (by simp [wv_rfc, wv_kI, wv_kJ, wv_kF, wv_kD]) hl.1 dL_law_1082 (fun x1082 w1082 H locs cells slots S hv => ?_) (wq_kx X rfl)
                              refine wq_aload_n X dL_law_1085 rfl (lv_at hl 2 rfl) ?_
                              refine wq_cV_I X S hv q2166 q2167 q2168 q66 ⟨by decide +kernel, by decide +kernel⟩ (nA := 0) (As := []) (by decide +kernel) rfl rfl (by simp [wv_rfc, wv_kI, wv_kJ, wv_kF, wv_kD]) hl.1 dL_law_1086 (fun x1086 w1086 H locs cells slots S hv => ?_) (wq_kx X rfl)
                              refine lv_icmp_eq (tgt := 1734) X.hx X.hb dL_law_1089 (by decide) (fun c1089 => ?_) (fun c1089 => ?_)
                              · have hv := hv.1 c1089
                                exact wk_L_law_1734 X hK28 hv H locs cells slots ls S (lv_sub hl [0, 1, 2, 3, 4, 5] rfl)
                              · have hv := hv.2 c1089
                                refine lv_iconst (v := (0 : Int32)) X.hx X.hb dL_law_1092 (by decide) ?_
                                exact wr_iret X S hv.1 hv.2 dL_law_1093
                            · have hv := hv.2 h45_12
                              by_cases h45_13 : (x41 &&& (31 : Int32)) = (13 : Int32)
                              · have hv := hv.1 h45_13
                                refine lv_tableIn (tgt := 1094) (off := 1049) X.hx X.hb dL_law_45 (by rw [h45_13]; decide) (by rw [h45_13]; decide) (by rw [h45_13]; decide) (by decide) ?_
                                refine wq_aload_n X dL_law_1094 rfl (lv_at hl 1 rfl) ?_
                                refine wq_cV_I X S hv q910 q911 q912 q60 ⟨by decide +kernel, by decide +kernel⟩ (nA := 0) (As := []) (by decide +kernel) rfl rfl (by simp [wv_rfc, wv_kI, wv_kJ, wv_kF, wv_kD]) hl.1 dL_law_1095 (fun x1095 w1095 H locs cells slots S hv => ?_) (wq_kx X rfl)
                                refine wq_aload_n X dL_law_1098 rfl (lv_at hl 2 rfl) ?_
                                refine wq_cV_I X S hv q2226 q2227 q2228 q66 ⟨by decide +kernel, by decide +kernel⟩ (nA := 0) (As := []) (by decide +kernel) rfl rfl (by simp [wv_rfc, wv_kI, wv_kJ, wv_kF, wv_kD]) hl.1 dL_law_1099 (fun x1099 w1099 H locs cells slots S hv => ?_) (wq_kx X rfl)
                                refine lv_icmp_eq (tgt := 1734) X.hx X.hb dL_law_1102 (by decide) (fun c1102 => ?_) (fun c1102 => ?_)
                                · have hv := hv.1 c1102
                                  exact wk_L_law_1734 X hK28 hv H locs cells slots ls S (lv_sub hl [0, 1, 2, 3, 4, 5] rfl)
                                · have hv := hv.2 c1102
                                  refine lv_iconst (v := (0 : Int32)) X.hx X.hb dL_law_1105 (by decide) ?_
                                  exact wr_iret X S hv.1 hv.2 dL_law_1106
                              · have hv := hv.2 h45_13
                                by_cases h45_14 : (x41 &&& (31 : Int32)) = (14 : Int32)
                                · have hv := hv.1 h45_14
                                  refine lv_tableIn (tgt := 1107) (off := 1062) X.hx X.hb dL_law_45 (by rw [h45_14]; decide) (by rw [h45_14]; decide) (by rw [h45_14]; decide) (by decide) ?_
                                  refine wq_aload_n X dL_law_1107 rfl (lv_at hl 1 rfl) ?_
                                  refine wq_aload_n X dL_law_1108 rfl (lv_at hl 0 rfl) ?_
                                  refine lv_iload X.hx X.hb dL_law_1109 (lv_at hl 5 rfl) ?_
                                  refine lv_iconst (v := (1 : Int32)) X.hx X.hb dL_law_1111 (by decide) ?_
                                  refine lv_iadd X.hx X.hb dL_law_1112 ?_
                                  refine wq_li0 X S hv dL_law_1113 (fun x1113 hv => ?_)
                                  refine wq_aload_n X dL_law_1114 rfl (lv_at hl 0 rfl) ?_
                                  refine lv_iload X.hx X.hb dL_law_1115 (lv_at hl 5 rfl) ?_
                                  refine lv_iconst (v := (2 : Int32)) X.hx X.hb dL_law_1117 (by decide) ?_
                                  refine lv_iadd X.hx X.hb dL_law_1118 ?_
                                  refine wq_li0 X S hv dL_law_1119 (fun x1119 hv => ?_)
                                  refine wq_aload_n X dL_law_1120 rfl (lv_at hl 0 rfl) ?_
                                  refine lv_iload X.hx X.hb dL_law_1121 (lv_at hl 5 rfl) ?_
                                  refine lv_iconst (v := (3 : Int32)) X.hx X.hb dL_law_1123 (by decide) ?_
                                  refine lv_iadd X.hx X.hb dL_law_1124 ?_
                                  refine wq_li0 X S hv dL_law_1125 (fun x1125 hv => ?_)
                                  refine wq_aload_n X dL_law_1126 rfl (lv_at hl 3 rfl) ?_
                                  refine wq_cS_I X S hv q1608 q1609 q59 ⟨by decide +kernel, by decide +kernel⟩ (nA := 5) (As := [va_rf v1, .int x1113, .int x1119, .int x1125, va_rf v3]) (by decide +kernel) rfl rfl (by simp [wv_rfc, wv_kI, wv_kJ, wv_kF, wv_kD]) hl.1 dL_law_1127 (fun x1127 w1127 H locs cells slots S hv => ?_) (wq_kx X rfl)
                                  refine lv_istore X.hx X.hb (i := 6) (lv' := [(6, .int x1127), (0, va_rf v0), (1, va_rf v1), (2, va_rf v2), (3, va_rf v3), (4, va_rf v4), (5, .int v5)]) dL_law_1130 hl (by decide) (by simp [wv_rfc, wv_kI, wv_kJ, wv_kF, wv_kD]) (fun ls hl => ?_)
                                  refine wq_aload_n X dL_law_1132 rfl (lv_at hl 3 rfl) ?_
                                  refine wq_aload_n X dL_law_1133 rfl (lv_at hl 1 rfl) ?_
                                  refine lv_iload X.hx X.hb dL_law_1134 (lv_at hl 6 rfl) ?_
                                  refine lv_iconst (v := (1 : Int32)) X.hx X.hb dL_law_1136 (by decide) ?_
                                  refine lv_iadd X.hx X.hb dL_law_1137 ?_
                                  refine wq_li0 X S hv dL_law_1138 (fun x1138 hv => ?_)
                                  refine wq_aload_n X dL_law_1139 rfl (lv_at hl 1 rfl) ?_
                                  refine lv_iload X.hx X.hb dL_law_1140 (lv_at hl 6 rfl) ?_
                                  refine lv_iconst (v := (2 : Int32)) X.hx X.hb dL_law_1142 (by decide) ?_
                                  refine lv_iadd X.hx X.hb dL_law_1143 ?_
                                  refine wq_li0 X S hv dL_law_1144 (fun x1144 hv => ?_)
                                  refine wq_aload_n X dL_law_1145 rfl (lv_at hl 1 rfl) ?_
                                  refine lv_iload X.hx X.hb dL_law_1146 (lv_at hl 6 rfl) ?_
                                  refine lv_iconst (v := (3 : Int32)) X.hx X.hb dL_law_1148 (by decide) ?_
                                  refine lv_iadd X.hx X.hb dL_law_1149 ?_
                                  refine wq_li0 X S hv dL_law_1150 (fun x1150 hv => ?_)
                                  refine wq_cV_I X S hv q2230 q2231 q2232 q66 ⟨by decide +kernel, by decide +kernel⟩ (nA := 3) (As := [.int x1138, .int x1144, .int x1150]) (by decide +kernel) rfl rfl (by simp [wv_rfc, wv_kI, wv_kJ, wv_kF, wv_kD]) hl.1 dL_law_1151 (fun x1151 w1151 H locs cells slots S hv => ?_) (wq_kx X rfl)
                                  refine lv_istore X.hx X.hb (i := 7) (lv' := [(7, .int x1151), (6, .int x1127), (0, va_rf v0), (1, va_rf v1), (2, va_rf v2), (3, va_rf v3), (4, va_rf v4), (5, .int v5)]) dL_law_1154 hl (by decide) (by simp [wv_rfc, wv_kI, wv_kJ, wv_kF, wv_kD]) (fun ls hl => ?_)
                                  refine wq_aload_n X dL_law_1156 rfl (lv_at hl 4 rfl) ?_
                                  refine wq_cV_I X S hv q1863 q1864 q1865 q66 ⟨by decide +kernel, by decide +kernel⟩ (nA := 0) (As := []) (by decide +kernel) rfl rfl (by simp [wv_rfc, wv_kI, wv_kJ, wv_kF, wv_kD]) hl.1 dL_law_1157 (fun x1157 w1157 H locs cells slots S hv => ?_) (wq_kx X rfl)
                                  refine lv_iload X.hx X.hb dL_law_1160 (lv_at hl 1 rfl) ?_
                                  refine lv_icmp_eq (tgt := 1167) X.hx X.hb dL_law_1162 (by decide) (fun c1162 => ?_) (fun c1162 => ?_)
                                  · have hv := hv.1 c1162
                                    refine lv_iload X.hx X.hb dL_law_1167 (lv_at hl 1 rfl) ?_
                                    refine lv_if_ne (tgt := 1184) X.hx X.hb dL_law_1169 (by decide) (fun c1169 => ?_) (fun c1169 => ?_)
                                    · have hv := hv.1 c1169
                                      refine lv_goto (tgt := 1734) X.hx X.hb dL_law_1184 (by decide) ?_
                                      exact wk_L_law_1734 X hK28 hv H locs cells slots ls S (lv_sub hl [2, 3, 4, 5, 6, 7] rfl)
                                    · have hv := hv.2 c1169
                                      refine wq_aload_n X dL_law_1172 rfl (lv_at hl 5 rfl) ?_
                                      refine lv_iconst (v := (0 : Int32)) X.hx X.hb dL_law_1173 (by decide) ?_
                                      refine wq_ll X S hv dL_law_1174 (fun x1174 hv => ?_)
                                      refine lv_iload X.hx X.hb dL_law_1175 (lv_at hl 0 rfl) ?_
                                      refine lv_i2l X.hx X.hb dL_law_1177 rfl ?_
                                      refine W.lcmp X.hx X.hb dL_law_1178 ?_
                                      refine lv_if_eq (tgt := 1184) X.hx X.hb dL_law_1179 (by decide) (fun c1179 => ?_) (fun c1179 => ?_)
                                      · have hv := hv.1 c1179
                                        refine lv_goto (tgt := 1734) X.hx X.hb dL_law_1184 (by decide) ?_
                                        exact wk_L_law_1734 X hK28 hv H locs cells slots ls S (lv_sub hl [2, 3, 4, 5, 6, 7] rfl)
                                      · have hv := hv.2 c1179
                                        refine lv_iconst (v := (0 : Int32)) X.hx X.hb dL_law_1182 (by decide) ?_
                                        exact wr_iret X S hv.1 hv.2 dL_law_1183
                                  · have hv := hv.2 c1162
                                    refine lv_iconst (v := (0 : Int32)) X.hx X.hb dL_law_1165 (by decide) ?_
                                    exact wr_iret X S hv.1 hv.2 dL_law_1166
                                · have hv := hv.2 h45_14
                                  by_cases h45_15 : (x41 &&& (31 : Int32)) = (15 : Int32)
                                  · have hv := hv.1 h45_15
                                    refine lv_tableIn (tgt := 1187) (off := 1142) X.hx X.hb dL_law_45 (by rw [h45_15]; decide) (by rw [h45_15]; decide) (by rw [h45_15]; decide) (by decide) ?_
                                    refine wq_aload_n X dL_law_1187 rfl (lv_at hl 1 rfl) ?_
                                    refine wq_aload_n X dL_law_1188 rfl (lv_at hl 0 rfl) ?_
                                    refine lv_iload X.hx X.hb dL_law_1189 (lv_at hl 5 rfl) ?_
                                    refine lv_iconst (v := (1 : Int32)) X.hx X.hb dL_law_1191 (by decide) ?_
                                    refine lv_iadd X.hx X.hb dL_law_1192 ?_
                                    refine wq_li0 X S hv dL_law_1193 (fun x1193 hv => ?_)
                                    refine wq_aload_n X dL_law_1194 rfl (lv_at hl 0 rfl) ?_
                                    refine lv_iload X.hx X.hb dL_law_1195 (lv_at hl 5 rfl) ?_
                                    refine lv_iconst (v := (2 : Int32)) X.hx X.hb dL_law_1197 (by decide) ?_
                                    refine lv_iadd X.hx X.hb dL_law_1198 ?_
                                    refine wq_li0 X S hv dL_law_1199 (fun x1199 hv => ?_)
                                    refine wq_aload_n X dL_law_1200 rfl (lv_at hl 0 rfl) ?_
                                    refine lv_iload X.hx X.hb dL_law_1201 (lv_at hl 5 rfl) ?_
                                    refine lv_iconst (v := (3 : Int32)) X.hx X.hb dL_law_1203 (by decide) ?_
                                    refine lv_iadd X.hx X.hb dL_law_1204 ?_
                                    refine wq_li0 X S hv dL_law_1205 (fun x1205 hv => ?_)
                                    refine wq_aload_n X dL_law_1206 rfl (lv_at hl 3 rfl) ?_
                                    refine wq_cS_I X S hv q1619 q1620 q59 ⟨by decide +kernel, by decide +kernel⟩ (nA := 5) (As := [va_rf v1, .int x1193, .int x1199, .int x1205, va_rf v3]) (by decide +kernel) rfl rfl (by simp [wv_rfc, wv_kI, wv_kJ, wv_kF, wv_kD]) hl.1 dL_law_1207 (fun x1207 w1207 H locs cells slots S hv => ?_) (wq_kx X rfl)
                                    refine lv_istore X.hx X.hb (i := 6) (lv' := [(6, .int x1207), (0, va_rf v0), (1, va_rf v1), (2, va_rf v2), (3, va_rf v3), (4, va_rf v4), (5, .int v5)]) dL_law_1210 hl (by decide) (by simp [wv_rfc, wv_kI, wv_kJ, wv_kF, wv_kD]) (fun ls hl => ?_)
                                    refine wq_aload_n X dL_law_1212 rfl (lv_at hl 3 rfl) ?_
                                    refine wq_aload_n X dL_law_1213 rfl (lv_at hl 1 rfl) ?_
                                    refine lv_iload X.hx X.hb dL_law_1214 (lv_at hl 6 rfl) ?_
                                    refine lv_iconst (v := (1 : Int32)) X.hx X.hb dL_law_1216 (by decide) ?_
                                    refine lv_iadd X.hx X.hb dL_law_1217 ?_
                                    refine wq_li0 X S hv dL_law_1218 (fun x1218 hv => ?_)
                                    refine wq_aload_n X dL_law_1219 rfl (lv_at hl 1 rfl) ?_
                                    refine lv_iload X.hx X.hb dL_law_1220 (lv_at hl 6 rfl) ?_
                                    refine lv_iconst (v := (2 : Int32)) X.hx X.hb dL_law_1222 (by decide) ?_
                                    refine lv_iadd X.hx X.hb dL_law_1223 ?_
                                    refine wq_li0 X S hv dL_law_1224 (fun x1224 hv => ?_)
                                    refine wq_aload_n X dL_law_1225 rfl (lv_at hl 1 rfl) ?_
                                    refine lv_iload X.hx X.hb dL_law_1226 (lv_at hl 6 rfl) ?_
                                    refine lv_iconst (v := (3 : Int32)) X.hx X.hb dL_law_1228 (by decide) ?_
                                    refine lv_iadd X.hx X.hb dL_law_1229 ?_
                                    refine wq_li0 X S hv dL_law_1230 (fun x1230 hv => ?_)
                                    refine wq_cV_I X S hv q2476 q2477 q2478 q66 ⟨by decide +kernel, by decide +kernel⟩ (nA := 3) (As := [.int x1218, .int x1224, .int x1230]) (by decide +kernel) rfl rfl (by simp [wv_rfc, wv_kI, wv_kJ, wv_kF, wv_kD]) hl.1 dL_law_1231 (fun x1231 w1231 H locs cells slots S hv => ?_) (wq_kx X rfl)
                                    refine lv_istore X.hx X.hb (i := 7) (lv' := [(7, .int x1231), (6, .int x1207), (0, va_rf v0), (1, va_rf v1), (2, va_rf v2), (3, va_rf v3), (4, va_rf v4), (5, .int v5)]) dL_law_1234 hl (by decide) (by simp [wv_rfc, wv_kI, wv_kJ, wv_kF, wv_kD]) (fun ls hl => ?_)
                                    refine wq_aload_n X dL_law_1236 rfl (lv_at hl 4 rfl) ?_
                                    refine wq_cV_I X S hv q1863 q1864 q1865 q66 ⟨by decide +kernel, by decide +kernel⟩ (nA := 0) (As := []) (by decide +kernel) rfl rfl (by simp [wv_rfc, wv_kI, wv_kJ, wv_kF, wv_kD]) hl.1 dL_law_1237 (fun x1237 w1237 H locs cells slots S hv => ?_) (wq_kx X rfl)
                                    refine lv_iload X.hx X.hb dL_law_1240 (lv_at hl 1 rfl) ?_
                                    refine lv_icmp_eq (tgt := 1247) X.hx X.hb dL_law_1242 (by decide) (fun c1242 => ?_) (fun c1242 => ?_)
                                    · have hv := hv.1 c1242
                                      refine lv_iload X.hx X.hb dL_law_1247 (lv_at hl 1 rfl) ?_
                                      refine lv_if_ne (tgt := 1264) X.hx X.hb dL_law_1249 (by decide) (fun c1249 => ?_) (fun c1249 => ?_)
                                      · have hv := hv.1 c1249
                                        refine lv_goto (tgt := 1734) X.hx X.hb dL_law_1264 (by decide) ?_
                                        exact wk_L_law_1734 X hK28 hv H locs cells slots ls S (lv_sub hl [2, 3, 4, 5, 6, 7] rfl)
                                      · have hv := hv.2 c1249
                                        refine wq_aload_n X dL_law_1252 rfl (lv_at hl 5 rfl) ?_
                                        refine lv_iconst (v := (0 : Int32)) X.hx X.hb dL_law_1253 (by decide) ?_
                                        refine wq_ll X S hv dL_law_1254 (fun x1254 hv => ?_)
                                        refine lv_iload X.hx X.hb dL_law_1255 (lv_at hl 0 rfl) ?_
                                        refine lv_i2l X.hx X.hb dL_law_1257 rfl ?_
                                        refine W.lcmp X.hx X.hb dL_law_1258 ?_
                                        refine lv_if_eq (tgt := 1264) X.hx X.hb dL_law_1259 (by decide) (fun c1259 => ?_) (fun c1259 => ?_)
                                        · have hv := hv.1 c1259
                                          refine lv_goto (tgt := 1734) X.hx X.hb dL_law_1264 (by decide) ?_
                                          exact wk_L_law_1734 X hK28 hv H locs cells slots ls S (lv_sub hl [2, 3, 4, 5, 6, 7] rfl)
                                        · have hv := hv.2 c1259
                                          refine lv_iconst (v := (0 : Int32)) X.hx X.hb dL_law_1262 (by decide) ?_
                                          exact wr_iret X S hv.1 hv.2 dL_law_1263
                                    · have hv := hv.2 c1242
                                      refine lv_iconst (v := (0 : Int32)) X.hx X.hb dL_law_1245 (by decide) ?_
                                      exact wr_iret X S hv.1 hv.2 dL_law_1246
                                  · have hv := hv.2 h45_15
                                    by_cases h45_16 : (x41 &&& (31 : Int32)) = (16 : Int32)
                                    · have hv := hv.1 h45_16
                                      refine lv_tableIn (tgt := 1267) (off := 1222) X.hx X.hb dL_law_45 (by rw [h45_16]; decide) (by rw [h45_16]; decide) (by rw [h45_16]; decide) (by decide) ?_
                                      refine wq_aload_n X dL_law_1267 rfl (lv_at hl 1 rfl) ?_
                                      refine wq_aload_n X dL_law_1268 rfl (lv_at hl 3 rfl) ?_
                                      refine wq_cS_I X S hv q1626 q1627 q59 ⟨by decide +kernel, by decide +kernel⟩ (nA := 2) (As := [va_rf v1, va_rf v3]) (by decide +kernel) rfl rfl (by simp [wv_rfc, wv_kI, wv_kJ, wv_kF, wv_kD]) hl.1 dL_law_1269 (fun x1269 w1269 H locs cells slots S hv => ?_) (wq_kx X rfl)
                                      refine lv_istore X.hx X.hb (i := 6) (lv' := [(6, .int x1269), (0, va_rf v0), (1, va_rf v1), (2, va_rf v2), (3, va_rf v3), (4, va_rf v4), (5, .int v5)]) dL_law_1272 hl (by decide) (by simp [wv_rfc, wv_kI, wv_kJ, wv_kF, wv_kD]) (fun ls hl => ?_)
                                      refine wq_aload_n X dL_law_1274 rfl (lv_at hl 3 rfl) ?_
                                      refine wq_cV_I X S hv q2480 q2481 q2482 q66 ⟨by decide +kernel, by decide +kernel⟩ (nA := 0) (As := []) (by decide +kernel) rfl rfl (by simp [wv_rfc, wv_kI, wv_kJ, wv_kF, wv_kD]) hl.1 dL_law_1275 (fun x1275 w1275 H locs cells slots S hv => ?_) (wq_kx X rfl)
                                      refine lv_istore X.hx X.hb (i := 7) (lv' := [(7, .int x1275), (6, .int x1269), (0, va_rf v0), (1, va_rf v1), (2, va_rf v2), (3, va_rf v3), (4, va_rf v4), (5, .int v5)]) dL_law_1278 hl (by decide) (by simp [wv_rfc, wv_kI, wv_kJ, wv_kF, wv_kD]) (fun ls hl => ?_)
                                      refine wq_aload_n X dL_law_1280 rfl (lv_at hl 4 rfl) ?_
                                      refine wq_cV_I X S hv q1863 q1864 q1865 q66 ⟨by decide +kernel, by decide +kernel⟩ (nA := 0) (As := []) (by decide +kernel) rfl rfl (by simp [wv_rfc, wv_kI, wv_kJ, wv_kF, wv_kD]) hl.1 dL_law_1281 (fun x1281 w1281 H locs cells slots S hv => ?_) (wq_kx X rfl)
                                      refine lv_iload X.hx X.hb dL_law_1284 (lv_at hl 1 rfl) ?_
                                      refine lv_icmp_eq (tgt := 1291) X.hx X.hb dL_law_1286 (by decide) (fun c1286 => ?_) (fun c1286 => ?_)
                                      · have hv := hv.1 c1286
                                        refine lv_iload X.hx X.hb dL_law_1291 (lv_at hl 1 rfl) ?_
                                        refine lv_if_ne (tgt := 1308) X.hx X.hb dL_law_1293 (by decide) (fun c1293 => ?_) (fun c1293 => ?_)
                                        · have hv := hv.1 c1293
                                          refine lv_goto (tgt := 1734) X.hx X.hb dL_law_1308 (by decide) ?_
                                          exact wk_L_law_1734 X hK28 hv H locs cells slots ls S (lv_sub hl [2, 3, 4, 5, 6, 7] rfl)
                                        · have hv := hv.2 c1293
                                          refine wq_aload_n X dL_law_1296 rfl (lv_at hl 5 rfl) ?_
                                          refine lv_iconst (v := (0 : Int32)) X.hx X.hb dL_law_1297 (by decide) ?_
                                          refine wq_ll X S hv dL_law_1298 (fun x1298 hv => ?_)
                                          refine lv_iload X.hx X.hb dL_law_1299 (lv_at hl 0 rfl) ?_
                                          refine lv_i2l X.hx X.hb dL_law_1301 rfl ?_
                                          refine W.lcmp X.hx X.hb dL_law_1302 ?_
                                          refine lv_if_eq (tgt := 1308) X.hx X.hb dL_law_1303 (by decide) (fun c1303 => ?_) (fun c1303 => ?_)
                                          · have hv := hv.1 c1303
                                            refine lv_goto (tgt := 1734) X.hx X.hb dL_law_1308 (by decide) ?_
                                            exact wk_L_law_1734 X hK28 hv H locs cells slots ls S (lv_sub hl [2, 3, 4, 5, 6, 7] rfl)
                                          · have hv := hv.2 c1303
                                            refine lv_iconst (v := (0 : Int32)) X.hx X.hb dL_law_1306 (by decide) ?_
                                            exact wr_iret X S hv.1 hv.2 dL_law_1307
                                      · have hv := hv.2 c1286
                                        refine lv_iconst (v := (0 : Int32)) X.hx X.hb dL_law_1289 (by decide) ?_
                                        exact wr_iret X S hv.1 hv.2 dL_law_1290
                                    · have hv := hv.2 h45_16
                                      by_cases h45_17 : (x41 &&& (31 : Int32)) = (17 : Int32)
                                      · have hv := hv.1 h45_17
                                        refine lv_tableIn (tgt := 1311) (off := 1266) X.hx X.hb dL_law_45 (by rw [h45_17]; decide) (by rw [h45_17]; decide) (by rw [h45_17]; decide) (by decide) ?_
                                        refine wq_aload_n X dL_law_1311 rfl (lv_at hl 1 rfl) ?_
                                        refine wq_cV_I X S hv q914 q915 q916 q60 ⟨by decide +kernel, by decide +kernel⟩ (nA := 0) (As := []) (by decide +kernel) rfl rfl (by simp [wv_rfc, wv_kI, wv_kJ, wv_kF, wv_kD]) hl.1 dL_law_1312 (fun x1312 w1312 H locs cells slots S hv => ?_) (wq_kx X rfl)
                                        refine wq_aload_n X dL_law_1315 rfl (lv_at hl 2 rfl) ?_
                                        refine wq_cV_I X S hv q2484 q2485 q2486 q66 ⟨by decide +kernel, by decide +kernel⟩ (nA := 0) (As := []) (by decide +kernel) rfl rfl (by simp [wv_rfc, wv_kI, wv_kJ, wv_kF, wv_kD]) hl.1 dL_law_1316 (fun x1316 w1316 H locs cells slots S hv => ?_) (wq_kx X rfl)
                                        refine lv_icmp_eq (tgt := 1734) X.hx X.hb dL_law_1319 (by decide) (fun c1319 => ?_) (fun c1319 => ?_)
                                        · have hv := hv.1 c1319
                                          exact wk_L_law_1734 X hK28 hv H locs cells slots ls S (lv_sub hl [0, 1, 2, 3, 4, 5] rfl)
                                        · have hv := hv.2 c1319
                                          refine lv_iconst (v := (0 : Int32)) X.hx X.hb dL_law_1322 (by decide) ?_
                                          exact wr_iret X S hv.1 hv.2 dL_law_1323
                                      · have hv := hv.2 h45_17
                                        by_cases h45_18 : (x41 &&& (31 : Int32)) = (18 : Int32)
                                        · have hv := hv.1 h45_18
                                          refine lv_tableIn (tgt := 1324) (off := 1279) X.hx X.hb dL_law_45 (by rw [h45_18]; decide) (by rw [h45_18]; decide) (by rw [h45_18]; decide) (by decide) ?_
                                          refine wq_aload_n X dL_law_1324 rfl (lv_at hl 1 rfl) ?_
                                          refine wq_cV_I X S hv q918 q919 q920 q60 ⟨by decide +kernel, by decide +kernel⟩ (nA := 0) (As := []) (by decide +kernel) rfl rfl (by simp [wv_rfc, wv_kI, wv_kJ, wv_kF, wv_kD]) hl.1 dL_law_1325 (fun x1325 w1325 H locs cells slots S hv => ?_) (wq_kx X rfl)
                                          refine wq_aload_n X dL_law_1328 rfl (lv_at hl 2 rfl) ?_
                                          refine wq_cV_I X S hv q2488 q2489 q2490 q66 ⟨by decide +kernel, by decide +kernel⟩ (nA := 0) (As := []) (by decide +kernel) rfl rfl (by simp [wv_rfc, wv_kI, wv_kJ, wv_kF, wv_kD]) hl.1 dL_law_1329 (fun x1329 w1329 H locs cells slots S hv => ?_) (wq_kx X rfl)
                                          refine lv_icmp_eq (tgt := 1734) X.hx X.hb dL_law_1332 (by decide) (fun c1332 => ?_) (fun c1332 => ?_)
                                          · have hv := hv.1 c1332
                                            exact wk_L_law_1734 X hK28 hv H locs cells slots ls S (lv_sub hl [0, 1, 2, 3, 4, 5] rfl)
                                          · have hv := hv.2 c1332
                                            refine lv_iconst (v := (0 : Int32)) X.hx X.hb dL_law_1335 (by decide) ?_
                                            exact wr_iret X S hv.1 hv.2 dL_law_1336
                                        · have hv := hv.2 h45_18
                                          by_cases h45_19 : (x41 &&& (31 : Int32)) = (19 : Int32)
                                          · have hv := hv.1 h45_19
                                            refine lv_tableIn (tgt := 1337) (off := 1292) X.hx X.hb dL_law_45 (by rw [h45_19]; decide) (by rw [h45_19]; decide) (by rw [h45_19]; decide) (by decide) ?_
                                            refine wq_aload_n X dL_law_1337 rfl (lv_at hl 1 rfl) ?_
                                            refine wq_cV_I X S hv q922 q923 q924 q60 ⟨by decide +kernel, by decide +kernel⟩ (nA := 0) (As := []) (by decide +kernel) rfl rfl (by simp [wv_rfc, wv_kI, wv_kJ, wv_kF, wv_kD]) hl.1 dL_law_1338 (fun x1338 w1338 H locs cells slots S hv => ?_) (wq_kx X rfl)
                                            refine wq_aload_n X dL_law_1341 rfl (lv_at hl 2 rfl) ?_
                                            refine wq_cV_I X S hv q2492 q2493 q2494 q66 ⟨by decide +kernel, by decide +kernel⟩ (nA := 0) (As := []) (by decide +kernel) rfl rfl (by simp [wv_rfc, wv_kI, wv_kJ, wv_kF, wv_kD]) hl.1 dL_law_1342 (fun x1342 w1342 H locs cells slots S hv => ?_) (wq_kx X rfl)
                                            refine lv_icmp_eq (tgt := 1734) X.hx X.hb dL_law_1345 (by decide) (fun c1345 => ?_) (fun c1345 => ?_)
                                            · have hv := hv.1 c1345
                                              exact wk_L_law_1734 X hK28 hv H locs cells slots ls S (lv_sub hl [0, 1, 2, 3, 4, 5] rfl)
                                            · have hv := hv.2 c1345
                                              refine lv_iconst (v := (0 : Int32)) X.hx X.hb dL_law_1348 (by decide) ?_
                                              exact wr_iret X S hv.1 hv.2 dL_law_1349
                                          · have hv := hv.2 h45_19
                                            by_cases h45_20 : (x41 &&& (31 : Int32)) = (20 : Int32)
                                            · have hv := hv.1 h45_20
                                              refine lv_tableIn (tgt := 1350) (off := 1305) X.hx X.hb dL_law_45 (by rw [h45_20]; decide) (by rw [h45_20]; decide) (by rw [h45_20]; decide) (by decide) ?_
                                              refine wq_aload_n X dL_law_1350 rfl (lv_at hl 1 rfl) ?_
                                              refine wq_aload_n X dL_law_1351 rfl (lv_at hl 0 rfl) ?_
                                              refine lv_iload X.hx X.hb dL_law_1352 (lv_at hl 5 rfl) ?_
                                              refine lv_iconst (v := (1 : Int32)) X.hx X.hb dL_law_1354 (by decide) ?_
                                              refine lv_iadd X.hx X.hb dL_law_1355 ?_
                                              refine wq_li0 X S hv dL_law_1356 (fun x1356 hv => ?_)
                                              refine wq_aload_n X dL_law_1357 rfl (lv_at hl 3 rfl) ?_
                                              refine wq_cS_I X S hv q1633 q1634 q59 ⟨by decide +kernel, by decide +kernel⟩ (nA := 3) (As := [va_rf v1, .int x1356, va_rf v3]) (by decide +kernel) rfl rfl (by simp [wv_rfc, wv_kI, wv_kJ, wv_kF, wv_kD]) hl.1 dL_law_1358 (fun x1358 w1358 H locs cells slots S hv => ?_) (wq_kx X rfl)
                                              refine lv_istore X.hx X.hb (i := 6) (lv' := [(6, .int x1358), (0, va_rf v0), (1, va_rf v1), (2, va_rf v2), (3, va_rf v3), (4, va_rf v4), (5, .int v5)]) dL_law_1361 hl (by decide) (by simp [wv_rfc, wv_kI, wv_kJ, wv_kF, wv_kD]) (fun ls hl => ?_)
                                              refine wq_aload_n X dL_law_1363 rfl (lv_at hl 3 rfl) ?_
                                              refine wq_aload_n X dL_law_1364 rfl (lv_at hl 1 rfl) ?_
                                              refine lv_iload X.hx X.hb dL_law_1365 (lv_at hl 6 rfl) ?_
                                              refine lv_iconst (v := (1 : Int32)) X.hx X.hb dL_law_1367 (by decide) ?_
                                              refine lv_iadd X.hx X.hb dL_law_1368 ?_
                                              refine wq_li0 X S hv dL_law_1369 (fun x1369 hv => ?_)
                                              refine wq_cV_I X S hv q2496 q2497 q2498 q66 ⟨by decide +kernel, by decide +kernel⟩ (nA := 1) (As := [.int x1369]) (by decide +kernel) rfl rfl (by simp [wv_rfc, wv_kI, wv_kJ, wv_kF, wv_kD]) hl.1 dL_law_1370 (fun x1370 w1370 H locs cells slots S hv => ?_) (wq_kx X rfl)
                                              refine lv_istore X.hx X.hb (i := 7) (lv' := [(7, .int x1370), (6, .int x1358), (0, va_rf v0), (1, va_rf v1), (2, va_rf v2), (3, va_rf v3), (4, va_rf v4), (5, .int v5)]) dL_law_1373 hl (by decide) (by simp [wv_rfc, wv_kI, wv_kJ, wv_kF, wv_kD]) (fun ls hl => ?_)
                                              refine wq_aload_n X dL_law_1375 rfl (lv_at hl 4 rfl) ?_
                                              refine wq_cV_I X S hv q1863 q1864 q1865 q66 ⟨by decide +kernel, by decide +kernel⟩ (nA := 0) (As := []) (by decide +kernel) rfl rfl (by simp [wv_rfc, wv_kI, wv_kJ, wv_kF, wv_kD]) hl.1 dL_law_1376 (fun x1376 w1376 H locs cells slots S hv => ?_) (wq_kx X rfl)
                                              refine lv_iload X.hx X.hb dL_law_1379 (lv_at hl 1 rfl) ?_
                                              refine lv_icmp_eq (tgt := 1386) X.hx X.hb dL_law_1381 (by decide) (fun c1381 => ?_) (fun c1381 => ?_)
                                              · have hv := hv.1 c1381
                                                refine lv_iload X.hx X.hb dL_law_1386 (lv_at hl 1 rfl) ?_
                                                refine lv_if_ne (tgt := 1403) X.hx X.hb dL_law_1388 (by decide) (fun c1388 => ?_) (fun c1388 => ?_)
                                                · have hv := hv.1 c1388
                                                  refine lv_goto (tgt := 1734) X.hx X.hb dL_law_1403 (by decide) ?_
                                                  exact wk_L_law_1734 X hK28 hv H locs cells slots ls S (lv_sub hl [2, 3, 4, 5, 6, 7] rfl)
                                                · have hv := hv.2 c1388
                                                  refine wq_aload_n X dL_law_1391 rfl (lv_at hl 5 rfl) ?_
                                                  refine lv_iconst (v := (0 : Int32)) X.hx X.hb dL_law_1392 (by decide) ?_
                                                  refine wq_ll X S hv dL_law_1393 (fun x1393 hv => ?_)
                                                  refine lv_iload X.hx X.hb dL_law_1394 (lv_at hl 0 rfl) ?_
                                                  refine lv_i2l X.hx X.hb dL_law_1396 rfl ?_
                                                  refine W.lcmp X.hx X.hb dL_law_1397 ?_
                                                  refine lv_if_eq (tgt := 1403) X.hx X.hb dL_law_1398 (by decide) (fun c1398 => ?_) (fun c1398 => ?_)
                                                  · have hv := hv.1 c1398
                                                    refine lv_goto (tgt := 1734) X.hx X.hb dL_law_1403 (by decide) ?_
                                                    exact wk_L_law_1734 X hK28 hv H locs cells slots ls S (lv_sub hl [2, 3, 4, 5, 6, 7] rfl)
                                                  · have hv := hv.2 c1398
                                                    refine lv_iconst (v := (0 : Int32)) X.hx X.hb dL_law_1401 (by decide) ?_
                                                    exact wr_iret X S hv.1 hv.2 dL_law_1402
                                              · have hv := hv.2 c1381
                                                refine lv_iconst (v := (0 : Int32)) X.hx X.hb dL_law_1384 (by decide) ?_
                                                exact wr_iret X S hv.1 hv.2 dL_law_1385
                                            · have hv := hv.2 h45_20
                                              by_cases h45_21 : (x41 &&& (31 : Int32)) = (21 : Int32)
                                              · have hv := hv.1 h45_21
                                                refine lv_tableIn (tgt := 1406) (off := 1361) X.hx X.hb dL_law_45 (by rw [h45_21]; decide) (by rw [h45_21]; decide) (by rw [h45_21]; decide) (by decide) ?_
                                                refine wq_aload_n X dL_law_1406 rfl (lv_at hl 1 rfl) ?_
                                                refine wq_aload_n X dL_law_1407 rfl (lv_at hl 0 rfl) ?_
                                                refine lv_iload X.hx X.hb dL_law_1408 (lv_at hl 5 rfl) ?_
                                                refine lv_iconst (v := (1 : Int32)) X.hx X.hb dL_law_1410 (by decide) ?_
                                                refine lv_iadd X.hx X.hb dL_law_1411 ?_
                                                refine wq_li0 X S hv dL_law_1412 (fun x1412 hv => ?_)
                                                refine wq_aload_n X dL_law_1413 rfl (lv_at hl 3 rfl) ?_
                                                refine wq_cS_I X S hv q1648 q1649 q59 ⟨by decide +kernel, by decide +kernel⟩ (nA := 3) (As := [va_rf v1, .int x1412, va_rf v3]) (by decide +kernel) rfl rfl (by simp [wv_rfc, wv_kI, wv_kJ, wv_kF, wv_kD]) hl.1 dL_law_1414 (fun x1414 w1414 H locs cells slots S hv => ?_) (wq_kx X rfl)
                                                refine lv_istore X.hx X.hb (i := 6) (lv' := [(6, .int x1414), (0, va_rf v0), (1, va_rf v1), (2, va_rf v2), (3, va_rf v3), (4, va_rf v4), (5, .int v5)]) dL_law_1417 hl (by decide) (by simp [wv_rfc, wv_kI, wv_kJ, wv_kF, wv_kD]) (fun ls hl => ?_)
                                                refine wq_aload_n X dL_law_1419 rfl (lv_at hl 3 rfl) ?_
                                                refine wq_aload_n X dL_law_1420 rfl (lv_at hl 1 rfl) ?_
                                                refine lv_iload X.hx X.hb dL_law_1421 (lv_at hl 6 rfl) ?_
                                                refine lv_iconst (v := (1 : Int32)) X.hx X.hb dL_law_1423 (by decide) ?_
                                                refine lv_iadd X.hx X.hb dL_law_1424 ?_
                                                refine wq_li0 X S hv dL_law_1425 (fun x1425 hv => ?_)
                                                refine wq_cV_I X S hv q2509 q2510 q2511 q66 ⟨by decide +kernel, by decide +kernel⟩ (nA := 1) (As := [.int x1425]) (by decide +kernel) rfl rfl (by simp [wv_rfc, wv_kI, wv_kJ, wv_kF, wv_kD]) hl.1 dL_law_1426 (fun x1426 w1426 H locs cells slots S hv => ?_) (wq_kx X rfl)
                                                refine lv_istore X.hx X.hb (i := 7) (lv' := [(7, .int x1426), (6, .int x1414), (0, va_rf v0), (1, va_rf v1), (2, va_rf v2), (3, va_rf v3), (4, va_rf v4), (5, .int v5)]) dL_law_1429 hl (by decide) (by simp [wv_rfc, wv_kI, wv_kJ, wv_kF, wv_kD]) (fun ls hl => ?_)
                                                refine wq_aload_n X dL_law_1431 rfl (lv_at hl 4 rfl) ?_
                                                refine wq_cV_I X S hv q1863 q1864 q1865 q66 ⟨by decide +kernel, by decide +kernel⟩ (nA := 0) (As := []) (by decide +kernel) rfl rfl (by simp [wv_rfc, wv_kI, wv_kJ, wv_kF, wv_kD]) hl.1 dL_law_1432 (fun x1432 w1432 H locs cells slots S hv => ?_) (wq_kx X rfl)
                                                refine lv_iload X.hx X.hb dL_law_1435 (lv_at hl 1 rfl) ?_
                                                refine lv_icmp_eq (tgt := 1442) X.hx X.hb dL_law_1437 (by decide) (fun c1437 => ?_) (fun c1437 => ?_)
                                                · have hv := hv.1 c1437
                                                  refine lv_iload X.hx X.hb dL_law_1442 (lv_at hl 1 rfl) ?_
                                                  refine lv_if_ne (tgt := 1459) X.hx X.hb dL_law_1444 (by decide) (fun c1444 => ?_) (fun c1444 => ?_)
                                                  · have hv := hv.1 c1444
                                                    refine lv_goto (tgt := 1734) X.hx X.hb dL_law_1459 (by decide) ?_
                                                    exact wk_L_law_1734 X hK28 hv H locs cells slots ls S (lv_sub hl [2, 3, 4, 5, 6, 7] rfl)
                                                  · have hv := hv.2 c1444
                                                    refine wq_aload_n X dL_law_1447 rfl (lv_at hl 5 rfl) ?_
                                                    refine lv_iconst (v := (0 : Int32)) X.hx X.hb dL_law_1448 (by decide) ?_
                                                    refine wq_ll X S hv dL_law_1449 (fun x1449 hv => ?_)
                                                    refine lv_iload X.hx X.hb dL_law_1450 (lv_at hl 0 rfl) ?_
                                                    refine lv_i2l X.hx X.hb dL_law_1452 rfl ?_
                                                    refine W.lcmp X.hx X.hb dL_law_1453 ?_
                                                    refine lv_if_eq (tgt := 1459) X.hx X.hb dL_law_1454 (by decide) (fun c1454 => ?_) (fun c1454 => ?_)
                                                    · have hv := hv.1 c1454
                                                      refine lv_goto (tgt := 1734) X.hx X.hb dL_law_1459 (by decide) ?_
                                                      exact wk_L_law_1734 X hK28 hv H locs cells slots ls S (lv_sub hl [2, 3, 4, 5, 6, 7] rfl)
                                                    · have hv := hv.2 c1454
                                                      refine lv_iconst (v := (0 : Int32)) X.hx X.hb dL_law_1457 (by decide) ?_
                                                      exact wr_iret X S hv.1 hv.2 dL_law_1458
                                                · have hv := hv.2 c1437
                                                  refine lv_iconst (v := (0 : Int32)) X.hx X.hb dL_law_1440 (by decide) ?_
                                                  exact wr_iret X S hv.1 hv.2 dL_law_1441
                                              · have hv := hv.2 h45_21
                                                by_cases h45_22 : (x41 &&& (31 : Int32)) = (22 : Int32)
                                                · have hv := hv.1 h45_22
                                                  refine lv_tableIn (tgt := 1462) (off := 1417) X.hx X.hb dL_law_45 (by rw [h45_22]; decide) (by rw [h45_22]; decide) (by rw [h45_22]; decide) (by decide) ?_
                                                  refine wq_aload_n X dL_law_1462 rfl (lv_at hl 1 rfl) ?_
                                                  refine wq_aload_n X dL_law_1463 rfl (lv_at hl 0 rfl) ?_
                                                  refine lv_iload X.hx X.hb dL_law_1464 (lv_at hl 5 rfl) ?_
                                                  refine lv_iconst (v := (1 : Int32)) X.hx X.hb dL_law_1466 (by decide) ?_
                                                  refine lv_iadd X.hx X.hb dL_law_1467 ?_
                                                  refine wq_li0 X S hv dL_law_1468 (fun x1468 hv => ?_)
                                                  refine wq_aload_n X dL_law_1469 rfl (lv_at hl 3 rfl) ?_
                                                  refine wq_cS_I X S hv q1655 q1656 q59 ⟨by decide +kernel, by decide +kernel⟩ (nA := 3) (As := [va_rf v1, .int x1468, va_rf v3]) (by decide +kernel) rfl rfl (by simp [wv_rfc, wv_kI, wv_kJ, wv_kF, wv_kD]) hl.1 dL_law_1470 (fun x1470 w1470 H locs cells slots S hv => ?_) (wq_kx X rfl)
                                                  refine lv_istore X.hx X.hb (i := 6) (lv' := [(6, .int x1470), (0, va_rf v0), (1, va_rf v1), (2, va_rf v2), (3, va_rf v3), (4, va_rf v4), (5, .int v5)]) dL_law_1473 hl (by decide) (by simp [wv_rfc, wv_kI, wv_kJ, wv_kF, wv_kD]) (fun ls hl => ?_)
                                                  refine wq_aload_n X dL_law_1475 rfl (lv_at hl 3 rfl) ?_
                                                  refine wq_aload_n X dL_law_1476 rfl (lv_at hl 1 rfl) ?_
                                                  refine lv_iload X.hx X.hb dL_law_1477 (lv_at hl 6 rfl) ?_
                                                  refine lv_iconst (v := (1 : Int32)) X.hx X.hb dL_law_1479 (by decide) ?_
                                                  refine lv_iadd X.hx X.hb dL_law_1480 ?_
                                                  refine wq_li0 X S hv dL_law_1481 (fun x1481 hv => ?_)
                                                  refine wq_cV_I X S hv q2517 q2518 q2519 q66 ⟨by decide +kernel, by decide +kernel⟩ (nA := 1) (As := [.int x1481]) (by decide +kernel) rfl rfl (by simp [wv_rfc, wv_kI, wv_kJ, wv_kF, wv_kD]) hl.1 dL_law_1482 (fun x1482 w1482 H locs cells slots S hv => ?_) (wq_kx X rfl)
                                                  refine lv_istore X.hx X.hb (i := 7) (lv' := [(7, .int x1482), (6, .int x1470), (0, va_rf v0), (1, va_rf v1), (2, va_rf v2), (3, va_rf v3), (4, va_rf v4), (5, .int v5)]) dL_law_1485 hl (by decide) (by simp [wv_rfc, wv_kI, wv_kJ, wv_kF, wv_kD]) (fun ls hl => ?_)
                                                  refine wq_aload_n X dL_law_1487 rfl (lv_at hl 4 rfl) ?_
                                                  refine wq_cV_I X S hv q1863 q1864 q1865 q66 ⟨by decide +kernel, by decide +kernel⟩ (nA := 0) (As := []) (by decide +kernel) rfl rfl (by simp [wv_rfc, wv_kI, wv_kJ, wv_kF, wv_kD]) hl.1 dL_law_1488 (fun x1488 w1488 H locs cells slots S hv => ?_) (wq_kx X rfl)
                                                  refine lv_iload X.hx X.hb dL_law_1491 (lv_at hl 1 rfl) ?_
                                                  refine lv_icmp_eq (tgt := 1498) X.hx X.hb dL_law_1493 (by decide) (fun c1493 => ?_) (fun c1493 => ?_)
                                                  · have hv := hv.1 c1493
                                                    refine lv_iload X.hx X.hb dL_law_1498 (lv_at hl 1 rfl) ?_
                                                    refine lv_if_ne (tgt := 1515) X.hx X.hb dL_law_1500 (by decide) (fun c1500 => ?_) (fun c1500 => ?_)
                                                    · have hv := hv.1 c1500
                                                      refine lv_goto (tgt := 1734) X.hx X.hb dL_law_1515 (by decide) ?_
                                                      exact wk_L_law_1734 X hK28 hv H locs cells slots ls S (lv_sub hl [2, 3, 4, 5, 6, 7] rfl)
                                                    · have hv := hv.2 c1500
                                                      refine wq_aload_n X dL_law_1503 rfl (lv_at hl 5 rfl) ?_
                                                      refine lv_iconst (v := (0 : Int32)) X.hx X.hb dL_law_1504 (by decide) ?_
                                                      refine wq_ll X S hv dL_law_1505 (fun x1505 hv => ?_)
                                                      refine lv_iload X.hx X.hb dL_law_1506 (lv_at hl 0 rfl) ?_
                                                      refine lv_i2l X.hx X.hb dL_law_1508 rfl ?_
                                                      refine W.lcmp X.hx X.hb dL_law_1509 ?_
                                                      refine lv_if_eq (tgt := 1515) X.hx X.hb dL_law_1510 (by decide) (fun c1510 => ?_) (fun c1510 => ?_)
                                                      · have hv := hv.1 c1510
                                                        refine lv_goto (tgt := 1734) X.hx X.hb dL_law_1515 (by decide) ?_
                                                        exact wk_L_law_1734 X hK28 hv H locs cells slots ls S (lv_sub hl [2, 3, 4, 5, 6, 7] rfl)
                                                      · have hv := hv.2 c1510
                                                        refine lv_iconst (v := (0 : Int32)) X.hx X.hb dL_law_1513 (by decide) ?_
                                                        exact wr_iret X S hv.1 hv.2 dL_law_1514
                                                  · have hv := hv.2 c1493
                                                    refine lv_iconst (v := (0 : Int32)) X.hx X.hb dL_law_1496 (by decide) ?_
                                                    exact wr_iret X S hv.1 hv.2 dL_law_1497
                                                · have hv := hv.2 h45_22
                                                  by_cases h45_23 : (x41 &&& (31 : Int32)) = (23 : Int32)
                                                  · have hv := hv.1 h45_23
                                                    refine lv_tableIn (tgt := 1518) (off := 1473) X.hx X.hb dL_law_45 (by rw [h45_23]; decide) (by rw [h45_23]; decide) (by rw [h45_23]; decide) (by decide) ?_
                                                    refine wq_aload_n X dL_law_1518 rfl (lv_at hl 1 rfl) ?_
                                                    refine wq_cV_J X S hv q930 q931 q932 q60 ⟨by decide +kernel, by decide +kernel⟩ (nA := 0) (As := []) (by decide +kernel) rfl rfl (by simp [wv_rfc, wv_kI, wv_kJ, wv_kF, wv_kD]) hl.1 dL_law_1519 (fun x1519 w1519 H locs cells slots S hv => ?_) (wq_kx X rfl)
                                                    refine wq_aload_n X dL_law_1522 rfl (lv_at hl 2 rfl) ?_
                                                    refine wq_cV_J X S hv q2525 q2526 q2527 q66 ⟨by decide +kernel, by decide +kernel⟩ (nA := 0) (As := []) (by decide +kernel) rfl rfl (by simp [wv_rfc, wv_kI, wv_kJ, wv_kF, wv_kD]) hl.1 dL_law_1523 (fun x1523 w1523 H locs cells slots S hv => ?_) (wq_kx X rfl)
                                                    refine W.lcmp X.hx X.hb dL_law_1526 ?_
                                                    refine lv_if_eq (tgt := 1734) X.hx X.hb dL_law_1527 (by decide) (fun c1527 => ?_) (fun c1527 => ?_)
                                                    · have hv := hv.1 c1527
                                                      exact wk_L_law_1734 X hK28 hv H locs cells slots ls S (lv_sub hl [0, 1, 2, 3, 4, 5] rfl)
                                                    · have hv := hv.2 c1527
                                                      refine lv_iconst (v := (0 : Int32)) X.hx X.hb dL_law_1530 (by decide) ?_
                                                      exact wr_iret X S hv.1 hv.2 dL_law_1531
                                                  · have hv := hv.2 h45_23
                                                    by_cases h45_24 : (x41 &&& (31 : Int32)) = (24 : Int32)
                                                    · have hv := hv.1 h45_24
                                                      refine lv_tableIn (tgt := 1532) (off := 1487) X.hx X.hb dL_law_45 (by rw [h45_24]; decide) (by rw [h45_24]; decide) (by rw [h45_24]; decide) (by decide) ?_
                                                      refine wq_aload_n X dL_law_1532 rfl (lv_at hl 1 rfl) ?_
                                                      refine wq_aload_n X dL_law_1533 rfl (lv_at hl 0 rfl) ?_
                                                      refine lv_iload X.hx X.hb dL_law_1534 (lv_at hl 5 rfl) ?_
                                                      refine lv_iconst (v := (1 : Int32)) X.hx X.hb dL_law_1536 (by decide) ?_
                                                      refine lv_iadd X.hx X.hb dL_law_1537 ?_
                                                      refine wq_li0 X S hv dL_law_1538 (fun x1538 hv => ?_)
                                                      refine lv_i2c X.hx X.hb dL_law_1539 rfl ?_
                                                      refine wq_aload_n X dL_law_1540 rfl (lv_at hl 3 rfl) ?_
                                                      refine wq_cS_I X S hv q1662 q1663 q59 ⟨by decide +kernel, by decide +kernel⟩ (nA := 3) (As := [va_rf v1, .int ((Int32.toUInt32 x1538 % 65536).toInt32), va_rf v3]) (by decide +kernel) rfl rfl (by simp [wv_rfc, wv_kI, wv_kJ, wv_kF, wv_kD]) hl.1 dL_law_1541 (fun x1541 w1541 H locs cells slots S hv => ?_) (wq_kx X rfl)
                                                      refine lv_istore X.hx X.hb (i := 6) (lv' := [(6, .int x1541), (0, va_rf v0), (1, va_rf v1), (2, va_rf v2), (3, va_rf v3), (4, va_rf v4), (5, .int v5)]) dL_law_1544 hl (by decide) (by simp [wv_rfc, wv_kI, wv_kJ, wv_kF, wv_kD]) (fun ls hl => ?_)
                                                      refine wq_aload_n X dL_law_1546 rfl (lv_at hl 3 rfl) ?_
                                                      refine wq_aload_n X dL_law_1547 rfl (lv_at hl 1 rfl) ?_
                                                      refine lv_iload X.hx X.hb dL_law_1548 (lv_at hl 6 rfl) ?_
                                                      refine lv_iconst (v := (1 : Int32)) X.hx X.hb dL_law_1550 (by decide) ?_
                                                      refine lv_iadd X.hx X.hb dL_law_1551 ?_
                                                      refine wq_li0 X S hv dL_law_1552 (fun x1552 hv => ?_)
                                                      refine lv_i2c X.hx X.hb dL_law_1553 rfl ?_
                                                      refine wq_cV_I X S hv q2530 q2531 q2532 q66 ⟨by decide +kernel, by decide +kernel⟩ (nA := 1) (As := [.int ((Int32.toUInt32 x1552 % 65536).toInt32)]) (by decide +kernel) rfl rfl (by simp [wv_rfc, wv_kI, wv_kJ, wv_kF, wv_kD]) hl.1 dL_law_1554 (fun x1554 w1554 H locs cells slots S hv => ?_) (wq_kx X rfl)
                                                      refine lv_istore X.hx X.hb (i := 7) (lv' := [(7, .int x1554), (6, .int x1541), (0, va_rf v0), (1, va_rf v1), (2, va_rf v2), (3, va_rf v3), (4, va_rf v4), (5, .int v5)]) dL_law_1557 hl (by decide) (by simp [wv_rfc, wv_kI, wv_kJ, wv_kF, wv_kD]) (fun ls hl => ?_)
                                                      refine wq_aload_n X dL_law_1559 rfl (lv_at hl 4 rfl) ?_
                                                      refine wq_cV_I X S hv q1863 q1864 q1865 q66 ⟨by decide +kernel, by decide +kernel⟩ (nA := 0) (As := []) (by decide +kernel) rfl rfl (by simp [wv_rfc, wv_kI, wv_kJ, wv_kF, wv_kD]) hl.1 dL_law_1560 (fun x1560 w1560 H locs cells slots S hv => ?_) (wq_kx X rfl)
                                                      refine lv_iload X.hx X.hb dL_law_1563 (lv_at hl 1 rfl) ?_
                                                      refine lv_icmp_eq (tgt := 1570) X.hx X.hb dL_law_1565 (by decide) (fun c1565 => ?_) (fun c1565 => ?_)
                                                      · have hv := hv.1 c1565
                                                        refine lv_iload X.hx X.hb dL_law_1570 (lv_at hl 1 rfl) ?_
                                                        refine lv_if_ne (tgt := 1587) X.hx X.hb dL_law_1572 (by decide) (fun c1572 => ?_) (fun c1572 => ?_)
                                                        · have hv := hv.1 c1572
                                                          refine lv_goto (tgt := 1734) X.hx X.hb dL_law_1587 (by decide) ?_
                                                          exact wk_L_law_1734 X hK28 hv H locs cells slots ls S (lv_sub hl [2, 3, 4, 5, 6, 7] rfl)
                                                        · have hv := hv.2 c1572
                                                          refine wq_aload_n X dL_law_1575 rfl (lv_at hl 5 rfl) ?_
                                                          refine lv_iconst (v := (0 : Int32)) X.hx X.hb dL_law_1576 (by decide) ?_
                                                          refine wq_ll X S hv dL_law_1577 (fun x1577 hv => ?_)
                                                          refine lv_iload X.hx X.hb dL_law_1578 (lv_at hl 0 rfl) ?_
                                                          refine lv_i2l X.hx X.hb dL_law_1580 rfl ?_
                                                          refine W.lcmp X.hx X.hb dL_law_1581 ?_
                                                          refine lv_if_eq (tgt := 1587) X.hx X.hb dL_law_1582 (by decide) (fun c1582 => ?_) (fun c1582 => ?_)
                                                          · have hv := hv.1 c1582
                                                            refine lv_goto (tgt := 1734) X.hx X.hb dL_law_1587 (by decide) ?_
                                                            exact wk_L_law_1734 X hK28 hv H locs cells slots ls S (lv_sub hl [2, 3, 4, 5, 6, 7] rfl)
                                                          · have hv := hv.2 c1582
                                                            refine lv_iconst (v := (0 : Int32)) X.hx X.hb dL_law_1585 (by decide) ?_
                                                            exact wr_iret X S hv.1 hv.2 dL_law_1586
                                                      · have hv := hv.2 c1565
                                                        refine lv_iconst (v := (0 : Int32)) X.hx X.hb dL_law_1568 (by decide) ?_
                                                        exact wr_iret X S hv.1 hv.2 dL_law_1569
                                                    · have hv := hv.2 h45_24
                                                      by_cases h45_25 : (x41 &&& (31 : Int32)) = (25 : Int32)
                                                      · have hv := hv.1 h45_25
                                                        refine lv_tableIn (tgt := 1590) (off := 1545) X.hx X.hb dL_law_45 (by rw [h45_25]; decide) (by rw [h45_25]; decide) (by rw [h45_25]; decide) (by decide) ?_
                                                        refine wq_aload_n X dL_law_1590 rfl (lv_at hl 1 rfl) ?_
                                                        refine wq_aload X dL_law_1591 (lv_at hl 4 rfl) ?_
                                                        refine wq_cS_I X S hv q1725 q1726 q59 ⟨by decide +kernel, by decide +kernel⟩ (nA := 2) (As := [va_rf v1, va_rf v4]) (by decide +kernel) rfl rfl (by simp [wv_rfc, wv_kI, wv_kJ, wv_kF, wv_kD]) hl.1 dL_law_1593 (fun x1593 w1593 H locs cells slots S hv => ?_) (wq_kx X rfl)
                                                        refine lv_istore X.hx X.hb (i := 6) (lv' := [(6, .int x1593), (0, va_rf v0), (1, va_rf v1), (2, va_rf v2), (3, va_rf v3), (4, va_rf v4), (5, .int v5)]) dL_law_1596 hl (by decide) (by simp [wv_rfc, wv_kI, wv_kJ, wv_kF, wv_kD]) (fun ls hl => ?_)
                                                        refine wq_aload_n X dL_law_1598 rfl (lv_at hl 3 rfl) ?_
                                                        refine wq_cV_F X S hv q2534 q2535 q2536 q66 ⟨by decide +kernel, by decide +kernel⟩ (nA := 0) (As := []) (by decide +kernel) rfl rfl (by simp [wv_rfc, wv_kI, wv_kJ, wv_kF, wv_kD]) hl.1 dL_law_1599 (fun x1599 w1599 H locs cells slots S hv => ?_) (wq_kx X rfl)
                                                        refine lv_fstore X.hx X.hb (i := 7) (lv' := [(7, .float x1599), (6, .int x1593), (0, va_rf v0), (1, va_rf v1), (2, va_rf v2), (3, va_rf v3), (4, va_rf v4), (5, .int v5)]) dL_law_1602 hl (by decide) (by simp [wv_rfc, wv_kI, wv_kJ, wv_kF, wv_kD]) (fun ls hl => ?_)
                                                        refine wq_aload_n X dL_law_1604 rfl (lv_at hl 4 rfl) ?_
                                                        refine wq_cV_I X S hv q1863 q1864 q1865 q66 ⟨by decide +kernel, by decide +kernel⟩ (nA := 0) (As := []) (by decide +kernel) rfl rfl (by simp [wv_rfc, wv_kI, wv_kJ, wv_kF, wv_kD]) hl.1 dL_law_1605 (fun x1605 w1605 H locs cells slots S hv => ?_) (wq_kx X rfl)
                                                        refine lv_iload X.hx X.hb dL_law_1608 (lv_at hl 1 rfl) ?_
                                                        refine lv_icmp_eq (tgt := 1615) X.hx X.hb dL_law_1610 (by decide) (fun c1610 => ?_) (fun c1610 => ?_)
                                                        · have hv := hv.1 c1610
                                                          refine lv_iload X.hx X.hb dL_law_1615 (lv_at hl 1 rfl) ?_
                                                          refine lv_if_ne (tgt := 1653) X.hx X.hb dL_law_1617 (by decide) (fun c1617 => ?_) (fun c1617 => ?_)
                                                          · have hv := hv.1 c1617
                                                            refine lv_goto (tgt := 1734) X.hx X.hb dL_law_1653 (by decide) ?_
                                                            exact wk_L_law_1734 X hK28 hv H locs cells slots ls S (lv_sub hl [2, 3, 4, 5, 6, 7] rfl)
                                                          · have hv := hv.2 c1617
                                                            refine wq_aload X dL_law_1620 (lv_at hl 6 rfl) ?_
                                                            refine lv_iconst (v := (0 : Int32)) X.hx X.hb dL_law_1622 (by decide) ?_
                                                            refine wq_ld X S hv dL_law_1623 (fun x1623 hv => ?_)
                                                            refine lv_fload X.hx X.hb dL_law_1624 (lv_at hl 0 rfl) ?_
                                                            refine lv_f2d X.hx X.hb dL_law_1626 hv.1 ?_
                                                            have hv := hv.2
                                                            refine lv_dcmp X.hx X.hb dL_law_1627 ?_
                                                            refine lv_if_eq (tgt := 1653) X.hx X.hb dL_law_1628 (by decide) (fun c1628 => ?_) (fun c1628 => ?_)
                                                            · have hv := hv.1 c1628
                                                              refine lv_goto (tgt := 1734) X.hx X.hb dL_law_1653 (by decide) ?_
                                                              exact wk_L_law_1734 X hK28 hv H locs cells slots ls S (lv_sub hl [2, 3, 4, 5, 6, 7] rfl)
                                                            · have hv := hv.2 c1628
                                                              refine wq_aload X dL_law_1631 (lv_at hl 6 rfl) ?_
                                                              refine lv_iconst (v := (0 : Int32)) X.hx X.hb dL_law_1633 (by decide) ?_
                                                              refine wq_ld X S hv dL_law_1634 (fun x1634 hv => ?_)
                                                              refine wq_aload X dL_law_1635 (lv_at hl 6 rfl) ?_
                                                              refine lv_iconst (v := (0 : Int32)) X.hx X.hb dL_law_1637 (by decide) ?_
                                                              refine wq_ld X S hv dL_law_1638 (fun x1638 hv => ?_)
                                                              refine lv_dcmp X.hx X.hb dL_law_1639 ?_
                                                              refine lv_if_eq (tgt := 1651) X.hx X.hb dL_law_1640 (by decide) (fun c1640 => ?_) (fun c1640 => ?_)
                                                              · have hv := hv.1 c1640
                                                                refine lv_iconst (v := (0 : Int32)) X.hx X.hb dL_law_1651 (by decide) ?_
                                                                exact wr_iret X S hv.1 hv.2 dL_law_1652
                                                              · have hv := hv.2 c1640
                                                                refine lv_fload X.hx X.hb dL_law_1643 (lv_at hl 0 rfl) ?_
                                                                refine lv_fload X.hx X.hb dL_law_1645 (lv_at hl 0 rfl) ?_
                                                                refine lv_fcmp X.hx X.hb dL_law_1647 ?_
                                                                refine lv_if_ne (tgt := 1653) X.hx X.hb dL_law_1648 (by decide) (fun c1648 => ?_) (fun c1648 => ?_)
                                                                · have hv := hv.1 c1648
                                                                  refine lv_goto (tgt := 1734) X.hx X.hb dL_law_1653 (by decide) ?_
                                                                  exact wk_L_law_1734 X hK28 hv H locs cells slots ls S (lv_sub hl [2, 3, 4, 5, 6, 7] rfl)
                                                                · have hv := hv.2 c1648
                                                                  refine lv_iconst (v := (0 : Int32)) X.hx X.hb dL_law_1651 (by decide) ?_
                                                                  exact wr_iret X S hv.1 hv.2 dL_law_1652
                                                        · have hv := hv.2 c1610
                                                          refine lv_iconst (v := (0 : Int32)) X.hx X.hb dL_law_1613 (by decide) ?_
                                                          exact wr_iret X S hv.1 hv.2 dL_law_1614
                                                      · have hv := hv.2 h45_25
                                                        by_cases h45_26 : (x41 &&& (31 : Int32)) = (26 : Int32)
                                                        · have hv := hv.1 h45_26
                                                          refine lv_tableIn (tgt := 1656) (off := 1611) X.hx X.hb dL_law_45 (by rw [h45_26]; decide) (by rw [h45_26]; decide) (by rw [h45_26]; decide) (by decide) ?_
                                                          refine wq_aload_n X dL_law_1656 rfl (lv_at hl 1 rfl) ?_
                                                          refine wq_aload X dL_law_1657 (lv_at hl 4 rfl) ?_
                                                          refine wq_cS_I X S hv q1751 q1752 q59 ⟨by decide +kernel, by decide +kernel⟩ (nA := 2) (As := [va_rf v1, va_rf v4]) (by decide +kernel) rfl rfl (by simp [wv_rfc, wv_kI, wv_kJ, wv_kF, wv_kD]) hl.1 dL_law_1659 (fun x1659 w1659 H locs cells slots S hv => ?_) (wq_kx X rfl)
                                                          refine lv_istore X.hx X.hb (i := 6) (lv' := [(6, .int x1659), (0, va_rf v0), (1, va_rf v1), (2, va_rf v2), (3, va_rf v3), (4, va_rf v4), (5, .int v5)]) dL_law_1662 hl (by decide) (by simp [wv_rfc, wv_kI, wv_kJ, wv_kF, wv_kD]) (fun ls hl => ?_)
                                                          refine wq_aload_n X dL_law_1664 rfl (lv_at hl 3 rfl) ?_
                                                          refine wq_cV_D X S hv q2538 q2539 q2540 q66 ⟨by decide +kernel, by decide +kernel⟩ (nA := 0) (As := []) (by decide +kernel) rfl rfl (by simp [wv_rfc, wv_kI, wv_kJ, wv_kF, wv_kD]) hl.1 dL_law_1665 (fun x1665 w1665 H locs cells slots S hv => ?_) (wq_kx X rfl)
                                                          refine lv_dstore X.hx X.hb (i := 7) (lv' := [(7, .double x1665), (6, .int x1659), (0, va_rf v0), (1, va_rf v1), (2, va_rf v2), (3, va_rf v3), (4, va_rf v4), (5, .int v5)]) dL_law_1668 hl (by decide) (by simp [wv_rfc, wv_kI, wv_kJ, wv_kF, wv_kD]) (fun ls hl => ?_)
                                                          refine wq_aload_n X dL_law_1670 rfl (lv_at hl 4 rfl) ?_
                                                          refine wq_cV_I X S hv q1863 q1864 q1865 q66 ⟨by decide +kernel, by decide +kernel⟩ (nA := 0) (As := []) (by decide +kernel) rfl rfl (by simp [wv_rfc, wv_kI, wv_kJ, wv_kF, wv_kD]) hl.1 dL_law_1671 (fun x1671 w1671 H locs cells slots S hv => ?_) (wq_kx X rfl)
                                                          refine lv_iload X.hx X.hb dL_law_1674 (lv_at hl 1 rfl) ?_
                                                          refine lv_icmp_eq (tgt := 1681) X.hx X.hb dL_law_1676 (by decide) (fun c1676 => ?_) (fun c1676 => ?_)
                                                          · have hv := hv.1 c1676
                                                            refine lv_iload X.hx X.hb dL_law_1681 (lv_at hl 1 rfl) ?_
                                                            refine lv_if_ne (tgt := 1718) X.hx X.hb dL_law_1683 (by decide) (fun c1683 => ?_) (fun c1683 => ?_)
                                                            · have hv := hv.1 c1683
                                                              refine lv_goto (tgt := 1734) X.hx X.hb dL_law_1718 (by decide) ?_
                                                              exact wk_L_law_1734 X hK28 hv H locs cells slots ls S (lv_sub hl [2, 3, 4, 5, 6, 7] rfl)
                                                            · have hv := hv.2 c1683
                                                              refine wq_aload X dL_law_1686 (lv_at hl 6 rfl) ?_
                                                              refine lv_iconst (v := (0 : Int32)) X.hx X.hb dL_law_1688 (by decide) ?_
                                                              refine wq_ld X S hv dL_law_1689 (fun x1689 hv => ?_)
                                                              refine lv_dload X.hx X.hb dL_law_1690 (lv_at hl 0 rfl) ?_
                                                              refine lv_dcmp X.hx X.hb dL_law_1692 ?_
                                                              refine lv_if_eq (tgt := 1718) X.hx X.hb dL_law_1693 (by decide) (fun c1693 => ?_) (fun c1693 => ?_)
                                                              · have hv := hv.1 c1693
                                                                refine lv_goto (tgt := 1734) X.hx X.hb dL_law_1718 (by decide) ?_
                                                                exact wk_L_law_1734 X hK28 hv H locs cells slots ls S (lv_sub hl [2, 3, 4, 5, 6, 7] rfl)
                                                              · have hv := hv.2 c1693
                                                                refine wq_aload X dL_law_1696 (lv_at hl 6 rfl) ?_
                                                                refine lv_iconst (v := (0 : Int32)) X.hx X.hb dL_law_1698 (by decide) ?_
                                                                refine wq_ld X S hv dL_law_1699 (fun x1699 hv => ?_)
                                                                refine wq_aload X dL_law_1700 (lv_at hl 6 rfl) ?_
                                                                refine lv_iconst (v := (0 : Int32)) X.hx X.hb dL_law_1702 (by decide) ?_
                                                                refine wq_ld X S hv dL_law_1703 (fun x1703 hv => ?_)
                                                                refine lv_dcmp X.hx X.hb dL_law_1704 ?_
                                                                refine lv_if_eq (tgt := 1716) X.hx X.hb dL_law_1705 (by decide) (fun c1705 => ?_) (fun c1705 => ?_)
                                                                · have hv := hv.1 c1705
                                                                  refine lv_iconst (v := (0 : Int32)) X.hx X.hb dL_law_1716 (by decide) ?_
                                                                  exact wr_iret X S hv.1 hv.2 dL_law_1717
                                                                · have hv := hv.2 c1705
                                                                  refine lv_dload X.hx X.hb dL_law_1708 (lv_at hl 0 rfl) ?_
                                                                  refine lv_dload X.hx X.hb dL_law_1710 (lv_at hl 0 rfl) ?_
                                                                  refine lv_dcmp X.hx X.hb dL_law_1712 ?_
                                                                  refine lv_if_ne (tgt := 1718) X.hx X.hb dL_law_1713 (by decide) (fun c1713 => ?_) (fun c1713 => ?_)
                                                                  · have hv := hv.1 c1713
                                                                    refine lv_goto (tgt := 1734) X.hx X.hb dL_law_1718 (by decide) ?_
                                                                    exact wk_L_law_1734 X hK28 hv H locs cells slots ls S (lv_sub hl [2, 3, 4, 5, 6, 7] rfl)
                                                                  · have hv := hv.2 c1713
                                                                    refine lv_iconst (v := (0 : Int32)) X.hx X.hb dL_law_1716 (by decide) ?_
                                                                    exact wr_iret X S hv.1 hv.2 dL_law_1717
                                                          · have hv := hv.2 c1676
                                                            refine lv_iconst (v := (0 : Int32)) X.hx X.hb dL_law_1679 (by decide) ?_
                                                            exact wr_iret X S hv.1 hv.2 dL_law_1680
                                                        · have hv := hv.2 h45_26
                                                          by_cases h45_27 : (x41 &&& (31 : Int32)) = (27 : Int32)
                                                          · have hv := hv.1 h45_27
                                                            refine lv_tableIn (tgt := 1721) (off := 1676) X.hx X.hb dL_law_45 (by rw [h45_27]; decide) (by rw [h45_27]; decide) (by rw [h45_27]; decide) (by decide) ?_
                                                            refine wq_aload_n X dL_law_1721 rfl (lv_at hl 1 rfl) ?_
                                                            refine wq_cV_I X S hv q935 q936 q937 q60 ⟨by decide +kernel, by decide +kernel⟩ (nA := 0) (As := []) (by decide +kernel) rfl rfl (by simp [wv_rfc, wv_kI, wv_kJ, wv_kF, wv_kD]) hl.1 dL_law_1722 (fun x1722 w1722 H locs cells slots S hv => ?_) (wq_kx X rfl)
                                                            refine wq_aload_n X dL_law_1725 rfl (lv_at hl 2 rfl) ?_
                                                            refine wq_cV_I X S hv q2542 q2543 q2544 q66 ⟨by decide +kernel, by decide +kernel⟩ (nA := 0) (As := []) (by decide +kernel) rfl rfl (by simp [wv_rfc, wv_kI, wv_kJ, wv_kF, wv_kD]) hl.1 dL_law_1726 (fun x1726 w1726 H locs cells slots S hv => ?_) (wq_kx X rfl)
                                                            refine lv_icmp_eq (tgt := 1734) X.hx X.hb dL_law_1729 (by decide) (fun c1729 => ?_) (fun c1729 => ?_)
                                                            · have hv := hv.1 c1729
                                                              exact wk_L_law_1734 X hK28 hv H locs cells slots ls S (lv_sub hl [0, 1, 2, 3, 4, 5] rfl)
                                                            · have hv := hv.2 c1729
                                                              refine lv_iconst (v := (0 : Int32)) X.hx X.hb dL_law_1732 (by decide) ?_
                                                              exact wr_iret X S hv.1 hv.2 dL_law_1733
                                                          · have hv := hv.2 h45_27
                                                            refine lv_tableOut (tgt := 1734) X.hx X.hb dL_law_45 (by have n0 := lv_neT h45_0 (a := 0) (by decide); have n1 := lv_neT h45_1 (a := 1) (by decide); have n2 := lv_neT h45_2 (a := 2) (by decide); have n3 := lv_neT h45_3 (a := 3) (by decide); have n4 := lv_neT h45_4 (a := 4) (by decide); have n5 := lv_neT h45_5 (a := 5) (by decide); have n6 := lv_neT h45_6 (a := 6) (by decide); have n7 := lv_neT h45_7 (a := 7) (by decide); have n8 := lv_neT h45_8 (a := 8) (by decide); have n9 := lv_neT h45_9 (a := 9) (by decide); have n10 := lv_neT h45_10 (a := 10) (by decide); have n11 := lv_neT h45_11 (a := 11) (by decide); have n12 := lv_neT h45_12 (a := 12) (by decide); have n13 := lv_neT h45_13 (a := 13) (by decide); have n14 := lv_neT h45_14 (a := 14) (by decide); have n15 := lv_neT h45_15 (a := 15) (by decide); have n16 := lv_neT h45_16 (a := 16) (by decide); have n17 := lv_neT h45_17 (a := 17) (by decide); have n18 := lv_neT h45_18 (a := 18) (by decide); have n19 := lv_neT h45_19 (a := 19) (by decide); have n20 := lv_neT h45_20 (a := 20) (by decide); have n21 := lv_neT h45_21 (a := 21) (by decide); have n22 := lv_neT h45_22 (a := 22) (by decide); have n23 := lv_neT h45_23 (a := 23) (by decide); have n24 := lv_neT h45_24 (a := 24) (by decide); have n25 := lv_neT h45_25 (a := 25) (by decide); have n26 := lv_neT h45_26 (a := 26) (by decide); have n27 := lv_neT h45_27 (a := 27) (by decide); omega) (by decide) ?_
                                                            exact wk_L_law_1734 X hK28 hv H locs cells slots ls S (lv_sub hl [0, 1, 2, 3, 4, 5] rfl)
set_option maxHeartbeats 4000000 in
theorem wk_L_law_0 {G : wv_G} {p : Program} {e : Env} {R : Room} {s : State} {m : MethodId} {args : Array Value} {below : List Frame} {meth : Method} {c : Code} {fr : Nat} {P : wv_R → wv_H → Prop} (X : wv_ok G p R s m args meth c fr "WeaversgateLaw" cL_law 9 (Option.some .boolean) "law" []) {v0 : Option Nat} {w : wv_W} (hv : vc_L_law_0 G fr P v0 w) : wv_J G p e R s m args below meth c 9 P w 0 [(0, va_rf v0)] [] := by
  intro H locs cells slots ls S hl
  unfold vc_L_law_0 at hv
  refine wq_new X S hv tyX1 tyX1_ok ccX1 in_X1 q119 q120 q60 (fun j hj => by have hj : j < 7 := hj; rcases (show j = 0 ∨ j = 1 ∨ j = 2 ∨ j = 3 ∨ j = 4 ∨ j = 5 ∨ j = 6 by omega) with rfl | rfl | rfl | rfl | rfl | rfl | rfl <;> rfl) dL_law_0 (fun a0 w0 H cells slots S hv => ?_)
  refine lv_dup X.hx X.hb dL_law_3 (wv_rfc _) ?_
  refine wq_cI_V X S hv rfl q121 q122 q123 q60 ⟨by decide +kernel, by decide +kernel⟩ (nA := 0) (As := []) (by decide +kernel) rfl rfl (by simp [wv_rfc, wv_kI, wv_kJ, wv_kF, wv_kD]) hl.1 dL_law_4 (fun w4 H locs cells slots S hv => ?_) (wq_kx X rfl)
  refine wq_astore_n X (i := 1) (lv' := [(1, va_rf (some a0)), (0, va_rf v0)]) dL_law_7 rfl hl (by decide) (by simp [wv_rfc, wv_kI, wv_kJ, wv_kF, wv_kD]) (fun ls hl => ?_)
  refine wq_new X S hv tyX4 tyX4_ok ccX4 in_X4 q1758 q1759 q66 (fun j hj => by have hj : j < 17 := hj; rcases (show j = 0 ∨ j = 1 ∨ j = 2 ∨ j = 3 ∨ j = 4 ∨ j = 5 ∨ j = 6 ∨ j = 7 ∨ j = 8 ∨ j = 9 ∨ j = 10 ∨ j = 11 ∨ j = 12 ∨ j = 13 ∨ j = 14 ∨ j = 15 ∨ j = 16 by omega) with rfl | rfl | rfl | rfl | rfl | rfl | rfl | rfl | rfl | rfl | rfl | rfl | rfl | rfl | rfl | rfl | rfl <;> rfl) dL_law_8 (fun a8 w8 H cells slots S hv => ?_)
  refine lv_dup X.hx X.hb dL_law_11 (wv_rfc _) ?_
  refine wq_cI_V X S hv rfl q1760 q1761 q1762 q66 ⟨by decide +kernel, by decide +kernel⟩ (nA := 0) (As := []) (by decide +kernel) rfl rfl (by simp [wv_rfc, wv_kI, wv_kJ, wv_kF, wv_kD]) hl.1 dL_law_12 (fun w12 H locs cells slots S hv => ?_) (wq_kx X rfl)
  refine wq_astore_n X (i := 2) (lv' := [(2, va_rf (some a8)), (1, va_rf (some a0)), (0, va_rf v0)]) dL_law_15 rfl hl (by decide) (by simp [wv_rfc, wv_kI, wv_kJ, wv_kF, wv_kD]) (fun ls hl => ?_)
  refine lv_iconst (v := (1 : Int32)) X.hx X.hb dL_law_16 (by decide) ?_
  refine wq_nwl X S hv q2585 dL_law_17 (fun a17 w17 H cells slots S hv => ?_)
  refine wq_astore_n X (i := 3) (lv' := [(3, va_rf (some a17)), (2, va_rf (some a8)), (1, va_rf (some a0)), (0, va_rf v0)]) dL_law_19 rfl hl (by decide) (by simp [wv_rfc, wv_kI, wv_kJ, wv_kF, wv_kD]) (fun ls hl => ?_)
  refine lv_iconst (v := (1 : Int32)) X.hx X.hb dL_law_20 (by decide) ?_
  refine wq_nwd X S hv q2586 dL_law_21 (fun a21 w21 H cells slots S hv => ?_)
  refine wq_astore X (i := 4) (lv' := [(4, va_rf (some a21)), (3, va_rf (some a17)), (2, va_rf (some a8)), (1, va_rf (some a0)), (0, va_rf v0)]) dL_law_23 hl (by decide) (by simp [wv_rfc, wv_kI, wv_kJ, wv_kF, wv_kD]) (fun ls hl => ?_)
  refine lv_iconst (v := (0 : Int32)) X.hx X.hb dL_law_25 (by decide) ?_
  refine lv_istore X.hx X.hb (i := 5) (lv' := [(5, .int (0 : Int32)), (4, va_rf (some a21)), (3, va_rf (some a17)), (2, va_rf (some a8)), (1, va_rf (some a0)), (0, va_rf v0)]) dL_law_26 hl (by decide) (by simp [wv_rfc, wv_kI, wv_kJ, wv_kF, wv_kD]) (fun ls hl => ?_)
  exact wv_loop (A := (Option Nat) × (Option Nat) × (Option Nat) × (Option Nat) × (Option Nat) × Int32) (fun a w => wv_J G p e R s m args below meth c 9 P w 28 [(0, va_rf a.1), (1, va_rf a.2.1), (2, va_rf a.2.2.1), (3, va_rf a.2.2.2.1), (4, va_rf a.2.2.2.2.1), (5, .int a.2.2.2.2.2)] []) (fun K28 hK28 a w hv => wk_L_law_28 X hK28 hv) hv H locs cells slots ls S (lv_sub hl [5, 4, 3, 2, 1, 0] rfl)
