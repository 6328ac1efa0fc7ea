/-! THE COMPONENT: its picture, its classes' contracts -/
section ZC
/-- where the component's objects lie: by what they are and their numbers -/
abbrev zA : Type := Nat → Nat → Nat → Nat
/-- a pattern's object -/
def zin (A : zA) (p : zPt) : wv_O :=
  if p.1 = 110 then wo_o ciX9 [.int p.2.1]
  else if p.1 = 116 then wo_o ciX10 [.int p.2.1, va_rf (some (A 2 0 0))]
  else if p.1 = 119 then wo_o ciX11 [.int p.2.1]
  else if p.1 = 118 then wo_o ciX12 [.int p.2.1]
  else if p.1 = 102 then wo_o ciX13 [va_rf (some (A 11 (zAt p.2.1) 0))]
  else if p.1 = 33 then wo_o ciX16 [va_rf (some (A 11 (zAt p.2.1) 0))]
  else if p.1 = 38 then wo_o ciX15 [.int 1, va_rf (some (A 11 (zAt p.2.1) 0)), va_rf (some (A 11 (zAt p.2.2) 0)), .int 110]
  else if p.1 = 124 then wo_o ciX15 [.int 0, va_rf (some (A 11 (zAt p.2.1) 0)), va_rf (some (A 11 (zAt p.2.2) 0)), .int 121]
  else wo_o ciX17 [.int p.1]
def zbI (b : Bool) : Int32 := if b = true then 1 else 0
/-- the component's objects but runs and places -/
def zCf (G : wv_G) (A : zA) (σ : zS) (h : wv_H) : Prop :=
  h (A 2 0 0) = some ((2, 0, 0, 0), wo_o ciX1 [va_rf (some (A 3 0 0)), va_rf (some (A 10 0 0)), va_rf (some (A 13 0 0)), va_rf (some (A 15 0 0)), va_rf (some (A 51 0 0)), va_rf (some (A 51 1 0)), va_rf (some (A 51 2 0))]) ∧
  zL h (A 3 0 0) (3, 0, 0, 0) ((List.range (zn σ)).map (fun k => A 4 k 0)) ∧
  (∀ k, k < zn σ → h (A 4 k 0) = some ((4, k, 0, 0), wo_o ciX6 [.int (nI k), va_rf ((zpar σ k).map (fun p => A 4 p 0)), va_rf (some (A 5 k 0)), va_rf (some (A 6 k 0))]) ∧
    zL h (A 5 k 0) (5, k, 0, 0) ((List.range 6).map (fun m => A 7 k m)) ∧ zL h (A 6 k 0) (6, k, 0, 0) ((List.range 6).map (fun m => A 58 k m)) ∧
    ∀ m, m < 6 → zL h (A 7 k m) (7, k, m, 0) ((List.range (zbody σ k m).length).map (fun i => A 8 (k * 6 + m) i)) ∧ ∀ i st, (zbody σ k m)[i]? = some st → h (A 8 (k * 6 + m) i) = some ((8, k, m, i), wo_o ciX7 [.int st.1, .int st.2.1, .int st.2.2])) ∧
  zL h (A 10 0 0) (10, 0, 0, 0) ((List.range σ.2.1.length).map (fun n => A 11 n 0)) ∧
  (∀ n p, σ.2.1[n]? = some p → h (A 11 n 0) = some ((11, n, 0, 0), wo_o ciX18 [va_rf (some (A 12 n 0)), .int (nI (2 ^ n))]) ∧ h (A 12 n 0) = some ((12, n, 0, 0), zin A p)) ∧
  zL h (A 13 0 0) (13, 0, 0, 0) ((List.range σ.2.2.1.length).map (fun n => A 14 n 0)) ∧
  (∀ n a, σ.2.2.1[n]? = some a → h (A 14 n 0) = some ((14, n, 0, 0), wo_o ciX19 [.int (nI n), .int (nI a.1), .int a.2.1, va_rf (some (A 11 a.2.2.1 0)), .int a.2.2.2.1, .int (nI a.2.2.2.2.1), .int (zbI a.2.2.2.2.2)])) ∧
  h (A 15 0 0) = some ((15, 0, 0, 0), wo_q (wv_A G 8) 4 (fun j => some (A 15 0 0 + 1 + j))) ∧
  (∀ i, i < 4 → ∃ f, h (A 15 0 0 + 1 + i) = some ((15, 0, 0, 0), wo_i (wv_A G 2) 4 f) ∧ ∀ j, j < 4 → f j = zbI (σ.2.2.2 i j))
variable {G : wv_G} {A : zA} {σ : zS} {h h1 h' : wv_H} {fr kc ks : Nat} {P : wv_R → wv_H → Prop}
theorem zCf.comp (C : zCf G A σ h) : h (A 2 0 0) = some ((2, 0, 0, 0), wo_o ciX1 [va_rf (some (A 3 0 0)), va_rf (some (A 10 0 0)), va_rf (some (A 13 0 0)), va_rf (some (A 15 0 0)), va_rf (some (A 51 0 0)), va_rf (some (A 51 1 0)), va_rf (some (A 51 2 0))]) := C.1
theorem zCf.types (C : zCf G A σ h) : zL h (A 3 0 0) (3, 0, 0, 0) ((List.range (zn σ)).map (fun k => A 4 k 0)) := C.2.1
theorem zCf.type (C : zCf G A σ h) {k : Nat} (hk : k < zn σ) : h (A 4 k 0) = some ((4, k, 0, 0), wo_o ciX6 [.int (nI k), va_rf ((zpar σ k).map (fun p => A 4 p 0)), va_rf (some (A 5 k 0)), va_rf (some (A 6 k 0))]) := (C.2.2.1 k hk).1
theorem zCf.bods (C : zCf G A σ h) {k : Nat} (hk : k < zn σ) : zL h (A 5 k 0) (5, k, 0, 0) ((List.range 6).map (fun m => A 7 k m)) := (C.2.2.1 k hk).2.1
theorem zCf.plcs (C : zCf G A σ h) {k : Nat} (hk : k < zn σ) : zL h (A 6 k 0) (6, k, 0, 0) ((List.range 6).map (fun m => A 58 k m)) := (C.2.2.1 k hk).2.2.1
theorem zCf.body (C : zCf G A σ h) {k m : Nat} (hk : k < zn σ) (hm : m < 6) : zL h (A 7 k m) (7, k, m, 0) ((List.range (zbody σ k m).length).map (fun i => A 8 (k * 6 + m) i)) := ((C.2.2.1 k hk).2.2.2 m hm).1
theorem zCf.step (C : zCf G A σ h) {k m i : Nat} {st : zSt} (hk : k < zn σ) (hm : m < 6) (hi : (zbody σ k m)[i]? = some st) : h (A 8 (k * 6 + m) i) = some ((8, k, m, i), wo_o ciX7 [.int st.1, .int st.2.1, .int st.2.2]) := ((C.2.2.1 k hk).2.2.2 m hm).2 i st hi
theorem zCf.pats (C : zCf G A σ h) : zL h (A 10 0 0) (10, 0, 0, 0) ((List.range σ.2.1.length).map (fun n => A 11 n 0)) := C.2.2.2.1
theorem zCf.pat (C : zCf G A σ h) {n : Nat} {p : zPt} (hn : σ.2.1[n]? = some p) : h (A 11 n 0) = some ((11, n, 0, 0), wo_o ciX18 [va_rf (some (A 12 n 0)), .int (nI (2 ^ n))]) := (C.2.2.2.2.1 n p hn).1
theorem zCf.inner (C : zCf G A σ h) {n : Nat} {p : zPt} (hn : σ.2.1[n]? = some p) : h (A 12 n 0) = some ((12, n, 0, 0), zin A p) := (C.2.2.2.2.1 n p hn).2
theorem zCf.advs (C : zCf G A σ h) : zL h (A 13 0 0) (13, 0, 0, 0) ((List.range σ.2.2.1.length).map (fun n => A 14 n 0)) := C.2.2.2.2.2.1
theorem zCf.adv (C : zCf G A σ h) {n : Nat} {a : zAd} (hn : σ.2.2.1[n]? = some a) : h (A 14 n 0) = some ((14, n, 0, 0), wo_o ciX19 [.int (nI n), .int (nI a.1), .int a.2.1, va_rf (some (A 11 a.2.2.1 0)), .int a.2.2.2.1, .int (nI a.2.2.2.2.1), .int (zbI a.2.2.2.2.2)]) := C.2.2.2.2.2.2.1 n a hn
theorem zCf.ahead (C : zCf G A σ h) : h (A 15 0 0) = some ((15, 0, 0, 0), wo_q (wv_A G 8) 4 (fun j => some (A 15 0 0 + 1 + j))) := C.2.2.2.2.2.2.2.1
theorem zCf.row (C : zCf G A σ h) {i : Nat} (hi : i < 4) : ∃ f, h (A 15 0 0 + 1 + i) = some ((15, 0, 0, 0), wo_i (wv_A G 2) 4 f) ∧ ∀ j, j < 4 → f j = zbI (σ.2.2.2 i j) := C.2.2.2.2.2.2.2.2 i hi
/-- it stands as long as nothing of it is written -/
theorem zCf.keep {S : Nat → wv_T → Prop} (C : zCf G A σ h) (k : kp S h h1) (hS : ∀ a t, S a t → 50 ≤ t.1) : zCf G A σ h1 := by
  have key : ∀ {a : Nat} {t : wv_T} {o : wv_O}, t.1 < 50 → h a = some (t, o) → h1 a = some (t, o) := fun {a t o} ht ha => k a (t, o) ha (fun q => Nat.not_le.mpr ht (hS a t q))
  have kl : ∀ {a : Nat} {t : wv_T} {xs : List Nat}, t.1 < 50 → zL h a t xs → zL h1 a t xs := fun ht hl => hl.keep k (fun q => absurd (hS _ _ q) (by omega))
  obtain ⟨c1, c2, c3, c4, c5, c6, c7, c8, c9⟩ := C
  refine ⟨key (by decide) c1, kl (by decide) c2, fun q hq => ?_, kl (by decide) c4, fun n p hn => ⟨key (by show (11 : Nat) < 50; decide) (c5 n p hn).1, key (by show (12 : Nat) < 50; decide) (c5 n p hn).2⟩, kl (by decide) c6, fun n a hn => key (by show (14 : Nat) < 50; decide) (c7 n a hn), key (by decide) c8, fun i hi => ?_⟩
  · obtain ⟨d1, d2, d3, d4⟩ := c3 q hq
    exact ⟨key (by show (4 : Nat) < 50; decide) d1, kl (by show (5 : Nat) < 50; decide) d2, kl (by show (6 : Nat) < 50; decide) d3, fun m hm => ⟨kl (by show (7 : Nat) < 50; decide) (d4 m hm).1, fun i st hi => key (by show (8 : Nat) < 50; decide) ((d4 m hm).2 i st hi)⟩⟩
  · obtain ⟨f, e1, e2⟩ := c9 i hi
    exact ⟨f, key (by show (15 : Nat) < 50; decide) e1, e2⟩
theorem zCf.keepn (C : zCf G A σ h) (k : kp kn h h1) : zCf G A σ h1 := C.keep k (fun _ _ q => q.elim)
/-- what a place keeps of patterns -/
def zPv (σ : zS) (q : zPl) (x1 x2 x3 : Int32) : Prop := ∀ n, n < 32 → (zb x1 n = true → n < σ.2.1.length ∧ zb x2 n = decide (zat σ q n = 121) ∧ zb x3 n = decide (zat σ q n = 110)) ∧ (zb x1 n = false → zb x2 n = false ∧ zb x3 n = false)
def zPlo (σ : zS) (q : zPl) (x1 x2 x3 : Int32) : wv_O := wo_o ciX21 [.int q.1, .int q.2.1, .int q.2.2.1, .int (zm q.2.2.2 (zn σ)), .int x1, .int x2, .int x3]
def zPlA (σ : zS) (h : wv_H) (a : Nat) (q : zPl) : Prop := ∃ x1 x2 x3, h a = some ((59, 0, 0, 0), zPlo σ q x1 x2 x3) ∧ zPv σ q x1 x2 x3
/-- the places that are kept -/
def zPls (G : wv_G) (A : zA) (σ : zS) (f : Nat → Nat → Nat) (h : wv_H) : Prop := ∀ k m, k < zn σ → m < 6 → ∃ xs, zL h (A 58 k m) (58, k, m, 0) xs ∧ xs.length = f k m ∧ f k m ≤ (zspots σ k m).length ∧ ∀ p a, xs[p]? = some a → zPlA σ h a (zpl σ k m p)
-- ===== ancestors =====
theorem zancF_eq (hw : zwf σ) : ∀ (f g k : Nat), k < f → k < g → zancF σ f k = zancF σ g k
  | 0, _, _, h, _ => absurd h (by omega)
  | _, 0, _, _, h => absurd h (by omega)
  | f + 1, g + 1, k, hf, hg => by
    unfold zancF
    cases hp : zpar σ k with
    | none => rfl
    | some p =>
      have hlt : p < k := by
        unfold zpar at hp
        cases hc : σ.1[k]? with
        | none => rw [hc] at hp; cases hp
        | some c => rw [hc] at hp; exact (hw.2.1 k c hc).1 p hp
      show k :: zancF σ f p = k :: zancF σ g p
      rw [zancF_eq hw f g p (by omega) (by omega)]
theorem zpar_lt (hw : zwf σ) {k p : Nat} (hp : zpar σ k = some p) : p < k ∧ k < zn σ := by
  unfold zpar at hp
  cases hc : σ.1[k]? with
  | none => rw [hc] at hp; cases hp
  | some c => rw [hc] at hp; exact ⟨(hw.2.1 k c hc).1 p hp, (List.getElem?_eq_some_iff.mp hc).1⟩
theorem zanc_eq (hw : zwf σ) (k : Nat) : zanc σ k = k :: match zpar σ k with | none => [] | some p => zanc σ p := by
  unfold zanc
  rw [zancF]
  cases hp : zpar σ k with
  | none => rfl
  | some p => show k :: zancF σ k p = k :: zancF σ (p + 1) p; rw [zancF_eq hw k (p + 1) p (zpar_lt hw hp).1 (by omega)]
theorem zbelow_eq (hw : zwf σ) (k : Nat) (t : Int32) : zbelow σ k t = (decide (nI k = t) || match zpar σ k with | none => false | some p => zbelow σ p t) := by
  unfold zbelow
  rw [zanc_eq hw k, List.any_cons]
  cases zpar σ k <;> rfl
theorem zfind_eq (hw : zwf σ) (m k : Nat) : zfind σ m k = if (zbody σ k m).isEmpty = false then some k else match zpar σ k with | none => none | some p => zfind σ m p := by
  unfold zfind
  rw [zanc_eq hw k, List.find?_cons]
  cases he : (zbody σ k m).isEmpty
  · simp
  · simp
    cases zpar σ k <;> rfl
theorem zanc_lt (hw : zwf σ) {k : Nat} (hk : k < zn σ) : ∀ j ∈ zanc σ k, j ≤ k := by
  induction k using Nat.strongRecOn with
  | ind k ih =>
    intro j hj
    rw [zanc_eq hw k] at hj
    cases hp : zpar σ k with
    | none =>
      rw [hp] at hj
      simp at hj
      omega
    | some p =>
      rw [hp] at hj
      have hlt := zpar_lt hw hp
      rcases List.mem_cons.mp hj with rfl | hj
      · omega
      · have := ih p hlt.1 (by omega) j hj
        omega
theorem zfind_lt (hw : zwf σ) {m k j : Nat} (hk : k < zn σ) (hf : zfind σ m k = some j) : j ≤ k ∧ (zbody σ j m).isEmpty = false := by
  unfold zfind at hf
  refine ⟨zanc_lt hw hk j (List.mem_of_find?_eq_some hf), ?_⟩
  have := List.find?_some hf
  simpa using this
theorem zfA_X9 : wv_face "Weaversgate$NamePattern" (⟨"Weaversgate$Pattern", "at", "(LWeaversgate$Place;)C"⟩ : MethodName) yX9_at := ⟨q852, q854, q85, ⟨_, _, _, q856⟩, ⟨by decide +kernel, by decide +kernel⟩, q833, q832, q855, q853, q851⟩
theorem zfH_X9 : wv_face "Weaversgate$NamePattern" (⟨"Weaversgate$Pattern", "holds", "(LWeaversgate$Point;)Z"⟩ : MethodName) yX9_holds := ⟨q1130, q1132, q85, ⟨_, _, _, q1134⟩, ⟨by decide +kernel, by decide +kernel⟩, q1117, q1116, q1133, q1131, q851⟩
theorem zfA_X10 : wv_face "Weaversgate$TypePattern" (⟨"Weaversgate$Pattern", "at", "(LWeaversgate$Place;)C"⟩ : MethodName) yX10_at := ⟨q883, q885, q86, ⟨_, _, _, q887⟩, ⟨by decide +kernel, by decide +kernel⟩, q833, q832, q886, q884, q882⟩
theorem zfH_X10 : wv_face "Weaversgate$TypePattern" (⟨"Weaversgate$Pattern", "holds", "(LWeaversgate$Point;)Z"⟩ : MethodName) yX10_holds := ⟨q1156, q1158, q86, ⟨_, _, _, q1160⟩, ⟨by decide +kernel, by decide +kernel⟩, q1117, q1116, q1159, q1157, q882⟩
theorem zfA_X11 : wv_face "Weaversgate$WithinPattern" (⟨"Weaversgate$Pattern", "at", "(LWeaversgate$Place;)C"⟩ : MethodName) yX11_at := ⟨q903, q905, q87, ⟨_, _, _, q907⟩, ⟨by decide +kernel, by decide +kernel⟩, q833, q832, q906, q904, q902⟩
theorem zfH_X11 : wv_face "Weaversgate$WithinPattern" (⟨"Weaversgate$Pattern", "holds", "(LWeaversgate$Point;)Z"⟩ : MethodName) yX11_holds := ⟨q1166, q1168, q87, ⟨_, _, _, q1170⟩, ⟨by decide +kernel, by decide +kernel⟩, q1117, q1116, q1169, q1167, q902⟩
theorem zfA_X12 : wv_face "Weaversgate$ValuePattern" (⟨"Weaversgate$Pattern", "at", "(LWeaversgate$Place;)C"⟩ : MethodName) yX12_at := ⟨q897, q899, q88, ⟨_, _, _, q901⟩, ⟨by decide +kernel, by decide +kernel⟩, q833, q832, q900, q898, q896⟩
theorem zfH_X12 : wv_face "Weaversgate$ValuePattern" (⟨"Weaversgate$Pattern", "holds", "(LWeaversgate$Point;)Z"⟩ : MethodName) yX12_holds := ⟨q1161, q1163, q88, ⟨_, _, _, q1165⟩, ⟨by decide +kernel, by decide +kernel⟩, q1117, q1116, q1164, q1162, q896⟩
theorem zfA_X13 : wv_face "Weaversgate$FlowPattern" (⟨"Weaversgate$Pattern", "at", "(LWeaversgate$Place;)C"⟩ : MethodName) yX13_at := ⟨q835, q837, q89, ⟨_, _, _, q839⟩, ⟨by decide +kernel, by decide +kernel⟩, q833, q832, q838, q836, q834⟩
theorem zfH_X13 : wv_face "Weaversgate$FlowPattern" (⟨"Weaversgate$Pattern", "holds", "(LWeaversgate$Point;)Z"⟩ : MethodName) yX13_holds := ⟨q1118, q1120, q89, ⟨_, _, _, q1122⟩, ⟨by decide +kernel, by decide +kernel⟩, q1117, q1116, q1121, q1119, q834⟩
theorem zfA_X15 : wv_face "Weaversgate$Pattern$2" (⟨"Weaversgate$Pattern", "at", "(LWeaversgate$Place;)C"⟩ : MethodName) yX15_at := ⟨q875, q877, q92, ⟨_, _, _, q879⟩, ⟨by decide +kernel, by decide +kernel⟩, q833, q832, q878, q876, q874⟩
theorem zfH_X15 : wv_face "Weaversgate$Pattern$2" (⟨"Weaversgate$Pattern", "holds", "(LWeaversgate$Point;)Z"⟩ : MethodName) yX15_holds := ⟨q1149, q1151, q92, ⟨_, _, _, q1153⟩, ⟨by decide +kernel, by decide +kernel⟩, q1117, q1116, q1152, q1150, q874⟩
theorem zfA_X16 : wv_face "Weaversgate$Pattern$1" (⟨"Weaversgate$Pattern", "at", "(LWeaversgate$Place;)C"⟩ : MethodName) yX16_at := ⟨q867, q869, q93, ⟨_, _, _, q871⟩, ⟨by decide +kernel, by decide +kernel⟩, q833, q832, q870, q868, q866⟩
theorem zfH_X16 : wv_face "Weaversgate$Pattern$1" (⟨"Weaversgate$Pattern", "holds", "(LWeaversgate$Point;)Z"⟩ : MethodName) yX16_holds := ⟨q1142, q1144, q93, ⟨_, _, _, q1146⟩, ⟨by decide +kernel, by decide +kernel⟩, q1117, q1116, q1145, q1143, q866⟩
theorem zfA_X17 : wv_face "Weaversgate$KindPattern" (⟨"Weaversgate$Pattern", "at", "(LWeaversgate$Place;)C"⟩ : MethodName) yX17_at := ⟨q843, q845, q94, ⟨_, _, _, q847⟩, ⟨by decide +kernel, by decide +kernel⟩, q833, q832, q846, q844, q842⟩
theorem zfH_X17 : wv_face "Weaversgate$KindPattern" (⟨"Weaversgate$Pattern", "holds", "(LWeaversgate$Point;)Z"⟩ : MethodName) yX17_holds := ⟨q1125, q1127, q94, ⟨_, _, _, q1129⟩, ⟨by decide +kernel, by decide +kernel⟩, q1117, q1116, q1128, q1126, q842⟩
theorem zfA_X18 : wv_face "Weaversgate$NumberedPattern" (⟨"Weaversgate$Pattern", "at", "(LWeaversgate$Place;)C"⟩ : MethodName) yX18_at := ⟨q859, q861, q95, ⟨_, _, _, q863⟩, ⟨by decide +kernel, by decide +kernel⟩, q833, q832, q862, q860, q858⟩
theorem zfH_X18 : wv_face "Weaversgate$NumberedPattern" (⟨"Weaversgate$Pattern", "holds", "(LWeaversgate$Point;)Z"⟩ : MethodName) yX18_holds := ⟨q1135, q1137, q95, ⟨_, _, _, q1139⟩, ⟨by decide +kernel, by decide +kernel⟩, q1117, q1116, q1138, q1136, q858⟩
-- ===== patterns, one unfolding =====
theorem zAt_nI {a : Nat} (h : a < 2 ^ 31) : zAt (nI a) = a := nI_clamp h
theorem zpat_eq {n : Nat} {p : zPt} (hp : σ.2.1[n]? = some p) : zpat σ n = p := by
  unfold zpat
  rw [List.getD_eq_getElem?_getD, hp]
  rfl
theorem zatB_congr {q : zPl} {r1 r2 : Nat → Int32} {p : zPt} {n : Nat} (hn : n ≤ 24) (ok : zptOk n p) (hr : ∀ a, a < n → r1 a = r2 a) : zatB σ q r1 p = zatB σ q r2 p := by
  rcases ok with h | ⟨e, a, ha, ea⟩ | ⟨e, ⟨a, ha, ea⟩, b, hb, eb⟩
  · rcases h with h | h | h | h | h | h | h | h | h | h <;> simp [zatB, h]
  · have e1 : zAt p.2.1 = a := by rw [ea]; exact zAt_nI (by omega)
    rcases e with e | e <;> simp [zatB, e, e1, hr a ha]
  · have e1 : zAt p.2.1 = a := by rw [ea]; exact zAt_nI (by omega)
    have e2 : zAt p.2.2 = b := by rw [eb]; exact zAt_nI (by omega)
    rcases e with e | e <;> simp [zatB, e, e1, e2, hr a ha, hr b hb]
theorem zholdB_congr {r1 r2 : Nat → List zIn → Bool} {p : zPt} {n : Nat} {i : zIn} {l : List zIn} (hn : n ≤ 24) (ok : zptOk n p) (hr : ∀ a, a < n → r1 a = r2 a) : zholdB σ r1 p i l = zholdB σ r2 p i l := by
  rcases ok with h | ⟨e, a, ha, ea⟩ | ⟨e, ⟨a, ha, ea⟩, b, hb, eb⟩
  · rcases h with h | h | h | h | h | h | h | h | h | h <;> simp [zholdB, h]
  · have e1 : zAt p.2.1 = a := by rw [ea]; exact zAt_nI (by omega)
    rcases e with e | e <;> simp [zholdB, e, e1, hr a ha]
  · have e1 : zAt p.2.1 = a := by rw [ea]; exact zAt_nI (by omega)
    have e2 : zAt p.2.2 = b := by rw [eb]; exact zAt_nI (by omega)
    rcases e with e | e <;> simp [zholdB, e, e1, e2, hr a ha, hr b hb]
theorem zatF_eq (hw : zwf σ) {q : zPl} : ∀ (f g n : Nat), n < f → n < g → n < σ.2.1.length → zatF σ q f n = zatF σ q g n
  | 0, _, _, h, _, _ => absurd h (by omega)
  | _, 0, _, _, h, _ => absurd h (by omega)
  | f + 1, g + 1, n, hf, hg, hl => by
    have hp := List.getElem?_eq_getElem hl
    rw [zatF, zatF, zpat_eq hp]
    exact zatB_congr (by have := hw.2.2.1; omega) (hw.2.2.2.1 n _ hp) (fun a ha => zatF_eq hw f g a (by omega) (by omega) (by omega))
theorem zat_eq (hw : zwf σ) {q : zPl} {n : Nat} {p : zPt} (hp : σ.2.1[n]? = some p) : zat σ q n = zatB σ q (zat σ q) p := by
  have hl := (List.getElem?_eq_some_iff.mp hp).1
  rw [zat, zatF, zpat_eq hp]
  exact zatB_congr (by have := hw.2.2.1; omega) (hw.2.2.2.1 n _ hp) (fun a ha => zatF_eq hw n (a + 1) a ha (by omega) (by omega))
theorem zholdF_eq (hw : zwf σ) : ∀ (f g n : Nat), n < f → n < g → n < σ.2.1.length → zholdF σ f n = zholdF σ g n
  | 0, _, _, h, _, _ => absurd h (by omega)
  | _, 0, _, _, h, _ => absurd h (by omega)
  | f + 1, g + 1, n, hf, hg, hl => by
    have hp := List.getElem?_eq_getElem hl
    funext l
    cases l with
    | nil => rfl
    | cons i l =>
      rw [zholdF, zholdF, zpat_eq hp]
      exact zholdB_congr (by have := hw.2.2.1; omega) (hw.2.2.2.1 n _ hp) (fun a ha => zholdF_eq hw f g a (by omega) (by omega) (by omega))
theorem zhold_eq (hw : zwf σ) {n : Nat} {p : zPt} {i : zIn} {l : List zIn} (hp : σ.2.1[n]? = some p) : zhold σ n (i :: l) = zholdB σ (zhold σ) p i l := by
  have hl := (List.getElem?_eq_some_iff.mp hp).1
  rw [zhold, zholdF, zpat_eq hp]
  exact zholdB_congr (by have := hw.2.2.1; omega) (hw.2.2.2.1 n _ hp) (fun a ha => zholdF_eq hw n (a + 1) a ha (by omega) (by omega))
theorem zbI_e0 {b : Bool} (q : zbI b = 0) : b = false := by cases b <;> first | rfl | exact absurd q (by decide)
theorem zbI_n0 {b : Bool} (q : ¬ zbI b = 0) : b = true := by cases b <;> first | rfl | exact absurd (by decide) q
theorem zCf.typeN (C : zCf G A σ h) {k : Nat} (hk : k < zn σ) (hp : zpar σ k = none) : h (A 4 k 0) = some ((4, k, 0, 0), wo_o ciX6 [.int (nI k), va_rf none, va_rf (some (A 5 k 0)), va_rf (some (A 6 k 0))]) := by
  have := C.type hk
  rw [hp] at this
  exact this
theorem zCf.typeS (C : zCf G A σ h) {k p : Nat} (hk : k < zn σ) (hp : zpar σ k = some p) : h (A 4 k 0) = some ((4, k, 0, 0), wo_o ciX6 [.int (nI k), va_rf (some (A 4 p 0)), va_rf (some (A 5 k 0)), va_rf (some (A 6 k 0))]) := by
  have := C.type hk
  rw [hp] at this
  exact this
-- ===== Type =====
theorem z6_hasBody (hG : wv_G0 G) (C : zCf G A σ h) {k m : Nat} (hk : k < zn σ) (hm : m < 6) : wv_C G yX6_hasBody [.ref (A 4 k 0), .int (nI m)] h 3 0 0 (fun r h' => r = .inl (some (.int (zbI (!(zbody σ k m).isEmpty)))) ∧ h' = h) := by
  refine wk_X6_hasBody (v0 := some (A 4 k 0)) hG ?_
  refine z_gA (C.type hk) rfl ?_
  refine (C.bods hk).vget hG (z_rg hm) (by omega) ?_
  refine z_cc (C.body hk hm).is ?_
  refine z_vI (C.body hk hm).is ((C.body hk hm).isEmpty hG) (by omega) ?_
  rw [z_rgl]
  cases hb : zbody σ k m with
  | nil => exact ⟨fun _ => ⟨rfl, rfl, rfl⟩, fun q => absurd q (by decide)⟩
  | cons st r => exact ⟨fun q => absurd (by simp) q, fun _ => ⟨rfl, rfl, rfl⟩⟩
theorem z6_finder (hG : wv_G0 G) (hw : zwf σ) (C : zCf G A σ h) {m : Nat} (hm : m < 6) : ∀ k, k < zn σ → wv_C G yX6_finder [.ref (A 4 k 0), .int (nI m)] h (k + 4) 0 0 (fun r h' => r = .inl (some (va_rf ((zfind σ m k).map (fun j => A 4 j 0)))) ∧ h' = h) := by
  intro k
  induction k using Nat.strongRecOn with
  | ind k ih =>
    intro hk
    refine wk_X6_finder (v0 := some (A 4 k 0)) hG ?_
    refine z_vI (z_is (C.type hk) ccX6) (z6_hasBody hG C hk hm) (by omega) ?_
    rw [zfind_eq hw m k]
    refine ⟨fun q => ?_, fun q => ?_⟩
    · have he : (zbody σ k m).isEmpty = true := by simpa using zbI_e0 q
      rw [if_neg (by rw [he]; decide)]
      cases hp : zpar σ k with
      | none => exact z_gA (C.typeN hk hp) rfl ⟨fun q1 => absurd rfl q1, fun _ => ⟨rfl, rfl⟩⟩
      | some p =>
        have hlt := zpar_lt hw hp
        refine z_gA (C.typeS hk hp) rfl ⟨fun _ => z_gA (C.typeS hk hp) rfl (z_vA (z_is (C.type (k := p) (by omega)) ccX6) (ih p hlt.1 (by omega)) (by omega) ⟨rfl, rfl⟩), fun q1 => by cases q1⟩
    · have he : (zbody σ k m).isEmpty = false := by simpa using zbI_n0 q
      rw [if_pos he]
      exact ⟨rfl, rfl⟩
theorem z6_isBelow (hG : wv_G0 G) (hw : zwf σ) (C : zCf G A σ h) (t : Int32) : ∀ k, k < zn σ → wv_C G yX6_isBelow [.ref (A 4 k 0), .int t] h (k + 1) 0 0 (fun r h' => r = .inl (some (.int (zbI (zbelow σ k t)))) ∧ h' = h) := by
  intro k
  induction k using Nat.strongRecOn with
  | ind k ih =>
    intro hk
    refine wk_X6_isBelow (v0 := some (A 4 k 0)) hG ?_
    refine z_gI (C.type hk) rfl ?_
    rw [zbelow_eq hw k t]
    refine ⟨fun q => ?_, fun q => ?_⟩
    · rw [decide_eq_true q]
      exact ⟨rfl, rfl, rfl⟩
    · rw [decide_eq_false q, Bool.false_or]
      cases hp : zpar σ k with
      | none => exact z_gA (C.typeN hk hp) rfl ⟨fun _ => ⟨rfl, rfl, rfl⟩, fun q1 => absurd rfl q1⟩
      | some p =>
        have hlt := zpar_lt hw hp
        refine z_gA (C.typeS hk hp) rfl ⟨fun q1 => (by cases q1), fun _ => z_gA (C.typeS hk hp) rfl (z_vI (z_is (C.type (k := p) (by omega)) ccX6) (ih p hlt.1 (by omega)) (by omega) ⟨fun q1 => ?_, fun q1 => ?_⟩)⟩
        · exact ⟨rfl, by show _ = Sum.inl (some (Value.int (zbI (zbelow σ p t)))); rw [zbI_e0 q1]; rfl, rfl⟩
        · exact ⟨rfl, by show _ = Sum.inl (some (Value.int (zbI (zbelow σ p t)))); rw [zbI_n0 q1]; rfl, rfl⟩
-- ===== Step =====
def zwd (c : Int32) : Nat := if c = 99 then 401 else if c = 103 then 403 else if c = 109 then 402 else if c = 110 then 400 else if c = 115 then 404 else if c = 116 then 405 else 406
theorem z7_word (hG : wv_G0 G) {a : Nat} {t : wv_T} {c x y : Int32} (ha : h a = some (t, wo_o ciX7 [.int c, .int x, .int y])) : wv_C G yX7_word [.ref a] h 0 0 0 (fun r h' => r = .inl (some (va_rf (some (G.2.2.2.2 (zwd c))))) ∧ h' = h) := by
  refine wk_X7_word (v0 := some a) hG ?_
  unfold vc_X7_word_0 vc_X7_word_122
  refine z_gI ha rfl ?_
  refine ⟨fun e => ?_, fun n0 => ⟨fun e => ?_, fun n1 => ⟨fun e => ?_, fun n2 => ⟨fun e => ?_, fun n3 => ⟨fun e => ?_, fun n4 => ⟨fun e => ?_, fun n5 => ⟨fun e => ?_, fun n6 => ⟨fun e => ?_, fun n7 => ⟨fun e => ?_, fun n8 => ⟨fun e => ?_, fun n9 => ⟨fun e => ?_, fun n10 => ⟨fun e => ?_, fun n11 => ⟨fun e => ?_, fun n12 => ⟨fun e => ?_, fun n13 => ⟨fun e => ?_, fun n14 => ⟨fun e => ?_, fun n15 => ⟨fun e => ?_, fun n16 => ⟨fun e => ?_, fun n17 => ?_⟩⟩⟩⟩⟩⟩⟩⟩⟩⟩⟩⟩⟩⟩⟩⟩⟩⟩
  all_goals first
    | (subst_vars; exact ⟨rfl, rfl⟩)
    | exact ⟨by simp [zwd, *], rfl⟩
    | (subst e; exact ⟨rfl, rfl⟩)
theorem z_str (hG : wv_G0 G) {fr : Nat} {w : wv_W} {j : Nat} {q : Int32 × List Int32} {K : Int32 → wv_W → Prop} {KX : String → Nat → wv_W → Prop} (hq : wv_sx[j]? = some q) (hf : 0 < fr) (hK : K q.1 w) : wv_cV G fr yJ8_hashCode (some (G.2.2.2.2 (400 + j))) [] w (wv_rI K KX) :=
  z_vI (wst_is (List.getElem?_eq_some_iff.mp hq).1) (wst_hash hG hq) hf hK
theorem z_seq (hG : wv_G0 G) {fr : Nat} {w : wv_W} {j : Nat} (hj : j < 19) {K : Int32 → wv_W → Prop} {KX : String → Nat → wv_W → Prop} (hf : 0 < fr) (hK : K 1 w) : wv_cV G fr yJ8_equals (some (G.2.2.2.2 (400 + j))) [va_rf (some (G.2.2.2.2 (400 + j)))] w (wv_rI K KX) :=
  z_vI (wst_is hj) (wst_eq hG (a := some (G.2.2.2.2 (400 + j)))) hf hK
theorem z7_places (hG : wv_G0 G) {a n : Nat} {t : wv_T} {c x y : Int32} (hk : zstOk n (c, x, y)) (ha : h a = some (t, wo_o ciX7 [.int c, .int x, .int y])) : wv_C G yX7_places [.ref a] h 1 0 0 (fun r h' => r = .inl (some (.int (nI (zplaces (c, x, y))))) ∧ h' = h) := by
  refine wk_X7_places (v0 := some a) hG ?_
  unfold vc_X7_places_0 vc_X7_places_127
  refine z_vA (z_is ha ccX7) (z7_word hG ha) (by omega) ?_
  have hc : c = 99 ∨ c = 103 ∨ c = 109 ∨ c = 110 ∨ c = 115 ∨ c = 116 ∨ c = 104 := by
    rcases hk with (e | e | e) | ⟨e, -⟩ | ⟨e, -⟩ | ⟨e | e, -⟩ <;> simp at e <;> simp [e]
  rcases hc with rfl | rfl | rfl | rfl | rfl | rfl | rfl
  · exact z_str hG (j := 1) (q := wv_sx.getD 1 (0, [])) rfl (by omega) ⟨fun e => absurd e (by decide), fun _ => ⟨fun e => absurd e (by decide), fun _ => ⟨fun e => absurd e (by decide), fun _ => ⟨fun _ => z_seq hG (j := 1) (by decide) (by omega) ⟨fun e => absurd e (by decide), fun _ => ⟨fun e => absurd e (by decide), fun _ => ⟨fun _ => ⟨rfl, rfl⟩, fun e => absurd rfl e⟩⟩⟩, fun e => absurd rfl e⟩⟩⟩⟩
  · exact z_str hG (j := 3) (q := wv_sx.getD 3 (0, [])) rfl (by omega) ⟨fun e => absurd e (by decide), fun _ => ⟨fun _ => z_seq hG (j := 3) (by decide) (by omega) ⟨fun e => absurd e (by decide), fun _ => ⟨fun e => absurd e (by decide), fun _ => ⟨fun e => absurd e (by decide), fun _ => ⟨fun _ => ⟨rfl, rfl⟩, fun e => absurd rfl e⟩⟩⟩⟩, fun e => absurd rfl e⟩⟩
  · exact z_str hG (j := 2) (q := wv_sx.getD 2 (0, [])) rfl (by omega) ⟨fun e => absurd e (by decide), fun _ => ⟨fun e => absurd e (by decide), fun _ => ⟨fun e => absurd e (by decide), fun _ => ⟨fun e => absurd e (by decide), fun _ => ⟨fun _ => z_seq hG (j := 2) (by decide) (by omega) ⟨fun e => absurd e (by decide), fun _ => ⟨fun _ => ⟨rfl, rfl⟩, fun e => absurd rfl e⟩⟩, fun e => absurd rfl e⟩⟩⟩⟩⟩
  · exact z_str hG (j := 0) (q := wv_sx.getD 0 (0, [])) rfl (by omega) ⟨fun e => absurd e (by decide), fun _ => ⟨fun e => absurd e (by decide), fun _ => ⟨fun e => absurd e (by decide), fun _ => ⟨fun e => absurd e (by decide), fun _ => ⟨fun e => absurd e (by decide), fun _ => ⟨fun e => absurd e (by decide), fun _ => ⟨fun e => absurd e (by decide), fun _ => ⟨fun e => absurd e (by decide), fun _ => ⟨fun e => absurd e (by decide), fun _ => ⟨fun e => absurd e (by decide), fun _ => ⟨rfl, rfl⟩⟩⟩⟩⟩⟩⟩⟩⟩⟩⟩
  · exact z_str hG (j := 4) (q := wv_sx.getD 4 (0, [])) rfl (by omega) ⟨fun e => absurd e (by decide), fun _ => ⟨fun e => absurd e (by decide), fun _ => ⟨fun _ => z_seq hG (j := 4) (by decide) (by omega) ⟨fun e => absurd e (by decide), fun _ => ⟨fun e => absurd e (by decide), fun _ => ⟨fun e => absurd e (by decide), fun _ => ⟨fun e => absurd e (by decide), fun _ => ⟨fun _ => ⟨rfl, rfl⟩, fun e => absurd rfl e⟩⟩⟩⟩⟩, fun e => absurd rfl e⟩⟩⟩
  · exact z_str hG (j := 5) (q := wv_sx.getD 5 (0, [])) rfl (by omega) ⟨fun e => absurd e (by decide), fun _ => ⟨fun e => absurd e (by decide), fun _ => ⟨fun e => absurd e (by decide), fun _ => ⟨fun e => absurd e (by decide), fun _ => ⟨fun e => absurd e (by decide), fun _ => ⟨fun e => absurd e (by decide), fun _ => ⟨fun e => absurd e (by decide), fun _ => ⟨fun e => absurd e (by decide), fun _ => ⟨fun e => absurd e (by decide), fun _ => ⟨fun e => absurd e (by decide), fun _ => ⟨rfl, rfl⟩⟩⟩⟩⟩⟩⟩⟩⟩⟩⟩
  · exact z_str hG (j := 6) (q := wv_sx.getD 6 (0, [])) rfl (by omega) ⟨fun _ => z_seq hG (j := 6) (by decide) (by omega) ⟨fun e => absurd e (by decide), fun _ => ⟨fun e => absurd e (by decide), fun _ => ⟨fun e => absurd e (by decide), fun _ => ⟨fun e => absurd e (by decide), fun _ => ⟨fun e => absurd e (by decide), fun _ => ⟨fun _ => ⟨rfl, rfl⟩, fun e => absurd rfl e⟩⟩⟩⟩⟩⟩, fun e => absurd rfl e⟩
-- ===== patterns at places =====
theorem zsure_n (b : Bool) : narrow .char (.int (zsure b)) = .int (zsure b) := by cases b <;> rfl
theorem z14_sure (hG : wv_G0 G) (b : Bool) : wv_C G yX14_sure [.int (zbI b)] h 0 0 0 (fun r h' => r = .inl (some (.int (zsure b))) ∧ h' = h) := by
  refine wk_X14_sure hG ?_
  cases b
  · exact ⟨fun _ => ⟨rfl, rfl, rfl⟩, fun q => absurd rfl q⟩
  · exact ⟨fun q => absurd q (by decide), fun _ => ⟨rfl, rfl, rfl⟩⟩
variable {a b : Nat} {ta tb : wv_T} {q : zPl} {x1 x2 x3 : Int32}
theorem z9_at (hG : wv_G0 G) {x : Int32} (ha : h a = some (ta, zPlo σ q x1 x2 x3)) (hb : h b = some (tb, wo_o ciX9 [.int x])) : wv_C G yX9_at [.ref b, .ref a] h 1 0 0 (fun r h' => r = .inl (some (.int (if q.1 = 104 then (if q.2.1 < x then 110 else 109) else zsure (decide (q.2.1 = x))))) ∧ h' = h) := by
  refine wk_X9_at (v0 := some b) (v1 := some a) hG (z_gI ha rfl ⟨fun e => ?_, fun e => ?_⟩)
  · rw [if_neg e]
    refine z_gI ha rfl (z_gI hb rfl ⟨fun e2 => ?_, fun e2 => ?_⟩)
    · rw [decide_eq_false e2]
      exact z_cI (z14_sure hG false) (by omega) ⟨zsure_n _, rfl, rfl⟩
    · rw [decide_eq_true e2]
      exact z_cI (z14_sure hG true) (by omega) ⟨zsure_n _, rfl, rfl⟩
  · rw [if_pos e]
    refine z_gI hb rfl (z_gI ha rfl ⟨fun e2 => ?_, fun e2 => ?_⟩)
    · rw [if_pos e2]
      exact ⟨rfl, rfl, rfl⟩
    · rw [if_neg e2]
      exact ⟨rfl, rfl, rfl⟩
theorem z11_at (hG : wv_G0 G) {x : Int32} (ha : h a = some (ta, zPlo σ q x1 x2 x3)) (hb : h b = some (tb, wo_o ciX11 [.int x])) : wv_C G yX11_at [.ref b, .ref a] h 1 0 0 (fun r h' => r = .inl (some (.int (zsure (decide (q.2.2.1 = x))))) ∧ h' = h) := by
  refine wk_X11_at (v0 := some b) (v1 := some a) hG (z_gI ha rfl (z_gI hb rfl ⟨fun e2 => ?_, fun e2 => ?_⟩))
  · rw [decide_eq_false e2]
    exact z_cI (z14_sure hG false) (by omega) ⟨zsure_n _, rfl, rfl⟩
  · rw [decide_eq_true e2]
    exact z_cI (z14_sure hG true) (by omega) ⟨zsure_n _, rfl, rfl⟩
theorem z17_at (hG : wv_G0 G) {x : Int32} (ha : h a = some (ta, zPlo σ q x1 x2 x3)) (hb : h b = some (tb, wo_o ciX17 [.int x])) : wv_C G yX17_at [.ref b, .ref a] h 1 0 0 (fun r h' => r = .inl (some (.int (zsure (decide (q.1 = x))))) ∧ h' = h) := by
  refine wk_X17_at (v0 := some b) (v1 := some a) hG (z_gI ha rfl (z_gI hb rfl ⟨fun e2 => ?_, fun e2 => ?_⟩))
  · rw [decide_eq_false e2]
    exact z_cI (z14_sure hG false) (by omega) ⟨zsure_n _, rfl, rfl⟩
  · rw [decide_eq_true e2]
    exact z_cI (z14_sure hG true) (by omega) ⟨zsure_n _, rfl, rfl⟩
theorem z12_at (hG : wv_G0 G) : wv_C G yX12_at [.ref b, .ref a] h 0 0 0 (fun r h' => r = .inl (some (.int 109)) ∧ h' = h) :=
  wk_X12_at (v0 := some b) (v1 := some a) hG ⟨rfl, rfl, rfl⟩
theorem z10_at (hG : wv_G0 G) (hw : zwf σ) (C : zCf G A σ h) {x : Int32} (ha : h a = some (ta, zPlo σ q x1 x2 x3)) (hb : h b = some (tb, wo_o ciX10 [.int x, va_rf (some (A 2 0 0))])) : wv_C G yX10_at [.ref b, .ref a] h 8 0 0 (fun r h' => r = .inl (some (.int (zatT σ q x))) ∧ h' = h) := by
  refine wk_X10_at (v0 := some b) (v1 := some a) hG ?_
  have hn := hw.1
  refine z_loopV (zn σ) (by omega) (fun v => v.2.2.2) (fun i => (some b, some a, zm (fun j => zbelow σ j x) i, nI i)) (fun _ => rfl) rfl (fun K i hi hK => ?_)
  refine z_gA hb rfl (z_gA C.comp rfl (C.types.vsizeR hG (by omega) ?_))
  refine pk_le (zn σ) i (fun hle => ?_) (fun hlt => ?_)
  · have e9 : i = zn σ := by omega
    subst e9
    refine z_gI ha rfl ⟨fun e => ?_, fun e => ?_⟩
    · rw [zm_and (by omega), zm_0 (by omega)] at e
      refine ⟨fun _ => z_gI ha rfl ⟨fun e2 => ?_, fun e2 => ?_⟩, fun q => absurd rfl q⟩
      · rw [zm_andn (by omega), zm_0 (by omega)] at e2
        exact ⟨rfl, by rw [zatT, if_neg e, if_neg e2], rfl⟩
      · rw [zm_andn (by omega), zm_0 (by omega)] at e2
        exact ⟨rfl, by rw [zatT, if_neg e, if_pos e2], rfl⟩
    · rw [zm_and (by omega), zm_0 (by omega)] at e
      exact ⟨fun q => absurd q (by decide), fun _ => ⟨rfl, by rw [zatT, if_pos e], rfl⟩⟩
  · refine z_gA hb rfl (z_gA C.comp rfl (C.types.vgetR hG hlt (by omega) (z_cc (z_is (C.type hlt) ccX6) (z_gI hb rfl (z_vI (z_is (C.type hlt) ccX6) (z6_isBelow hG hw C x i hlt) (by omega) ⟨fun e => ?_, fun e => ?_⟩)))))
    · have k := hK hlt
      simp only [zm, nI_succ] at k
      rw [if_neg (by rw [zbI_e0 e]; decide)] at k
      exact k
    · have k := hK hlt
      simp only [zm, nI_succ] at k
      rw [if_pos (zbI_n0 e), ← zb_sh (by omega)] at k
      exact k
theorem zPv_add {n : Nat} {v : Int32} (hv : zPv σ q x1 x2 x3) (hn : n < 32) (hl : n < σ.2.1.length) (he : v = zat σ q n) : zPv σ q (x1 ||| nI (2 ^ n)) (x2 ||| (if v = 121 then nI (2 ^ n) else 0)) (x3 ||| (if v = 110 then nI (2 ^ n) else 0)) := by
  intro j hj
  have key : ∀ (x c : Int32), zb (x ||| (if v = c then nI (2 ^ n) else 0)) j = (zb x j || (decide (v = c) && decide (j = n))) := by
    intro x c
    rw [zb_or]
    by_cases hc : v = c
    · rw [if_pos hc, zb_p n j hn, decide_eq_true hc, Bool.true_and]
    · rw [if_neg hc, zb_0, decide_eq_false hc, Bool.false_and]
  rw [zb_or, zb_p n j hn, key, key]
  obtain ⟨h1, h2⟩ := hv j hj
  by_cases hjn : j = n
  · subst hjn
    refine ⟨fun _ => ?_, fun q => by simp at q⟩
    refine ⟨hl, ?_, ?_⟩
    · cases hk : zb x1 j
      · rw [(h2 hk).1, he]
        simp
      · rw [(h1 hk).2.1, he]
        simp
    · cases hk : zb x1 j
      · rw [(h2 hk).2, he]
        simp
      · rw [(h1 hk).2.2, he]
        simp
  · rw [decide_eq_false hjn, Bool.or_false, Bool.and_false, Bool.and_false, Bool.or_false, Bool.or_false]
    exact ⟨h1, h2⟩
theorem zatT_3 (x : Int32) : zatT σ q x = 121 ∨ zatT σ q x = 110 ∨ zatT σ q x = 109 := by
  unfold zatT
  split
  · exact Or.inr (Or.inl rfl)
  · split
    · exact Or.inl rfl
    · exact Or.inr (Or.inr rfl)
theorem zsure_3 (b : Bool) : zsure b = 121 ∨ zsure b = 110 ∨ zsure b = 109 := by cases b <;> simp [zsure]
theorem zatB_3 {r : Nat → Int32} (hr : ∀ n, r n = 121 ∨ r n = 110 ∨ r n = 109) (p : zPt) : zatB σ q r p = 121 ∨ zatB σ q r p = 110 ∨ zatB σ q r p = 109 := by
  unfold zatB
  repeat' split
  all_goals first
    | exact zatT_3 _
    | exact zsure_3 _
    | exact hr _
    | exact Or.inl rfl
    | exact Or.inr (Or.inl rfl)
    | exact Or.inr (Or.inr rfl)
theorem zatF_3 : ∀ f n, zatF σ q f n = 121 ∨ zatF σ q f n = 110 ∨ zatF σ q f n = 109
  | 0, _ => Or.inr (Or.inr rfl)
  | f + 1, n => zatB_3 (fun n => zatF_3 f n) _
theorem zat_3 (n : Nat) : zat σ q n = 121 ∨ zat σ q n = 110 ∨ zat σ q n = 109 := zatF_3 _ _
theorem zat_n (n : Nat) : narrow .char (.int (zat σ q n)) = .int (zat σ q n) := by rcases zat_3 (σ := σ) (q := q) n with e | e | e <;> rw [e] <;> rfl
theorem zCf.pl {o : wv_O} {x : wv_T × wv_O} (C : zCf G A σ h) (ha : h a = some ((59, 0, 0, 0), o)) : zCf G A σ (wv_up h a x) := C.keep (S := fun _ t => t.1 = 59) (kp.put ha rfl) (fun _ t e => by rw [e]; decide)
/-- what a pattern's matching comes to: the answer; the place may keep more -/
def zAtP (σ : zS) (q : zPl) (a : Nat) (h : wv_H) (v : Int32) : wv_R → wv_H → Prop := fun r h' => r = .inl (some (.int v)) ∧ ∃ x1 x2 x3, h' = wv_up h a ((59, 0, 0, 0), zPlo σ q x1 x2 x3) ∧ zPv σ q x1 x2 x3
theorem zAtP.of {y : MethodName} {av : List Value} {v : Int32} (ha : h a = some ((59, 0, 0, 0), zPlo σ q x1 x2 x3)) (hv : zPv σ q x1 x2 x3) (hC : wv_C G y av h fr kc ks (fun r h' => r = .inl (some (.int v)) ∧ h' = h)) : wv_C G y av h fr kc ks (zAtP σ q a h v) := by
  refine hC.mono ?_
  rintro r h' ⟨rfl, rfl⟩
  exact ⟨rfl, x1, x2, x3, (z_same ha).symm, hv⟩
/-- a call of at, through the interface -/
theorem zAtP.call {w : wv_W} {y : MethodName} {Cn : String} {v : Int32} {fr' : Nat} {K : Int32 → wv_W → Prop} {KX : String → Nat → wv_W → Prop} (hi : wv_is G w.1 b Cn) (hF : wv_face Cn (⟨"Weaversgate$Pattern", "at", "(LWeaversgate$Place;)C"⟩ : MethodName) y) (hC : wv_C G y [.ref b, .ref a] w.1 fr' 0 0 (zAtP σ q a w.1 v)) (hf : fr' < fr)
    (hK : ∀ x1 x2 x3, zPv σ q x1 x2 x3 → K v (wv_up w.1 a ((59, 0, 0, 0), zPlo σ q x1 x2 x3), w.2)) : wv_cF G fr (⟨"Weaversgate$Pattern", "at", "(LWeaversgate$Place;)C"⟩ : MethodName) (some b) [va_rf (some a)] w (wv_rI K KX) := by
  refine ⟨b, Cn, y, rfl, hi, hF, z_c hC hf (Nat.zero_le _) (Nat.zero_le _) ?_⟩
  rintro r h' ⟨rfl, x1, x2, x3, rfl, hv⟩
  exact Or.inl ⟨v, rfl, hK x1 x2 x3 hv⟩
theorem z18_82 (hG : wv_G0 G) {n : Nat} {w : wv_W} {v : Int32} {d : Option Nat} {KK : wv_R → wv_H → Prop} (ha : w.1 a = some (ta, zPlo σ q x1 x2 x3)) (hb : w.1 b = some (tb, wo_o ciX18 [va_rf d, .int (nI (2 ^ n))])) (hn : n < 32) (hv : zPv σ q x1 x2 x3) (hk : zb x1 n = true) (he : v = zat σ q n) (hK : KK (.inl (some (.int v))) w.1) : vc_X18_at_82 G fr KK (some b) (some a) w := by
  obtain ⟨-, h2, h3⟩ := (hv n hn).1 hk
  rw [← he] at h2 h3
  refine z_gI ha rfl (z_gI hb rfl ⟨fun e => ?_, fun e => ?_⟩)
  · rw [zb_and0 hn, h2] at e
    have e1 : ¬ v = 121 := by simpa using e
    refine z_gI ha rfl (z_gI hb rfl ⟨fun e4 => ?_, fun e4 => ?_⟩)
    · rw [zb_and0 hn, h3] at e4
      have e2 : ¬ v = 110 := by simpa using e4
      have e3 : v = 109 := by
        rcases zat_3 (σ := σ) (q := q) n with e5 | e5 | e5
        · exact absurd (he.trans e5) e1
        · exact absurd (he.trans e5) e2
        · exact he.trans e5
      rw [e3] at hK
      exact ⟨rfl, hK⟩
    · rw [zb_and0 hn, h3] at e4
      have e2 : v = 110 := by simpa using e4
      rw [e2] at hK
      exact ⟨rfl, hK⟩
  · rw [zb_and0 hn, h2] at e
    have e1 : v = 121 := by simpa using e
    rw [e1] at hK
    exact ⟨rfl, hK⟩
end ZC
