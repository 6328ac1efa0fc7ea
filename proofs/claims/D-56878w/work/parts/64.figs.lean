/-! quotients of whole numbers are no NaNs -/
section ZFP
def zfpB (n : Nat) : Bool := match FP.Core.decode FP.Core.b32 (FP.Core.fromInt FP.Core.b32 (n : Int)) with
  | .fin _ c _ => c != 0 || n == 0
  | _ => false
def zfpD (n : Nat) : Bool := match FP.Core.decode FP.Core.b64 (FP.Core.fromInt FP.Core.b64 (n : Int)) with
  | .fin _ c _ => c != 0 || n == 0
  | _ => false
set_option maxRecDepth 100000 in
theorem zfpB_key : ∀ i, i < 150 → ∀ j, j < 150 → zfpB (150 * i + j) = true := by decide +kernel
set_option maxRecDepth 100000 in
theorem zfpD_key : ∀ i, i < 20 → ∀ j, j < 20 → zfpD (20 * i + j) = true := by decide +kernel
theorem zfpB_of {n : Nat} (hn : n < 22500) : ∃ s c q, FP.Core.decode FP.Core.b32 (FP.Core.fromInt FP.Core.b32 (n : Int)) = .fin s c q ∧ (n ≠ 0 → c ≠ 0) := by
  have h := zfpB_key (n / 150) (by omega) (n % 150) (by omega)
  rw [show 150 * (n / 150) + n % 150 = n by omega] at h
  unfold zfpB at h
  cases hd : FP.Core.decode FP.Core.b32 (FP.Core.fromInt FP.Core.b32 (n : Int)) with
  | nan => rw [hd] at h; cases h
  | inf s => rw [hd] at h; cases h
  | fin s c q =>
    rw [hd] at h
    refine ⟨s, c, q, rfl, fun h0 hc => ?_⟩
    subst hc
    have h : ((0 : Nat) != 0 || n == 0) = true := h
    simp at h
    exact h0 h
theorem zfpD_of {n : Nat} (hn : n < 400) : ∃ s c q, FP.Core.decode FP.Core.b64 (FP.Core.fromInt FP.Core.b64 (n : Int)) = .fin s c q ∧ (n ≠ 0 → c ≠ 0) := by
  have h := zfpD_key (n / 20) (by omega) (n % 20) (by omega)
  rw [show 20 * (n / 20) + n % 20 = n by omega] at h
  unfold zfpD at h
  cases hd : FP.Core.decode FP.Core.b64 (FP.Core.fromInt FP.Core.b64 (n : Int)) with
  | nan => rw [hd] at h; cases h
  | inf s => rw [hd] at h; cases h
  | fin s c q =>
    rw [hd] at h
    refine ⟨s, c, q, rfl, fun h0 hc => ?_⟩
    subst hc
    have h : ((0 : Nat) != 0 || n == 0) = true := h
    simp at h
    exact h0 h
/-- what rounding comes to: zero, an infinity, or digits in their bounds -/
theorem zround (f : FP.Core.Fmt) (hp : f.tails < 2 ^ f.p) (s : Bool) (num den : Nat) (e : Int) : (FP.Core.roundRatio f s num den e = .fin s 0 f.qmin) ∨ FP.Core.roundRatio f s num den e = .inf s ∨ ∃ c q, FP.Core.roundRatio f s num den e = .fin s c q ∧ c < 2 ^ f.p ∧ q ≤ f.qmax := by
  unfold FP.Core.roundRatio
  split
  · exact Or.inl rfl
  · right
    unfold FP.Core.roundAt FP.Core.settle FP.Core.bound
    split
    · rename_i h1
      split
      · rename_i h2
        exact Or.inr ⟨_, _, rfl, h1, h2⟩
      · exact Or.inl rfl
    · split
      · rename_i h2
        exact Or.inr ⟨_, _, rfl, hp, h2⟩
      · exact Or.inl rfl
theorem zenc32 (s : Bool) (num den : Nat) (e : Int) : FP.Core.encode FP.Core.b32 (FP.Core.roundRatio FP.Core.b32 s num den e) % 2 ^ 31 ≤ 0x7f800000 := by
  have ht : FP.Core.b32.tails = 8388608 := rfl
  have he : FP.Core.b32.exps = 256 := rfl
  have hq : FP.Core.b32.qmin = -149 := rfl
  have hm : FP.Core.b32.qmax = 104 := rfl
  have hp : (2 : Nat) ^ FP.Core.b32.p = 16777216 := rfl
  have hs : s.toNat ≤ 1 := Bool.toNat_le s
  rcases zround FP.Core.b32 (by rw [ht, hp]; decide) s num den e with h | h | ⟨c, q, h, h1, h2⟩
  · rw [h]
    unfold FP.Core.encode FP.Core.assemble
    simp only [ht, he, hq]
    split <;> omega
  · rw [h]
    unfold FP.Core.encode FP.Core.assemble
    simp only [ht, he]
    omega
  · rw [h]
    rw [hp] at h1
    rw [hm] at h2
    unfold FP.Core.encode FP.Core.assemble
    simp only [ht, he, hq]
    split <;> omega
theorem zenc64 (s : Bool) (num den : Nat) (e : Int) : FP.Core.encode FP.Core.b64 (FP.Core.roundRatio FP.Core.b64 s num den e) % 2 ^ 63 ≤ 0x7ff0000000000000 := by
  have ht : FP.Core.b64.tails = 4503599627370496 := rfl
  have he : FP.Core.b64.exps = 2048 := rfl
  have hq : FP.Core.b64.qmin = -1074 := rfl
  have hm : FP.Core.b64.qmax = 971 := rfl
  have hp : (2 : Nat) ^ FP.Core.b64.p = 9007199254740992 := rfl
  have hs : s.toNat ≤ 1 := Bool.toNat_le s
  rcases zround FP.Core.b64 (by rw [ht, hp]; decide) s num den e with h | h | ⟨c, q, h, h1, h2⟩
  · rw [h]
    unfold FP.Core.encode FP.Core.assemble
    simp only [ht, he, hq]
    split <;> omega
  · rw [h]
    unfold FP.Core.encode FP.Core.assemble
    simp only [ht, he]
    omega
  · rw [h]
    rw [hp] at h1
    rw [hm] at h2
    unfold FP.Core.encode FP.Core.assemble
    simp only [ht, he, hq]
    split <;> omega
theorem zi2f {n : Nat} (hn : n < 22500) : ∃ s c q, FP.Core.decode FP.Core.b32 (FP.i2f (nI n)).toNat = .fin s c q ∧ (n ≠ 0 → c ≠ 0) := by
  obtain ⟨s, c, q, h1, h2⟩ := zfpB_of hn
  refine ⟨s, c, q, ?_, h2⟩
  have e1 : (FP.i2f (nI n)).toNat = FP.Core.fromInt FP.Core.b32 (n : Int) % 2 ^ 32 := by
    show (UInt32.ofNat (FP.Core.fromInt FP.Core.b32 (nI n).toInt)).toNat = _
    rw [nI_toInt (by omega), UInt32.toNat_ofNat']
  rw [e1, Nat.mod_eq_of_lt]
  · exact h1
  · have e2 : FP.Core.fromInt FP.Core.b32 (n : Int) = FP.Core.encode FP.Core.b32 (FP.Core.roundRatio FP.Core.b32 (decide ((n : Int) < 0)) (n : Int).natAbs 1 0) := rfl
    have ht : FP.Core.b32.tails = 8388608 := rfl
    have he : FP.Core.b32.exps = 256 := rfl
    have hq : FP.Core.b32.qmin = -149 := rfl
    have hm : FP.Core.b32.qmax = 104 := rfl
    have hp : (2 : Nat) ^ FP.Core.b32.p = 16777216 := rfl
    rw [e2]
    have hs : (decide ((n : Int) < 0)).toNat ≤ 1 := Bool.toNat_le _
    rcases zround FP.Core.b32 (by rw [ht, hp]; decide) (decide ((n : Int) < 0)) (n : Int).natAbs 1 0 with h | h | ⟨c, q, h, h1, h2⟩
    · rw [h]
      unfold FP.Core.encode FP.Core.assemble
      simp only [ht, he, hq]
      split <;> omega
    · rw [h]
      unfold FP.Core.encode FP.Core.assemble
      simp only [ht, he]
      omega
    · rw [h]
      rw [hp] at h1
      rw [hm] at h2
      unfold FP.Core.encode FP.Core.assemble
      simp only [ht, he, hq]
      split <;> omega
theorem zi2d {n : Nat} (hn : n < 400) : ∃ s c q, FP.Core.decode FP.Core.b64 (FP.i2d (nI n)).toNat = .fin s c q ∧ (n ≠ 0 → c ≠ 0) := by
  obtain ⟨s, c, q, h1, h2⟩ := zfpD_of hn
  refine ⟨s, c, q, ?_, h2⟩
  have e1 : (FP.i2d (nI n)).toNat = FP.Core.fromInt FP.Core.b64 (n : Int) % 2 ^ 64 := by
    show (UInt64.ofNat (FP.Core.fromInt FP.Core.b64 (nI n).toInt)).toNat = _
    rw [nI_toInt (by omega), UInt64.toNat_ofNat']
  rw [e1, Nat.mod_eq_of_lt]
  · exact h1
  · have e2 : FP.Core.fromInt FP.Core.b64 (n : Int) = FP.Core.encode FP.Core.b64 (FP.Core.roundRatio FP.Core.b64 (decide ((n : Int) < 0)) (n : Int).natAbs 1 0) := rfl
    have ht : FP.Core.b64.tails = 4503599627370496 := rfl
    have he : FP.Core.b64.exps = 2048 := rfl
    have hq : FP.Core.b64.qmin = -1074 := rfl
    have hm : FP.Core.b64.qmax = 971 := rfl
    have hp : (2 : Nat) ^ FP.Core.b64.p = 9007199254740992 := rfl
    rw [e2]
    have hs : (decide ((n : Int) < 0)).toNat ≤ 1 := Bool.toNat_le _
    rcases zround FP.Core.b64 (by rw [ht, hp]; decide) (decide ((n : Int) < 0)) (n : Int).natAbs 1 0 with h | h | ⟨c, q, h, h1, h2⟩
    · rw [h]
      unfold FP.Core.encode FP.Core.assemble
      simp only [ht, he, hq]
      split <;> omega
    · rw [h]
      unfold FP.Core.encode FP.Core.assemble
      simp only [ht, he]
      omega
    · rw [h]
      rw [hp] at h1
      rw [hm] at h2
      unfold FP.Core.encode FP.Core.assemble
      simp only [ht, he, hq]
      split <;> omega
theorem zfdiv {a b : Nat} (ha : a < 22500) (hb : b < 22500) (h0 : b ≠ 0) : vf_n32 (FP.fdiv (FP.i2f (nI a)) (FP.i2f (nI b))) := by
  obtain ⟨s, c, q, h1, -⟩ := zi2f ha
  obtain ⟨s2, c2, q2, h2, h3⟩ := zi2f hb
  have e : FP.fdiv (FP.i2f (nI a)) (FP.i2f (nI b)) = UInt32.ofNat (FP.Core.encode FP.Core.b32 (FP.Core.roundRatio FP.Core.b32 (s != s2) c c2 (q - q2))) := by
    show UInt32.ofNat (FP.Core.encode FP.Core.b32 (FP.Core.quotient FP.Core.b32 (FP.Core.decode FP.Core.b32 (FP.i2f (nI a)).toNat) (FP.Core.decode FP.Core.b32 (FP.i2f (nI b)).toNat))) = _
    rw [h1, h2]
    show UInt32.ofNat (FP.Core.encode FP.Core.b32 (if c2 = 0 then _ else _)) = _
    rw [if_neg (h3 h0)]
  rw [e]
  have k := zenc32 (s != s2) c c2 (q - q2)
  unfold vf_n32
  rw [UInt32.le_iff_toNat_le, UInt32.toNat_and, UInt32.toNat_ofNat']
  have e2 : (0x7fffffff : UInt32).toNat = 2 ^ 31 - 1 := rfl
  rw [e2, Nat.and_two_pow_sub_one_eq_mod]
  show _ ≤ 0x7f800000
  omega
theorem zddiv {a b : Nat} (ha : a < 400) (hb : b < 400) (h0 : b ≠ 0) : vf_n64 (FP.ddiv (FP.i2d (nI a)) (FP.i2d (nI b))) := by
  obtain ⟨s, c, q, h1, -⟩ := zi2d ha
  obtain ⟨s2, c2, q2, h2, h3⟩ := zi2d hb
  have e : FP.ddiv (FP.i2d (nI a)) (FP.i2d (nI b)) = UInt64.ofNat (FP.Core.encode FP.Core.b64 (FP.Core.roundRatio FP.Core.b64 (s != s2) c c2 (q - q2))) := by
    show UInt64.ofNat (FP.Core.encode FP.Core.b64 (FP.Core.quotient FP.Core.b64 (FP.Core.decode FP.Core.b64 (FP.i2d (nI a)).toNat) (FP.Core.decode FP.Core.b64 (FP.i2d (nI b)).toNat))) = _
    rw [h1, h2]
    show UInt64.ofNat (FP.Core.encode FP.Core.b64 (if c2 = 0 then _ else _)) = _
    rw [if_neg (h3 h0)]
  rw [e]
  have k := zenc64 (s != s2) c c2 (q - q2)
  unfold vf_n64
  rw [UInt64.le_iff_toNat_le, UInt64.toNat_and, UInt64.toNat_ofNat']
  have e2 : (0x7fffffffffffffff : UInt64).toNat = 2 ^ 63 - 1 := rfl
  rw [e2, Nat.and_two_pow_sub_one_eq_mod]
  show _ ≤ 0x7ff0000000000000
  omega
end ZFP
