/-! facts on floats and doubles: what is no NaN, what is finite, what is 0 -/
set_option maxRecDepth 100000

/-! ===== FP.Core.b32 ===== -/
theorem zqN32 : FP.Core.Fmt.qmin FP.Core.b32 = (-149 : Int) := by decide
theorem zqX32 : FP.Core.Fmt.qmax FP.Core.b32 = (104 : Int) := by decide
theorem zta32 : FP.Core.Fmt.tails FP.Core.b32 = 8388608 := by decide
theorem zex32 : FP.Core.Fmt.exps FP.Core.b32 = 256 := by decide
theorem zpp32 : (2 : Nat) ^ FP.Core.Fmt.p FP.Core.b32 = 16777216 := by decide
theorem zen32 {s : Bool} {c : Nat} {q : Int} (hc : c < 16777216) (hq : q ≤ (104 : Int)) : FP.Core.encode FP.Core.b32 (.fin s c q) < 2 * 2147483648 ∧ FP.Core.encode FP.Core.b32 (.fin s c q) % 2147483648 < 2139095040 ∧ (c ≠ 0 → FP.Core.encode FP.Core.b32 (.fin s c q) % 2147483648 ≠ 0) := by
  have hs : s.toNat ≤ 1 := by cases s <;> decide
  simp only [FP.Core.encode, FP.Core.assemble, zta32, zex32, zqN32]
  split
  · omega
  · omega
/-- the bits' measure by the last digit's weight -/
theorem zeb32 {s : Bool} {c : Nat} {q : Int} (hc : c < 16777216) (hc2 : 8388608 ≤ c) (hq : q ≤ (104 : Int)) (hq2 : (-149 : Int) ≤ q) : ((FP.Core.encode FP.Core.b32 (.fin s c q) % 2147483648 / 8388608 : Nat) : Int) = q - (-149 : Int) + 1 := by
  have hs : s.toNat ≤ 1 := by cases s <;> decide
  simp only [FP.Core.encode, FP.Core.assemble, zta32, zex32, zqN32]
  rw [if_neg (by omega)]
  omega
theorem zei32 {s : Bool} : FP.Core.encode FP.Core.b32 (.inf s) < 2 * 2147483648 ∧ FP.Core.encode FP.Core.b32 (.inf s) % 2147483648 = 2139095040 := by
  cases s <;> decide
theorem zdf32 {n : Nat} (h : n % 2147483648 < 2139095040) : ∃ (s : Bool) (c : Nat) (q : Int), FP.Core.decode FP.Core.b32 n = .fin s c q ∧ c < 16777216 ∧ (c = 0 ↔ n % 2147483648 = 0) ∧ (1 ≤ n % 2147483648 / 8388608 → 8388608 ≤ c ∧ q = (-149 : Int) + ((n % 2147483648 / 8388608 : Nat) : Int) - 1) ∧ (n % 2147483648 / 8388608 = 0 → q = (-149 : Int)) := by
  have hE : FP.Core.fieldE FP.Core.b32 n = n % 2147483648 / 8388608 := by simp only [FP.Core.fieldE, zta32, zex32]; omega
  have hT : FP.Core.fieldT FP.Core.b32 n = n % 8388608 := by simp only [FP.Core.fieldT, zta32]
  have hT2 : n % 8388608 < 8388608 := Nat.mod_lt _ (by decide)
  unfold FP.Core.decode
  rw [hE, hT, zex32, zqN32, zta32]
  rw [if_neg (by omega)]
  by_cases h0 : n % 2147483648 / 8388608 = 0
  · rw [if_pos h0]
    exact ⟨_, _, _, rfl, by omega, by omega, fun z => by omega, fun _ => rfl⟩
  · rw [if_neg h0]
    exact ⟨_, _, _, rfl, by omega, by omega, fun z => ⟨by omega, by omega⟩, fun z => absurd z h0⟩
theorem zdn32 {n : Nat} (h : n % 2147483648 ≤ 2139095040) : FP.Core.decode FP.Core.b32 n ≠ .nan := by
  by_cases h1 : n % 2147483648 < 2139095040
  · obtain ⟨s, c, q, e, -⟩ := zdf32 h1
    rw [e]; exact fun z => by cases z
  · have hE : FP.Core.fieldE FP.Core.b32 n = 256 - 1 := by simp only [FP.Core.fieldE, zta32, zex32]; omega
    have hT : FP.Core.fieldT FP.Core.b32 n = 0 := by simp only [FP.Core.fieldT, zta32]; omega
    unfold FP.Core.decode
    rw [hE, hT, zex32, if_pos rfl, if_pos rfl]
    exact fun z => by cases z
/-- what rounding answers: a number of the format, or an infinity -/
def zfm32 (d : FP.Core.Datum) : Prop := (∃ (s : Bool) (c : Nat) (q : Int), d = .fin s c q ∧ c < 16777216 ∧ q ≤ (104 : Int)) ∨ ∃ s, d = .inf s
theorem zbd32 {s : Bool} {c : Nat} {q : Int} (hc : c < 16777216) : zfm32 (FP.Core.bound FP.Core.b32 s c q) := by
  unfold FP.Core.bound
  rw [zqX32]
  split
  · exact Or.inl ⟨_, _, _, rfl, hc, by assumption⟩
  · exact Or.inr ⟨_, rfl⟩
theorem zst32 {s : Bool} {c : Nat} {q : Int} : zfm32 (FP.Core.settle FP.Core.b32 s c q) := by
  unfold FP.Core.settle
  rw [zpp32, zta32]
  split
  · exact zbd32 (by assumption)
  · exact zbd32 (by decide)
theorem zrr32 {s : Bool} {a b : Nat} {e : Int} : zfm32 (FP.Core.roundRatio FP.Core.b32 s a b e) := by
  unfold FP.Core.roundRatio
  split
  · exact Or.inl ⟨_, _, _, rfl, by decide, by rw [zqN32]; decide⟩
  · exact zst32
theorem zro32 {d : FP.Core.Datum} (h : d ≠ .nan) : zfm32 (FP.Core.round FP.Core.b32 d) := by
  cases d with
  | nan => exact absurd rfl h
  | inf s => exact Or.inr ⟨s, rfl⟩
  | fin s c q => exact zrr32
theorem zfe32 {d : FP.Core.Datum} (h : zfm32 d) : FP.Core.encode FP.Core.b32 d < 2 * 2147483648 ∧ FP.Core.encode FP.Core.b32 d % 2147483648 ≤ 2139095040 := by
  rcases h with ⟨s, c, q, rfl, hc, hq⟩ | ⟨s, rfl⟩
  · have := zen32 (s := s) hc hq; omega
  · have := zei32 (s := s); omega
def zok32 (v : UInt32) : Prop := v.toNat % 2147483648 < 2139095040
theorem zvn32 {v : UInt32} : vf_n32 v ↔ v.toNat % 2147483648 ≤ 2139095040 := by
  unfold vf_n32
  rw [UInt32.le_iff_toNat_le, UInt32.toNat_and]
  have e1 : (0x7fffffff : UInt32).toNat = 2 ^ 31 - 1 := by decide
  have e2 : (0x7f800000 : UInt32).toNat = 2139095040 := by decide
  rw [e1, e2, Nat.and_two_pow_sub_one_eq_mod]
theorem zon32 {v : UInt32} (h : zok32 v) : vf_n32 v := zvn32.mpr (Nat.le_of_lt h)
theorem zof32 {d : FP.Core.Datum} (h : zfm32 d) : vf_n32 (UInt32.ofNat (FP.Core.encode FP.Core.b32 d)) := by
  have := zfe32 h
  rw [zvn32, UInt32.toNat_ofNat']
  omega
theorem zde32 {v : UInt32} (h : vf_n32 v) : FP.Core.decode FP.Core.b32 v.toNat ≠ .nan := zdn32 (zvn32.mp h)
theorem znN32 {v : UInt32} (h : vf_n32 v) : FP.Core.isNaN FP.Core.b32 v.toNat = false := decide_eq_false (zde32 h)
theorem zms32 (v : UInt32) : (v &&& 0x7fffffff).toNat = v.toNat % 2147483648 := by
  rw [UInt32.toNat_and, show (0x7fffffff : UInt32).toNat = 2 ^ 31 - 1 by decide, Nat.and_two_pow_sub_one_eq_mod]
/-- a quotient of two, the last digits' weights known: finite -/
theorem zlead32 {a b : Nat} : FP.Core.leading a b ≤ (a.log2 : Int) - (b.log2 : Int) := by
  unfold FP.Core.leading
  simp only
  split <;> omega
theorem zfq32 {s : Bool} {a b : Nat} {e : Int} (h : (a.log2 : Int) - (b.log2 : Int) + e - 23 ≤ (104 : Int) - 1) : ∃ (t : Bool) (c : Nat) (q : Int), FP.Core.roundRatio FP.Core.b32 s a b e = .fin t c q ∧ c < 16777216 ∧ q ≤ (104 : Int) := by
  unfold FP.Core.roundRatio
  split
  · exact ⟨_, _, _, rfl, by decide, by rw [zqN32]; decide⟩
  · have hq : FP.Core.quantum FP.Core.b32 a b e ≤ (104 : Int) - 1 := by
      unfold FP.Core.quantum
      have := zlead32 (a := a) (b := b)
      rw [zqN32, show ((FP.Core.Fmt.p FP.Core.b32 : Nat) : Int) - 1 = 23 by decide]
      omega
    unfold FP.Core.roundAt FP.Core.settle FP.Core.bound
    rw [zpp32, zta32, zqX32]
    split
    · rw [if_pos (by omega)]; exact ⟨_, _, _, rfl, by assumption, by omega⟩
    · rw [if_pos (by omega)]; exact ⟨_, _, _, rfl, by decide, by omega⟩
/-- a whole number of c, not 0, times a power: its digits -/
theorem znz32 {s : Bool} {c : Nat} {e : Int} (hc : c ≠ 0) (hc2 : c < 2 ^ 32) (he : (-149 : Int) + 2 ≤ e - 23 + (c.log2 : Int)) (he2 : e ≤ (60 : Int)) : ∃ (m : Nat) (q : Int), FP.Core.roundRatio FP.Core.b32 s c 1 e = .fin s m q ∧ 8388608 ≤ m ∧ m < 16777216 ∧ e + (c.log2 : Int) - 23 ≤ q ∧ q ≤ e + (c.log2 : Int) - 23 + 1 := by
  have hl : FP.Core.leading c 1 = (c.log2 : Int) := by
    unfold FP.Core.leading
    have h1 : (1 : Nat).log2 = 0 := by decide
    simp only [h1]
    have h2 : 2 ^ c.log2 ≤ c := Nat.log2_self_le hc
    rw [if_pos (by simpa using h2)]
    omega
  have hlg : c.log2 < 32 := (Nat.log2_lt hc).mpr hc2
  have hq : FP.Core.quantum FP.Core.b32 c 1 e = e + (c.log2 : Int) - 23 := by
    unfold FP.Core.quantum
    rw [hl, zqN32, show ((FP.Core.Fmt.p FP.Core.b32 : Nat) : Int) - 1 = 23 by decide]
    omega
  have hlo : 2 ^ c.log2 ≤ c := Nat.log2_self_le hc
  have hhi : c < 2 ^ (c.log2 + 1) := Nat.lt_log2_self
  have hn : 8388608 ≤ FP.Core.nearest (FP.Core.unitsNum c e (e + (c.log2 : Int) - 23)) (FP.Core.unitsDen 1 e (e + (c.log2 : Int) - 23)) ∧ FP.Core.nearest (FP.Core.unitsNum c e (e + (c.log2 : Int) - 23)) (FP.Core.unitsDen 1 e (e + (c.log2 : Int) - 23)) ≤ 16777216 := by
    unfold FP.Core.unitsNum FP.Core.unitsDen
    rcases Nat.lt_or_ge c.log2 (23 + 1) with hcase | hcase
    · have e1 : (e - (e + (c.log2 : Int) - 23)).toNat = 23 - c.log2 := by omega
      have e2 : (e + (c.log2 : Int) - 23 - e).toNat = 0 := by omega
      rw [e1, e2]
      have h1 : 2 ^ c.log2 * 2 ^ (23 - c.log2) = 8388608 := by rw [← Nat.pow_add, show c.log2 + (23 - c.log2) = 23 by omega]
      have h2 : 2 ^ (c.log2 + 1) * 2 ^ (23 - c.log2) = 16777216 := by rw [← Nat.pow_add, show c.log2 + 1 + (23 - c.log2) = 23 + 1 by omega]
      have h3 : 2 ^ c.log2 * 2 ^ (23 - c.log2) ≤ c * 2 ^ (23 - c.log2) := Nat.mul_le_mul_right _ hlo
      have h4 : c * 2 ^ (23 - c.log2) ≤ 2 ^ (c.log2 + 1) * 2 ^ (23 - c.log2) := Nat.mul_le_mul_right _ (Nat.le_of_lt hhi)
      have h5 : FP.Core.nearest (c * 2 ^ (23 - c.log2)) (1 * 2 ^ 0) = c * 2 ^ (23 - c.log2) := by
        unfold FP.Core.nearest
        simp [Nat.mod_one]
      rw [h5]
      omega
    · have e1 : (e - (e + (c.log2 : Int) - 23)).toNat = 0 := by omega
      have e2 : (e + (c.log2 : Int) - 23 - e).toNat = c.log2 - 23 := by omega
      rw [e1, e2, Nat.pow_zero, Nat.mul_one, Nat.one_mul]
      generalize hD : 2 ^ (c.log2 - 23) = Dn
      have hDp : 0 < Dn := by rw [← hD]; exact Nat.pow_pos (by decide)
      have h1 : 8388608 * Dn ≤ c := by
        have : 2 ^ 23 * 2 ^ (c.log2 - 23) = 2 ^ c.log2 := by rw [← Nat.pow_add, show 23 + (c.log2 - 23) = c.log2 by omega]
        rw [hD] at this
        have e3 : (2 : Nat) ^ 23 = 8388608 := by decide
        rw [e3] at this; omega
      have h2 : c < 16777216 * Dn := by
        have : 2 ^ (23 + 1) * 2 ^ (c.log2 - 23) = 2 ^ (c.log2 + 1) := by rw [← Nat.pow_add, show 23 + 1 + (c.log2 - 23) = c.log2 + 1 by omega]
        rw [hD] at this
        have e3 : (2 : Nat) ^ (23 + 1) = 16777216 := by decide
        rw [e3] at this; omega
      have h3 : 8388608 ≤ c / Dn := (Nat.le_div_iff_mul_le hDp).mpr h1
      have h4 : c / Dn < 16777216 := (Nat.div_lt_iff_lt_mul hDp).mpr h2
      unfold FP.Core.nearest
      split
      · omega
      · split
        · omega
        · have : c / Dn % 2 < 2 := Nat.mod_lt _ (by decide)
          omega
  unfold FP.Core.roundRatio
  rw [if_neg hc, hq]
  unfold FP.Core.roundAt FP.Core.settle FP.Core.bound
  rw [zpp32, zta32, zqX32]
  split
  · rw [if_pos (by omega)]; exact ⟨_, _, rfl, hn.1, by assumption, by omega, by omega⟩
  · rw [if_pos (by omega)]; exact ⟨_, _, rfl, by decide, by decide, by omega, by omega⟩

/-! ===== FP.Core.b64 ===== -/
theorem zqN64 : FP.Core.Fmt.qmin FP.Core.b64 = (-1074 : Int) := by decide
theorem zqX64 : FP.Core.Fmt.qmax FP.Core.b64 = (971 : Int) := by decide
theorem zta64 : FP.Core.Fmt.tails FP.Core.b64 = 4503599627370496 := by decide
theorem zex64 : FP.Core.Fmt.exps FP.Core.b64 = 2048 := by decide
theorem zpp64 : (2 : Nat) ^ FP.Core.Fmt.p FP.Core.b64 = 9007199254740992 := by decide
theorem zen64 {s : Bool} {c : Nat} {q : Int} (hc : c < 9007199254740992) (hq : q ≤ (971 : Int)) : FP.Core.encode FP.Core.b64 (.fin s c q) < 2 * 9223372036854775808 ∧ FP.Core.encode FP.Core.b64 (.fin s c q) % 9223372036854775808 < 9218868437227405312 ∧ (c ≠ 0 → FP.Core.encode FP.Core.b64 (.fin s c q) % 9223372036854775808 ≠ 0) := by
  have hs : s.toNat ≤ 1 := by cases s <;> decide
  simp only [FP.Core.encode, FP.Core.assemble, zta64, zex64, zqN64]
  split
  · omega
  · omega
/-- the bits' measure by the last digit's weight -/
theorem zeb64 {s : Bool} {c : Nat} {q : Int} (hc : c < 9007199254740992) (hc2 : 4503599627370496 ≤ c) (hq : q ≤ (971 : Int)) (hq2 : (-1074 : Int) ≤ q) : ((FP.Core.encode FP.Core.b64 (.fin s c q) % 9223372036854775808 / 4503599627370496 : Nat) : Int) = q - (-1074 : Int) + 1 := by
  have hs : s.toNat ≤ 1 := by cases s <;> decide
  simp only [FP.Core.encode, FP.Core.assemble, zta64, zex64, zqN64]
  rw [if_neg (by omega)]
  omega
theorem zei64 {s : Bool} : FP.Core.encode FP.Core.b64 (.inf s) < 2 * 9223372036854775808 ∧ FP.Core.encode FP.Core.b64 (.inf s) % 9223372036854775808 = 9218868437227405312 := by
  cases s <;> decide
theorem zdf64 {n : Nat} (h : n % 9223372036854775808 < 9218868437227405312) : ∃ (s : Bool) (c : Nat) (q : Int), FP.Core.decode FP.Core.b64 n = .fin s c q ∧ c < 9007199254740992 ∧ (c = 0 ↔ n % 9223372036854775808 = 0) ∧ (1 ≤ n % 9223372036854775808 / 4503599627370496 → 4503599627370496 ≤ c ∧ q = (-1074 : Int) + ((n % 9223372036854775808 / 4503599627370496 : Nat) : Int) - 1) ∧ (n % 9223372036854775808 / 4503599627370496 = 0 → q = (-1074 : Int)) := by
  have hE : FP.Core.fieldE FP.Core.b64 n = n % 9223372036854775808 / 4503599627370496 := by simp only [FP.Core.fieldE, zta64, zex64]; omega
  have hT : FP.Core.fieldT FP.Core.b64 n = n % 4503599627370496 := by simp only [FP.Core.fieldT, zta64]
  have hT2 : n % 4503599627370496 < 4503599627370496 := Nat.mod_lt _ (by decide)
  unfold FP.Core.decode
  rw [hE, hT, zex64, zqN64, zta64]
  rw [if_neg (by omega)]
  by_cases h0 : n % 9223372036854775808 / 4503599627370496 = 0
  · rw [if_pos h0]
    exact ⟨_, _, _, rfl, by omega, by omega, fun z => by omega, fun _ => rfl⟩
  · rw [if_neg h0]
    exact ⟨_, _, _, rfl, by omega, by omega, fun z => ⟨by omega, by omega⟩, fun z => absurd z h0⟩
theorem zdn64 {n : Nat} (h : n % 9223372036854775808 ≤ 9218868437227405312) : FP.Core.decode FP.Core.b64 n ≠ .nan := by
  by_cases h1 : n % 9223372036854775808 < 9218868437227405312
  · obtain ⟨s, c, q, e, -⟩ := zdf64 h1
    rw [e]; exact fun z => by cases z
  · have hE : FP.Core.fieldE FP.Core.b64 n = 2048 - 1 := by simp only [FP.Core.fieldE, zta64, zex64]; omega
    have hT : FP.Core.fieldT FP.Core.b64 n = 0 := by simp only [FP.Core.fieldT, zta64]; omega
    unfold FP.Core.decode
    rw [hE, hT, zex64, if_pos rfl, if_pos rfl]
    exact fun z => by cases z
/-- what rounding answers: a number of the format, or an infinity -/
def zfm64 (d : FP.Core.Datum) : Prop := (∃ (s : Bool) (c : Nat) (q : Int), d = .fin s c q ∧ c < 9007199254740992 ∧ q ≤ (971 : Int)) ∨ ∃ s, d = .inf s
theorem zbd64 {s : Bool} {c : Nat} {q : Int} (hc : c < 9007199254740992) : zfm64 (FP.Core.bound FP.Core.b64 s c q) := by
  unfold FP.Core.bound
  rw [zqX64]
  split
  · exact Or.inl ⟨_, _, _, rfl, hc, by assumption⟩
  · exact Or.inr ⟨_, rfl⟩
theorem zst64 {s : Bool} {c : Nat} {q : Int} : zfm64 (FP.Core.settle FP.Core.b64 s c q) := by
  unfold FP.Core.settle
  rw [zpp64, zta64]
  split
  · exact zbd64 (by assumption)
  · exact zbd64 (by decide)
theorem zrr64 {s : Bool} {a b : Nat} {e : Int} : zfm64 (FP.Core.roundRatio FP.Core.b64 s a b e) := by
  unfold FP.Core.roundRatio
  split
  · exact Or.inl ⟨_, _, _, rfl, by decide, by rw [zqN64]; decide⟩
  · exact zst64
theorem zro64 {d : FP.Core.Datum} (h : d ≠ .nan) : zfm64 (FP.Core.round FP.Core.b64 d) := by
  cases d with
  | nan => exact absurd rfl h
  | inf s => exact Or.inr ⟨s, rfl⟩
  | fin s c q => exact zrr64
theorem zfe64 {d : FP.Core.Datum} (h : zfm64 d) : FP.Core.encode FP.Core.b64 d < 2 * 9223372036854775808 ∧ FP.Core.encode FP.Core.b64 d % 9223372036854775808 ≤ 9218868437227405312 := by
  rcases h with ⟨s, c, q, rfl, hc, hq⟩ | ⟨s, rfl⟩
  · have := zen64 (s := s) hc hq; omega
  · have := zei64 (s := s); omega
def zok64 (v : UInt64) : Prop := v.toNat % 9223372036854775808 < 9218868437227405312
theorem zvn64 {v : UInt64} : vf_n64 v ↔ v.toNat % 9223372036854775808 ≤ 9218868437227405312 := by
  unfold vf_n64
  rw [UInt64.le_iff_toNat_le, UInt64.toNat_and]
  have e1 : (0x7fffffffffffffff : UInt64).toNat = 2 ^ 63 - 1 := by decide
  have e2 : (0x7ff0000000000000 : UInt64).toNat = 9218868437227405312 := by decide
  rw [e1, e2, Nat.and_two_pow_sub_one_eq_mod]
theorem zon64 {v : UInt64} (h : zok64 v) : vf_n64 v := zvn64.mpr (Nat.le_of_lt h)
theorem zof64 {d : FP.Core.Datum} (h : zfm64 d) : vf_n64 (UInt64.ofNat (FP.Core.encode FP.Core.b64 d)) := by
  have := zfe64 h
  rw [zvn64, UInt64.toNat_ofNat']
  omega
theorem zde64 {v : UInt64} (h : vf_n64 v) : FP.Core.decode FP.Core.b64 v.toNat ≠ .nan := zdn64 (zvn64.mp h)
theorem znN64 {v : UInt64} (h : vf_n64 v) : FP.Core.isNaN FP.Core.b64 v.toNat = false := decide_eq_false (zde64 h)
theorem zms64 (v : UInt64) : (v &&& 0x7fffffffffffffff).toNat = v.toNat % 9223372036854775808 := by
  rw [UInt64.toNat_and, show (0x7fffffffffffffff : UInt64).toNat = 2 ^ 63 - 1 by decide, Nat.and_two_pow_sub_one_eq_mod]
/-- a quotient of two, the last digits' weights known: finite -/
theorem zlead64 {a b : Nat} : FP.Core.leading a b ≤ (a.log2 : Int) - (b.log2 : Int) := by
  unfold FP.Core.leading
  simp only
  split <;> omega
theorem zfq64 {s : Bool} {a b : Nat} {e : Int} (h : (a.log2 : Int) - (b.log2 : Int) + e - 52 ≤ (971 : Int) - 1) : ∃ (t : Bool) (c : Nat) (q : Int), FP.Core.roundRatio FP.Core.b64 s a b e = .fin t c q ∧ c < 9007199254740992 ∧ q ≤ (971 : Int) := by
  unfold FP.Core.roundRatio
  split
  · exact ⟨_, _, _, rfl, by decide, by rw [zqN64]; decide⟩
  · have hq : FP.Core.quantum FP.Core.b64 a b e ≤ (971 : Int) - 1 := by
      unfold FP.Core.quantum
      have := zlead64 (a := a) (b := b)
      rw [zqN64, show ((FP.Core.Fmt.p FP.Core.b64 : Nat) : Int) - 1 = 52 by decide]
      omega
    unfold FP.Core.roundAt FP.Core.settle FP.Core.bound
    rw [zpp64, zta64, zqX64]
    split
    · rw [if_pos (by omega)]; exact ⟨_, _, _, rfl, by assumption, by omega⟩
    · rw [if_pos (by omega)]; exact ⟨_, _, _, rfl, by decide, by omega⟩
/-- a whole number of c, not 0, times a power: its digits -/
theorem znz64 {s : Bool} {c : Nat} {e : Int} (hc : c ≠ 0) (hc2 : c < 2 ^ 64) (he : (-1074 : Int) + 2 ≤ e - 52 + (c.log2 : Int)) (he2 : e ≤ (600 : Int)) : ∃ (m : Nat) (q : Int), FP.Core.roundRatio FP.Core.b64 s c 1 e = .fin s m q ∧ 4503599627370496 ≤ m ∧ m < 9007199254740992 ∧ e + (c.log2 : Int) - 52 ≤ q ∧ q ≤ e + (c.log2 : Int) - 52 + 1 := by
  have hl : FP.Core.leading c 1 = (c.log2 : Int) := by
    unfold FP.Core.leading
    have h1 : (1 : Nat).log2 = 0 := by decide
    simp only [h1]
    have h2 : 2 ^ c.log2 ≤ c := Nat.log2_self_le hc
    rw [if_pos (by simpa using h2)]
    omega
  have hlg : c.log2 < 64 := (Nat.log2_lt hc).mpr hc2
  have hq : FP.Core.quantum FP.Core.b64 c 1 e = e + (c.log2 : Int) - 52 := by
    unfold FP.Core.quantum
    rw [hl, zqN64, show ((FP.Core.Fmt.p FP.Core.b64 : Nat) : Int) - 1 = 52 by decide]
    omega
  have hlo : 2 ^ c.log2 ≤ c := Nat.log2_self_le hc
  have hhi : c < 2 ^ (c.log2 + 1) := Nat.lt_log2_self
  have hn : 4503599627370496 ≤ FP.Core.nearest (FP.Core.unitsNum c e (e + (c.log2 : Int) - 52)) (FP.Core.unitsDen 1 e (e + (c.log2 : Int) - 52)) ∧ FP.Core.nearest (FP.Core.unitsNum c e (e + (c.log2 : Int) - 52)) (FP.Core.unitsDen 1 e (e + (c.log2 : Int) - 52)) ≤ 9007199254740992 := by
    unfold FP.Core.unitsNum FP.Core.unitsDen
    rcases Nat.lt_or_ge c.log2 (52 + 1) with hcase | hcase
    · have e1 : (e - (e + (c.log2 : Int) - 52)).toNat = 52 - c.log2 := by omega
      have e2 : (e + (c.log2 : Int) - 52 - e).toNat = 0 := by omega
      rw [e1, e2]
      have h1 : 2 ^ c.log2 * 2 ^ (52 - c.log2) = 4503599627370496 := by rw [← Nat.pow_add, show c.log2 + (52 - c.log2) = 52 by omega]
      have h2 : 2 ^ (c.log2 + 1) * 2 ^ (52 - c.log2) = 9007199254740992 := by rw [← Nat.pow_add, show c.log2 + 1 + (52 - c.log2) = 52 + 1 by omega]
      have h3 : 2 ^ c.log2 * 2 ^ (52 - c.log2) ≤ c * 2 ^ (52 - c.log2) := Nat.mul_le_mul_right _ hlo
      have h4 : c * 2 ^ (52 - c.log2) ≤ 2 ^ (c.log2 + 1) * 2 ^ (52 - c.log2) := Nat.mul_le_mul_right _ (Nat.le_of_lt hhi)
      have h5 : FP.Core.nearest (c * 2 ^ (52 - c.log2)) (1 * 2 ^ 0) = c * 2 ^ (52 - c.log2) := by
        unfold FP.Core.nearest
        simp [Nat.mod_one]
      rw [h5]
      omega
    · have e1 : (e - (e + (c.log2 : Int) - 52)).toNat = 0 := by omega
      have e2 : (e + (c.log2 : Int) - 52 - e).toNat = c.log2 - 52 := by omega
      rw [e1, e2, Nat.pow_zero, Nat.mul_one, Nat.one_mul]
      generalize hD : 2 ^ (c.log2 - 52) = Dn
      have hDp : 0 < Dn := by rw [← hD]; exact Nat.pow_pos (by decide)
      have h1 : 4503599627370496 * Dn ≤ c := by
        have : 2 ^ 52 * 2 ^ (c.log2 - 52) = 2 ^ c.log2 := by rw [← Nat.pow_add, show 52 + (c.log2 - 52) = c.log2 by omega]
        rw [hD] at this
        have e3 : (2 : Nat) ^ 52 = 4503599627370496 := by decide
        rw [e3] at this; omega
      have h2 : c < 9007199254740992 * Dn := by
        have : 2 ^ (52 + 1) * 2 ^ (c.log2 - 52) = 2 ^ (c.log2 + 1) := by rw [← Nat.pow_add, show 52 + 1 + (c.log2 - 52) = c.log2 + 1 by omega]
        rw [hD] at this
        have e3 : (2 : Nat) ^ (52 + 1) = 9007199254740992 := by decide
        rw [e3] at this; omega
      have h3 : 4503599627370496 ≤ c / Dn := (Nat.le_div_iff_mul_le hDp).mpr h1
      have h4 : c / Dn < 9007199254740992 := (Nat.div_lt_iff_lt_mul hDp).mpr h2
      unfold FP.Core.nearest
      split
      · omega
      · split
        · omega
        · have : c / Dn % 2 < 2 := Nat.mod_lt _ (by decide)
          omega
  unfold FP.Core.roundRatio
  rw [if_neg hc, hq]
  unfold FP.Core.roundAt FP.Core.settle FP.Core.bound
  rw [zpp64, zta64, zqX64]
  split
  · rw [if_pos (by omega)]; exact ⟨_, _, rfl, hn.1, by assumption, by omega, by omega⟩
  · rw [if_pos (by omega)]; exact ⟨_, _, rfl, by decide, by decide, by omega, by omega⟩

/-! ===== what the rows need ===== -/
theorem z32n {d : FP.Core.Datum} (h : zfm32 d) : (UInt32.ofNat (FP.Core.encode FP.Core.b32 d)).toNat = FP.Core.encode FP.Core.b32 d := by
  have := (zfe32 h).1
  rw [UInt32.toNat_ofNat']
  exact Nat.mod_eq_of_lt (by omega)
theorem z64n {d : FP.Core.Datum} (h : zfm64 d) : (UInt64.ofNat (FP.Core.encode FP.Core.b64 d)).toNat = FP.Core.encode FP.Core.b64 d := by
  have := (zfe64 h).1
  rw [UInt64.toNat_ofNat']
  exact Nat.mod_eq_of_lt (by omega)
theorem zlg {n : Nat} (h0 : n ≠ 0) (h : n ≤ 2 ^ 31) : n.log2 ≤ 31 := by
  have : n.log2 < 32 := (Nat.log2_lt h0).mpr (by omega)
  omega
theorem zlg63 {n : Nat} (h0 : n ≠ 0) (h : n ≤ 2 ^ 63) : n.log2 ≤ 63 := by
  have : n.log2 < 64 := (Nat.log2_lt h0).mpr (by omega)
  omega
/-- a whole number as a float: its measure -/
theorem zi32 (i : Int) (h : i.natAbs ≤ 2 ^ 31) : (UInt32.ofNat (FP.Core.fromInt FP.Core.b32 i)).toNat % 2147483648 < 2139095040 ∧ (UInt32.ofNat (FP.Core.fromInt FP.Core.b32 i)).toNat % 2147483648 / 8388608 ≤ 159 ∧ (i ≠ 0 → 127 ≤ (UInt32.ofNat (FP.Core.fromInt FP.Core.b32 i)).toNat % 2147483648 / 8388608) := by
  have e0 : (UInt32.ofNat (FP.Core.fromInt FP.Core.b32 i)).toNat = FP.Core.encode FP.Core.b32 (FP.Core.roundRatio FP.Core.b32 (decide (i < 0)) i.natAbs 1 0) := z32n zrr32
  rw [e0]
  by_cases hv : i.natAbs = 0
  · have hv0 : i = 0 := by omega
    subst hv0
    refine ⟨by decide, by decide, fun z => absurd rfl z⟩
  · have hl := zlg hv h
    obtain ⟨m, q, e1, h1, h2, h3, h4⟩ := znz32 (s := decide (i < 0)) (e := 0) hv (by omega) (by omega) (by omega)
    rw [e1]
    have h5 := zeb32 (s := decide (i < 0)) h2 h1 (q := q) (by omega) (by omega)
    have h6 := zen32 (s := decide (i < 0)) h2 (q := q) (by omega)
    exact ⟨h6.2.1, by omega, fun _ => by omega⟩
theorem zi64 (i : Int) (h : i.natAbs ≤ 2 ^ 63) : (UInt64.ofNat (FP.Core.fromInt FP.Core.b64 i)).toNat % 9223372036854775808 < 9218868437227405312 ∧ (i.natAbs ≤ 2 ^ 31 → (UInt64.ofNat (FP.Core.fromInt FP.Core.b64 i)).toNat % 9223372036854775808 / 4503599627370496 ≤ 1055) ∧ (i ≠ 0 → 1023 ≤ (UInt64.ofNat (FP.Core.fromInt FP.Core.b64 i)).toNat % 9223372036854775808 / 4503599627370496) := by
  have e0 : (UInt64.ofNat (FP.Core.fromInt FP.Core.b64 i)).toNat = FP.Core.encode FP.Core.b64 (FP.Core.roundRatio FP.Core.b64 (decide (i < 0)) i.natAbs 1 0) := z64n zrr64
  rw [e0]
  by_cases hv : i.natAbs = 0
  · have hv0 : i = 0 := by omega
    subst hv0
    refine ⟨by decide, fun _ => by decide, fun z => absurd rfl z⟩
  · have hl := zlg63 hv h
    obtain ⟨m, q, e1, h1, h2, h3, h4⟩ := znz64 (s := decide (i < 0)) (e := 0) hv (by omega) (by omega) (by omega)
    rw [e1]
    have h5 := zeb64 (s := decide (i < 0)) h2 h1 (q := q) (by omega) (by omega)
    have h6 := zen64 (s := decide (i < 0)) h2 (q := q) (by omega)
    refine ⟨h6.2.1, fun h7 => ?_, fun _ => by omega⟩
    have := zlg hv h7
    omega
theorem zin0 {v : Int32} (h : v ≠ 0) : v.toInt ≠ 0 := fun z => h (Int32.toInt_inj.mp z)
theorem zin0L {v : Int64} (h : v ≠ 0) : v.toInt ≠ 0 := fun z => h (Int64.toInt_inj.mp z)
theorem zL63 (v : Int64) : v.toInt.natAbs ≤ 2 ^ 63 := by
  have h1 := Int64.toInt_lt v
  have h2 := Int64.le_toInt v
  omega
theorem zfd32 {a b : Int32} (h : b ≠ 0) : zok32 (FP.fdiv (FP.i2f a) (FP.i2f b)) := by
  obtain ⟨a1, a2, -⟩ := zi32 a.toInt (zab_lt a)
  obtain ⟨b1', b2, b3⟩ := zi32 b.toInt (zab_lt b)
  replace b3 := b3 (zin0 h)
  obtain ⟨s, c, q, ea, hc, -, hq1, hq2⟩ := zdf32 a1
  obtain ⟨t, d, r, eb, hd, -, hr1, -⟩ := zdf32 b1'
  obtain ⟨hr2, hr3⟩ := hr1 (by omega)
  have hlc : c.log2 ≤ 23 := by
    by_cases z : c = 0
    · subst z; decide
    · have : c.log2 < 24 := (Nat.log2_lt z).mpr (by omega)
      omega
  have hld : 23 ≤ d.log2 := (Nat.le_log2 (by omega)).mpr (by omega)
  have hq : q ≤ -149 + 158 := by
    by_cases z : (UInt32.ofNat (FP.Core.fromInt FP.Core.b32 a.toInt)).toNat % 2147483648 / 8388608 = 0
    · have := hq2 z; omega
    · have := (hq1 (by omega)).2; omega
  have e1 : FP.fdiv (FP.i2f a) (FP.i2f b) = UInt32.ofNat (FP.Core.encode FP.Core.b32 (FP.Core.roundRatio FP.Core.b32 (s != t) c d (q - r))) := by
    show UInt32.ofNat (FP.Core.encode FP.Core.b32 (FP.Core.quotient FP.Core.b32 (FP.Core.decode FP.Core.b32 (FP.i2f a).toNat) (FP.Core.decode FP.Core.b32 (FP.i2f b).toNat))) = _
    rw [show FP.Core.decode FP.Core.b32 (FP.i2f a).toNat = .fin s c q from ea, show FP.Core.decode FP.Core.b32 (FP.i2f b).toNat = .fin t d r from eb]
    unfold FP.Core.quotient
    simp only
    rw [if_neg (by omega)]
  obtain ⟨t', c', q', e2, h2, h3⟩ := zfq32 (s := s != t) (a := c) (b := d) (e := q - r) (by omega)
  unfold zok32
  rw [e1, z32n zrr32, e2]
  exact (zen32 h2 h3).2.1
theorem zfd64 {a b : Int32} (h : b ≠ 0) : zok64 (FP.ddiv (FP.i2d a) (FP.i2d b)) := by
  have ha := zab_lt a
  have hb := zab_lt b
  unfold zab at ha hb
  obtain ⟨a1, a2, -⟩ := zi64 a.toInt (by omega)
  obtain ⟨b1', b2, b3⟩ := zi64 b.toInt (by omega)
  replace b3 := b3 (zin0 h)
  replace a2 := a2 ha
  obtain ⟨s, c, q, ea, hc, -, hq1, hq2⟩ := zdf64 a1
  obtain ⟨t, d, r, eb, hd, -, hr1, -⟩ := zdf64 b1'
  obtain ⟨hr2, hr3⟩ := hr1 (by omega)
  have hlc : c.log2 ≤ 52 := by
    by_cases z : c = 0
    · subst z; decide
    · have : c.log2 < 53 := (Nat.log2_lt z).mpr (by omega)
      omega
  have hld : 52 ≤ d.log2 := (Nat.le_log2 (by omega)).mpr (by omega)
  have hq : q ≤ -1074 + 1054 := by
    by_cases z : (UInt64.ofNat (FP.Core.fromInt FP.Core.b64 a.toInt)).toNat % 9223372036854775808 / 4503599627370496 = 0
    · have := hq2 z; omega
    · have := (hq1 (by omega)).2; omega
  have e1 : FP.ddiv (FP.i2d a) (FP.i2d b) = UInt64.ofNat (FP.Core.encode FP.Core.b64 (FP.Core.roundRatio FP.Core.b64 (s != t) c d (q - r))) := by
    show UInt64.ofNat (FP.Core.encode FP.Core.b64 (FP.Core.quotient FP.Core.b64 (FP.Core.decode FP.Core.b64 (FP.i2d a).toNat) (FP.Core.decode FP.Core.b64 (FP.i2d b).toNat))) = _
    rw [show FP.Core.decode FP.Core.b64 (FP.i2d a).toNat = .fin s c q from ea, show FP.Core.decode FP.Core.b64 (FP.i2d b).toNat = .fin t d r from eb]
    unfold FP.Core.quotient
    simp only
    rw [if_neg (by omega)]
  obtain ⟨t', c', q', e2, h2, h3⟩ := zfq64 (s := s != t) (a := c) (b := d) (e := q - r) (by omega)
  unfold zok64
  rw [e1, z64n zrr64, e2]
  exact (zen64 h2 h3).2.1
theorem zsg0 {t : Bool} {n : Nat} : FP.Core.signed t n = 0 ↔ n = 0 := by
  unfold FP.Core.signed; split <;> omega
theorem ziu0 {c : Nat} {q e : Int} : FP.Core.inUnits c q e = 0 ↔ c = 0 := by
  unfold FP.Core.inUnits
  have : 0 < 2 ^ (q - e).toNat := Nat.pow_pos (by decide)
  constructor
  · intro h; rcases Nat.mul_eq_zero.mp h with h | h <;> omega
  · intro h; rw [h, Nat.zero_mul]
theorem zcv0 {i : Int} : (Op.cmpValue (some (compare i 0)) .l = 0) ↔ i = 0 := by
  rcases Int.lt_trichotomy i 0 with h | h | h
  · rw [show compare i 0 = .lt from by show compareOfLessAndEq i 0 = .lt; unfold compareOfLessAndEq; rw [if_pos h]]
    exact ⟨fun z => absurd z (by decide), fun z => by omega⟩
  · subst h; exact ⟨fun _ => rfl, fun _ => by decide⟩
  · rw [show compare i 0 = .gt from by show compareOfLessAndEq i 0 = .gt; unfold compareOfLessAndEq; rw [if_neg (by omega), if_neg (by omega)]]
    exact ⟨fun z => absurd z (by decide), fun z => by omega⟩
theorem zcm32 {x : UInt32} (hx : zok32 x) : (Op.cmpValue (FP.fcmp x FP.fconst0) .l = 0) ↔ x.toNat % 2147483648 = 0 := by
  obtain ⟨s, c, q, ea, hc, h0, -⟩ := zdf32 hx
  have e1 : FP.fcmp x FP.fconst0 = FP.Core.order (FP.Core.decode FP.Core.b32 x.toNat) (FP.Core.decode FP.Core.b32 0) := rfl
  have e2 : FP.Core.decode FP.Core.b32 0 = .fin false 0 (-149) := by decide
  rw [e1, ea, e2]
  unfold FP.Core.order
  simp only
  rw [show FP.Core.signed false (FP.Core.inUnits 0 (-149) (min q (-149))) = 0 from zsg0.mpr (ziu0.mpr rfl), zcv0, zsg0, ziu0, h0]
theorem zcm64 {x : UInt64} (hx : zok64 x) : (Op.cmpValue (FP.dcmp x FP.dconst0) .l = 0) ↔ x.toNat % 9223372036854775808 = 0 := by
  obtain ⟨s, c, q, ea, hc, h0, -⟩ := zdf64 hx
  have e1 : FP.dcmp x FP.dconst0 = FP.Core.order (FP.Core.decode FP.Core.b64 x.toNat) (FP.Core.decode FP.Core.b64 0) := rfl
  have e2 : FP.Core.decode FP.Core.b64 0 = .fin false 0 (-1074) := by decide
  rw [e1, ea, e2]
  unfold FP.Core.order
  simp only
  rw [show FP.Core.signed false (FP.Core.inUnits 0 (-1074) (min q (-1074))) = 0 from zsg0.mpr (ziu0.mpr rfl), zcv0, zsg0, ziu0, h0]
theorem zfr32 {x y : UInt32} (hx : zok32 x) (hy : zok32 y) (h : ¬ Op.cmpValue (FP.fcmp y FP.fconst0) .l = 0) : vf_n32 (FP.frem x y) ∧ vf_n32 (FP.fmul (FP.frem x y) (1148846080 : UInt32)) := by
  rw [zcm32 hy] at h
  obtain ⟨s, c, q, ea, -⟩ := zdf32 hx
  obtain ⟨t, d, r, eb, -, h0, -⟩ := zdf32 hy
  have h1 : vf_n32 (FP.frem x y) := by
    have e1 : FP.frem x y = UInt32.ofNat (FP.Core.encode FP.Core.b32 (FP.Core.round FP.Core.b32 (FP.Core.exactRemainder (FP.Core.decode FP.Core.b32 x.toNat) (FP.Core.decode FP.Core.b32 y.toNat)))) := rfl
    rw [e1, ea, eb]
    refine zof32 (zro32 ?_)
    unfold FP.Core.exactRemainder
    simp only
    rw [if_neg (fun z => h (h0.mp z))]
    exact fun z => by cases z
  refine ⟨h1, ?_⟩
  have e1 : FP.fmul (FP.frem x y) (1148846080 : UInt32) = UInt32.ofNat (FP.Core.encode FP.Core.b32 (FP.Core.round FP.Core.b32 (FP.Core.exactProduct (FP.Core.decode FP.Core.b32 (FP.frem x y).toNat) (FP.Core.decode FP.Core.b32 1148846080)))) := rfl
  have e2 : FP.Core.decode FP.Core.b32 1148846080 = .fin false 16384000 (-14) := by decide
  rw [e1, e2]
  refine zof32 (zro32 ?_)
  have h2 := zde32 h1
  cases hd : FP.Core.decode FP.Core.b32 (FP.frem x y).toNat with
  | nan => exact absurd hd h2
  | inf s => unfold FP.Core.exactProduct; simp
  | fin s c q => unfold FP.Core.exactProduct; simp
theorem zfr64 {x y : UInt64} (hx : zok64 x) (hy : zok64 y) (h : ¬ Op.cmpValue (FP.dcmp y FP.dconst0) .l = 0) : vf_n64 (FP.drem x y) ∧ vf_n64 (FP.dmul (FP.drem x y) (4652007308841189376 : UInt64)) := by
  rw [zcm64 hy] at h
  obtain ⟨s, c, q, ea, -⟩ := zdf64 hx
  obtain ⟨t, d, r, eb, -, h0, -⟩ := zdf64 hy
  have h1 : vf_n64 (FP.drem x y) := by
    have e1 : FP.drem x y = UInt64.ofNat (FP.Core.encode FP.Core.b64 (FP.Core.round FP.Core.b64 (FP.Core.exactRemainder (FP.Core.decode FP.Core.b64 x.toNat) (FP.Core.decode FP.Core.b64 y.toNat)))) := rfl
    rw [e1, ea, eb]
    refine zof64 (zro64 ?_)
    unfold FP.Core.exactRemainder
    simp only
    rw [if_neg (fun z => h (h0.mp z))]
    exact fun z => by cases z
  refine ⟨h1, ?_⟩
  have e1 : FP.dmul (FP.drem x y) (4652007308841189376 : UInt64) = UInt64.ofNat (FP.Core.encode FP.Core.b64 (FP.Core.round FP.Core.b64 (FP.Core.exactProduct (FP.Core.decode FP.Core.b64 (FP.drem x y).toNat) (FP.Core.decode FP.Core.b64 4652007308841189376)))) := rfl
  have e2 : FP.Core.decode FP.Core.b64 4652007308841189376 = .fin false 8796093022208000 (-43) := by decide
  rw [e1, e2]
  refine zof64 (zro64 ?_)
  have h2 := zde64 h1
  cases hd : FP.Core.decode FP.Core.b64 (FP.drem x y).toNat with
  | nan => exact absurd hd h2
  | inf s => unfold FP.Core.exactProduct; simp
  | fin s c q => unfold FP.Core.exactProduct; simp
theorem zfD {v : UInt32} (h : zok32 v) : zok64 (FP.f2d v) ∧ ((FP.f2d v).toNat % 9223372036854775808 = 0 ↔ v.toNat % 2147483648 = 0) := by
  have hn : FP.Core.fIsNaN v = false := znN32 (zon32 h)
  have e1 : FP.f2d v = UInt64.ofNat (FP.Core.encode FP.Core.b64 (FP.Core.round FP.Core.b64 (FP.Core.decode FP.Core.b32 v.toNat))) := by
    unfold FP.f2d
    rw [if_neg (by rw [hn]; decide)]
    rfl
  obtain ⟨s, c, q, ea, hc, h0, hq1, hq2⟩ := zdf32 h
  have hE : v.toNat % 2147483648 / 8388608 ≤ 254 := by unfold zok32 at h; omega
  have hq : -149 ≤ q ∧ q ≤ 104 := by
    by_cases z : v.toNat % 2147483648 / 8388608 = 0
    · have := hq2 z; omega
    · have := (hq1 (by omega)).2; omega
  have e2 : FP.Core.round FP.Core.b64 (.fin s c q) = FP.Core.roundRatio FP.Core.b64 s c 1 q := rfl
  rw [e1, ea, e2]
  unfold zok64
  by_cases hz : c = 0
  · subst hz
    have e3 : FP.Core.roundRatio FP.Core.b64 s 0 1 q = .fin s 0 FP.Core.b64.qmin := by unfold FP.Core.roundRatio; rw [if_pos rfl]
    rw [e3]
    have e4 : (UInt64.ofNat (FP.Core.encode FP.Core.b64 (.fin s 0 FP.Core.b64.qmin))).toNat % 9223372036854775808 = 0 := by cases s <;> decide
    rw [e4]
    exact ⟨by decide, by rw [← h0]⟩
  · have hl : c.log2 ≤ 23 := by
      have : c.log2 < 24 := (Nat.log2_lt hz).mpr (by omega)
      omega
    obtain ⟨m, r, e3, h1, h2, h3, h4⟩ := znz64 (s := s) (e := q) hz (by omega) (by omega) (by omega)
    rw [z64n zrr64, e3]
    have h5 := zen64 (s := s) h2 (q := r) (by omega)
    exact ⟨h5.2.1, ⟨fun z => absurd z (h5.2.2 (by omega)), fun z => absurd (h0.mpr z) hz⟩⟩
theorem zcmD {v : UInt32} (h : zok32 v) : (Op.cmpValue (FP.dcmp (FP.f2d v) FP.dconst0) .l = 0) ↔ (Op.cmpValue (FP.fcmp v FP.fconst0) .l = 0) := by
  rw [zcm64 (zfD h).1, zcm32 h, (zfD h).2]
theorem zlD (v : Int64) : zok64 (FP.l2d v) ∧ ((FP.l2d v).toNat % 9223372036854775808 = 0 ↔ v = 0) := by
  obtain ⟨h1, -, h3⟩ := zi64 v.toInt (zL63 v)
  refine ⟨h1, ⟨fun z => ?_, fun z => ?_⟩⟩
  · by_cases hv : v = 0
    · exact hv
    · have h4 := h3 (zin0L hv)
      have z' : (UInt64.ofNat (FP.Core.fromInt FP.Core.b64 v.toInt)).toNat % 9223372036854775808 = 0 := z
      omega
  · subst z; decide
theorem zcmL (v : Int64) : (Op.cmpValue (FP.dcmp (FP.l2d v) FP.dconst0) .l = 0) ↔ v = 0 := by
  rw [zcm64 (zlD v).1, (zlD v).2]
theorem zmN {y x : UInt64} (hy : vf_n64 y) (hx : zok64 x) (h : x.toNat % 9223372036854775808 ≠ 0) : vf_n64 (FP.dmul y x) := by
  obtain ⟨t, d, r, eb, -, h0, -⟩ := zdf64 hx
  have e1 : FP.dmul y x = UInt64.ofNat (FP.Core.encode FP.Core.b64 (FP.Core.round FP.Core.b64 (FP.Core.exactProduct (FP.Core.decode FP.Core.b64 y.toNat) (FP.Core.decode FP.Core.b64 x.toNat)))) := rfl
  rw [e1, eb]
  refine zof64 (zro64 ?_)
  have h2 := zde64 hy
  have hd : d ≠ 0 := fun z => h (h0.mp z)
  cases hd2 : FP.Core.decode FP.Core.b64 y.toNat with
  | nan => exact absurd hd2 h2
  | inf s => unfold FP.Core.exactProduct; simp [hd]
  | fin s c q => unfold FP.Core.exactProduct; simp
theorem zaN {y x : UInt64} (hy : vf_n64 y) (hx : zok64 x) : vf_n64 (FP.dadd x y) ∧ vf_n64 (FP.dsub y x) := by
  obtain ⟨t, d, r, eb, -, h0, -⟩ := zdf64 hx
  have h2 := zde64 hy
  constructor
  · have e1 : FP.dadd x y = UInt64.ofNat (FP.Core.encode FP.Core.b64 (FP.Core.round FP.Core.b64 (FP.Core.exactSum (FP.Core.decode FP.Core.b64 x.toNat) (FP.Core.decode FP.Core.b64 y.toNat)))) := rfl
    rw [e1, eb]
    refine zof64 (zro64 ?_)
    cases hd2 : FP.Core.decode FP.Core.b64 y.toNat with
    | nan => exact absurd hd2 h2
    | inf s => unfold FP.Core.exactSum; simp
    | fin s c q => unfold FP.Core.exactSum; simp
  · have e1 : FP.dsub y x = UInt64.ofNat (FP.Core.encode FP.Core.b64 (FP.Core.round FP.Core.b64 (FP.Core.exactSum (FP.Core.decode FP.Core.b64 y.toNat) (FP.Core.negate (FP.Core.decode FP.Core.b64 x.toNat))))) := rfl
    rw [e1, eb]
    refine zof64 (zro64 ?_)
    cases hd2 : FP.Core.decode FP.Core.b64 y.toNat with
    | nan => exact absurd hd2 h2
    | inf s => unfold FP.Core.exactSum FP.Core.negate; simp
    | fin s c q => unfold FP.Core.exactSum FP.Core.negate; simp
theorem zcps1 (z : UInt64) : zok64 (zcps FP.dconst1 z) ∧ (zcps FP.dconst1 z).toNat % 9223372036854775808 ≠ 0 := by
  unfold zcps zok64
  split
  · exact ⟨by decide, by decide⟩
  · exact ⟨by decide, by decide⟩
theorem zrok {z : UInt64} (hz : vf_n64 z) : zrintok z := by
  have hm : vf_n64 (z &&& 0x7fffffffffffffff) := by
    unfold vf_n64 at hz ⊢
    rw [UInt64.and_assoc, UInt64.and_self]; exact hz
  have h52 : zok64 (4841369599423283200 : UInt64) := by unfold zok64; decide
  have hr : vf_n64 (zrint1 z) := by
    unfold zrint1
    split
    · exact hm
    · exact (zaN (zaN hm h52).1 h52).2
  have hc := zcps1 z
  have hR : vf_n64 (zrint z) := by
    unfold zrint
    have e1 : FP.dmul (zcps FP.dconst1 z) (zrint1 z) = UInt64.ofNat (FP.Core.encode FP.Core.b64 (FP.Core.round FP.Core.b64 (FP.Core.exactProduct (FP.Core.decode FP.Core.b64 (zcps FP.dconst1 z).toNat) (FP.Core.decode FP.Core.b64 (zrint1 z).toNat)))) := rfl
    obtain ⟨t, d, r, eb, -, h0, -⟩ := zdf64 hc.1
    rw [e1, eb]
    refine zof64 (zro64 ?_)
    have h2 := zde64 hr
    have hd : d ≠ 0 := fun z => hc.2 (h0.mp z)
    cases hd2 : FP.Core.decode FP.Core.b64 (zrint1 z).toNat with
    | nan => exact absurd hd2 h2
    | inf s => unfold FP.Core.exactProduct; simp [hd]
    | fin s c q => unfold FP.Core.exactProduct; simp
  exact ⟨znN64 hz, hz, fun _ => ⟨(zaN hm h52).1, (zaN (zaN hm h52).1 h52).2⟩, hR, hR⟩
theorem zft {y : UInt64} {k : Nat} (hy : vf_n64 y) (hk : k ≤ 6) : vf_n64 (FP.dmul y (FP.l2d (lN (10 ^ k)))) ∧ zrintok (FP.dmul y (FP.l2d (lN (10 ^ k)))) := by
  have h1 := zlD (lN (10 ^ k))
  have h2 := zmN hy h1.1 (fun z => l3_ne0 (p10_pos k) (p10_lt (by omega)) (h1.2.mp z))
  exact ⟨h2, zrok h2⟩
