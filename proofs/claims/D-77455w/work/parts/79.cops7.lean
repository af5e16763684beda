/-! the component's add, grow, list, more -/
theorem i32_nn (z : Int32) : 0 ≤ z ↔ z.toBitVec.msb = false := by
  rw [Int32.le_iff_toInt_le, BitVec.msb_eq_toInt]
  have : z.toBitVec.toInt = z.toInt := rfl
  rw [this]
  have h0 : (0 : Int32).toInt = 0 := by decide
  rw [h0]
  simp
theorem i32_add (x y : Int32) : (x + y).toInt = if x.toInt + y.toInt < -2147483648 then x.toInt + y.toInt + 4294967296 else if 2147483648 ≤ x.toInt + y.toInt then x.toInt + y.toInt - 4294967296 else x.toInt + y.toInt := by
  rw [Int32.toInt_add, Int.bmod_def]
  have h1 := Int32.toInt_lt x
  have h2 := Int32.le_toInt x
  have h3 := Int32.toInt_lt y
  have h4 := Int32.le_toInt y
  rw [show ((2 ^ 32 : Nat) : Int) = 4294967296 from rfl]
  split <;> split <;> (try split) <;> omega
theorem i32_ov (x y : Int32) : 0 ≤ ((x ^^^ (x + y)) &&& (y ^^^ (x + y))) ↔ (-2147483648 ≤ x.toInt + y.toInt ∧ x.toInt + y.toInt < 2147483648) := by
  rw [i32_nn, Int32.toBitVec_and, Int32.toBitVec_xor, Int32.toBitVec_xor, BitVec.msb_and, BitVec.msb_xor, BitVec.msb_xor, BitVec.msb_eq_toInt, BitVec.msb_eq_toInt, BitVec.msb_eq_toInt]
  have e1 : x.toBitVec.toInt = x.toInt := rfl
  have e2 : y.toBitVec.toInt = y.toInt := rfl
  have e3 : (x + y).toBitVec.toInt = (x + y).toInt := rfl
  rw [e1, e2, e3, i32_add]
  have h1 := Int32.toInt_lt x
  have h2 := Int32.le_toInt x
  have h3 := Int32.toInt_lt y
  have h4 := Int32.le_toInt y
  generalize x.toInt = a at *
  generalize y.toInt = b at *
  by_cases p1 : a < 0 <;> by_cases p2 : b < 0 <;> simp only [p1, p2, decide_true, decide_false] <;> (split <;> (try split)) <;> simp <;> omega
theorem i32_l (x y : Int32) : (x.toInt64 + y.toInt64).toInt = x.toInt + y.toInt := by
  have h1 := Int32.toInt_lt x
  have h2 := Int32.le_toInt x
  have h3 := Int32.toInt_lt y
  have h4 := Int32.le_toInt y
  rw [Int64.toInt_add, Int32.toInt_toInt64, Int32.toInt_toInt64, Int.bmod_def, show ((2 ^ 64 : Nat) : Int) = 18446744073709551616 from rfl]
  split <;> omega
theorem i32_ovl (x y : Int32) : (x.toInt64 + y.toInt64 = (x.toInt64 + y.toInt64).toInt32.toInt64) ↔ 0 ≤ ((x ^^^ (x + y)) &&& (y ^^^ (x + y))) := by
  rw [i32_ov]
  have h := i32_l x y
  constructor
  · intro e
    have h5 := congrArg Int64.toInt e
    rw [Int32.toInt_toInt64, h] at h5
    have h6 := Int32.toInt_lt (x.toInt64 + y.toInt64).toInt32
    have h7 := Int32.le_toInt (x.toInt64 + y.toInt64).toInt32
    omega
  · intro ⟨h1, h2⟩
    refine Int64.toInt_inj.mp ?_
    rw [Int32.toInt_toInt64, Int64.toInt_toInt32, h, Int.bmod_def, show ((2 ^ 32 : Nat) : Int) = 4294967296 from rfl]
    split <;> omega
theorem i32_sum (x y : Int32) : (x.toInt64 + y.toInt64).toInt32 = x + y := by
  refine Int32.toInt_inj.mp ?_
  rw [Int64.toInt_toInt32, i32_l, Int32.toInt_add]
section CO7
variable {D : zD} {X : zSg} {B : Nat → Nat} {I M : zM}
/-- an exception of the machine's own -/
theorem c_newX {k n : Nat} {xp : Nat → zM → Prop} (hk : 1 ≤ k) (hn : 6 ≤ n) (h : ∀ b, M b = none → zB D ≤ b → xp b (zu M b (some (.inr (28, []))))) : znewX D M 28 k n 1 6 fun b1 M => (zth D M b1 ∧ xp b1 M) :=
  ⟨hk, hn, fun b hb hb0 => ⟨⟨28, [], by decide, zu_s, hb0⟩, h b hb hb0⟩⟩
theorem c_toInt {post : Int32 → zM → Prop} {xp : Nat → zM → Prop} {k n : Nat} {a : Int64} (hk : 1 ≤ k) (hn : 6 ≤ n) (h1 : a = a.toInt32.toInt64 → post a.toInt32 M) (h2 : a ≠ a.toInt32.toInt64 → ∀ b, M b = none → xp b (zu M b (some (.inr (28, []))))) : wp_J0_toIntExact D post xp k n a M := by
  unfold wp_J0_toIntExact
  simp only [lgc_eq]
  exact ⟨fun z => h1 z.symm, fun z => c_newX hk hn fun b hb _ => h2 (fun y => z y.symm) b hb⟩
theorem c_addx {post : Int32 → zM → Prop} {xp : Nat → zM → Prop} {k n : Nat} {x y : Int32} (hk : 1 ≤ k) (hn : 6 ≤ n) (h1 : x.toInt64 + y.toInt64 = (x.toInt64 + y.toInt64).toInt32.toInt64 → post (x.toInt64 + y.toInt64).toInt32 M) (h2 : x.toInt64 + y.toInt64 ≠ (x.toInt64 + y.toInt64).toInt32.toInt64 → ∀ b, M b = none → xp b (zu M b (some (.inr (28, []))))) : wp_J0_addExact D post xp k n x y M := by
  unfold wp_J0_addExact
  rw [← i32_ovl]
  have e := i32_sum x y
  exact ⟨fun z => by have h3 := h1 z; rw [e] at h3; exact h3, fun z => c_newX hk hn fun b hb _ => h2 z b hb⟩
theorem c_mulx2 {post : Int32 → zM → Prop} {xp : Nat → zM → Prop} {k n : Nat} {x y : Int32} (hk : 1 ≤ k) (hn : 6 ≤ n) (h1 : x.toInt64 * y.toInt64 = (x.toInt64 * y.toInt64).toInt32.toInt64 → post (x.toInt64 * y.toInt64).toInt32 M) (h2 : x.toInt64 * y.toInt64 ≠ (x.toInt64 * y.toInt64).toInt32.toInt64 → ∀ b, M b = none → xp b (zu M b (some (.inr (28, []))))) : wp_J0_multiplyExact_2 D post xp k n x y M := by
  unfold wp_J0_multiplyExact_2
  simp only [lgc_eq]
  exact ⟨fun z => h1 z.symm, fun z => c_newX hk hn fun b hb _ => h2 (fun y => z y.symm) b hb⟩
theorem c_absN {post : Int64 → zM → Prop} {v : Nat} (hv : v < 2 ^ 63) (h : post (lN v) M) : wp_J0_abs D post (lN v) M := by
  unfold wp_J0_abs wp_J0_abs_L12
  refine ⟨fun _ => h, fun z => ?_⟩
  exfalso
  have h0 : (0 : Int64).toInt = 0 := by decide
  apply z
  rw [i0_le, lgc_lt, Int64.lt_iff_toInt_lt, l3_toInt hv, h0]
  omega
theorem i64_mul (d : Int32) {j : Nat} (hj : j ≤ 6) : (d.toInt64 * lN (10 ^ j)).toInt = d.toInt * (10 ^ j : Nat) := by
  have h1 := Int32.toInt_lt d
  have h2 := Int32.le_toInt d
  have hp : 10 ^ j ≤ 1000000 := Nat.le_trans (Nat.pow_le_pow_right (by decide) hj) (by decide)
  have hq := p10_pos j
  rw [Int64.toInt_mul, Int32.toInt_toInt64, l3_toInt (p10_lt (by omega)), Int.bmod_def, show ((2 ^ 64 : Nat) : Int) = 18446744073709551616 from rfl]
  generalize 10 ^ j = v at *
  have h3 : d.toInt * (v : Int) ≤ 2147483648 * 1000000 := by
    rcases Int.le_total 0 d.toInt with y | y
    · exact Int.mul_le_mul (by omega) (by omega) (by omega) (by omega)
    · have : d.toInt * (v : Int) ≤ 0 := Int.mul_nonpos_of_nonpos_of_nonneg y (by omega)
      omega
  have h4 : -(2147483648 * 1000000) ≤ d.toInt * (v : Int) := by
    rcases Int.le_total 0 d.toInt with y | y
    · have : 0 ≤ d.toInt * (v : Int) := Int.mul_nonneg y (by omega)
      omega
    · have : -d.toInt * (v : Int) ≤ 2147483648 * 1000000 := Int.mul_le_mul (by omega) (by omega) (by omega) (by omega)
      rw [Int.neg_mul] at this
      omega
  split <;> omega
theorem c_mulx {post : Int64 → zM → Prop} {xp : Nat → zM → Prop} {k n : Nat} {d : Int32} {j : Nat} (hj : j ≤ 6) (h : post (d.toInt64 * lN (10 ^ j)) M) : wp_J0_multiplyExact D post xp k n d.toInt64 (lN (10 ^ j)) M := by
  have hp := p10_lt (k := j) (by omega)
  have hq := p10_pos j
  unfold wp_J0_multiplyExact
  refine c_abs (c_absN hp ?_)
  simp only [lgc_eq]
  unfold wp_J0_multiplyExact_L71
  have h45 : wp_J0_multiplyExact_L45 D post xp k n d.toInt64 (lN (10 ^ j)) (d.toInt64 * lN (10 ^ j)) M := by
    unfold wp_J0_multiplyExact_L45 wp_J0_multiplyExact_L71
    simp only [lgc_eq]
    refine ⟨fun _ => h, fun _ => ⟨fun _ => h, fun z => ?_⟩⟩
    have := congrArg Int64.toInt z
    rw [l3_toInt hp] at this
    have h9 : (-1 : Int64).toInt = -1 := by decide
    omega
  refine ⟨fun _ => h, fun _ => ⟨fun _ => h45, fun z => ⟨z, fun y => ?_, fun _ => h45⟩⟩⟩
  exfalso
  apply y
  have hi := i64_mul d hj
  have h1 := Int32.toInt_lt d
  have h2 := Int32.le_toInt d
  have hn : d.toInt64 * lN (10 ^ j) ≠ Int64.minValue := fun w => by
    have := congrArg Int64.toInt w
    rw [hi] at this
    have h2 : Int64.minValue.toInt = -9223372036854775808 := by decide
    have hp6 : 10 ^ j ≤ 1000000 := Nat.le_trans (Nat.pow_le_pow_right (by decide) hj) (by decide)
    rw [h2] at this
    generalize 10 ^ j = v at *
    have h4 : -(2147483648 * 1000000) ≤ d.toInt * (v : Int) := by
      rcases Int.le_total 0 d.toInt with y | y
      · have : 0 ≤ d.toInt * (v : Int) := Int.mul_nonneg y (by omega)
        omega
      · have : -d.toInt * (v : Int) ≤ 2147483648 * 1000000 := Int.mul_le_mul (by omega) (by omega) (by omega) (by omega)
        rw [Int.neg_mul] at this
        omega
    omega
  apply Int64.toInt_inj.mp
  rw [Int64.toInt_div_of_ne_left _ _ hn, hi, l3_toInt hp, Int32.toInt_toInt64]
  exact Int.mul_tdiv_cancel _ (by omega)
end CO7
