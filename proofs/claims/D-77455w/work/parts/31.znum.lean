/-! numbers: 64 bits from naturals, comparisons, truth values -/
theorem lgc_eq (x y : Int64) : (lg_cmp x y = 0) ↔ x = y := by
  unfold lg_cmp
  split
  · rename_i h; constructor
    · intro z; exact absurd z (by decide)
    · intro z; subst z; exact absurd h Int64.lt_irrefl
  · split
    · rename_i h; exact ⟨fun _ => h, fun _ => rfl⟩
    · rename_i h; exact ⟨fun z => absurd z (by decide), fun z => absurd z h⟩
theorem lgc_lt (x y : Int64) : (lg_cmp x y < 0) ↔ x < y := by
  unfold lg_cmp
  split
  · rename_i h; constructor
    · intro z; exact absurd z (by decide)
    · intro z; rw [gt_iff_lt, Int64.lt_iff_toInt_lt] at h; rw [Int64.lt_iff_toInt_lt] at z; omega
  · split
    · rename_i h; subst h; exact ⟨fun z => absurd z (by decide), fun z => absurd z Int64.lt_irrefl⟩
    · rename_i h1 h2
      refine ⟨fun _ => ?_, fun _ => by decide⟩
      rw [gt_iff_lt, Int64.lt_iff_toInt_lt] at h1
      rw [Int64.lt_iff_toInt_lt]
      have : x.toInt ≠ y.toInt := fun z => h2 (Int64.toInt_inj.mp z)
      omega
theorem lgc_gt (x y : Int64) : (0 < lg_cmp x y) ↔ y < x := by
  unfold lg_cmp
  split
  · rename_i h; exact ⟨fun _ => h, fun _ => by decide⟩
  · rename_i h
    split
    · exact ⟨fun z => absurd z (by decide), fun z => absurd z h⟩
    · exact ⟨fun z => absurd z (by decide), fun z => absurd z h⟩
theorem l3_toInt {n : Nat} (h : n < 2 ^ 63) : (lN n).toInt = (n : Int) := by
  first | exact Int64.toInt_ofNat_of_lt h | (show (Int64.ofNat n).toInt = n; rw [Int64.toInt_ofNat]; omega)
theorem l3_eq {a b : Nat} (ha : a < 2 ^ 63) (hb : b < 2 ^ 63) : lN a = lN b ↔ a = b := by
  rw [← Int64.toInt_inj, l3_toInt ha, l3_toInt hb]; omega
theorem l3_lt {a b : Nat} (ha : a < 2 ^ 63) (hb : b < 2 ^ 63) : lN a < lN b ↔ a < b := by
  rw [Int64.lt_iff_toInt_lt, l3_toInt ha, l3_toInt hb]; omega
theorem l3_le {a b : Nat} (ha : a < 2 ^ 63) (hb : b < 2 ^ 63) : lN a ≤ lN b ↔ a ≤ b := by
  rw [Int64.le_iff_toInt_le, l3_toInt ha, l3_toInt hb]; omega
theorem l3_div {a b : Nat} (ha : a < 2 ^ 63) (hb : b < 2 ^ 63) : lN a / lN b = lN (a / b) := by
  have hd : a / b < 2 ^ 63 := Nat.lt_of_le_of_lt (Nat.div_le_self a b) ha
  have hn : lN a ≠ Int64.minValue := fun z => by
    have := congrArg Int64.toInt z
    rw [l3_toInt ha] at this
    have h2 : Int64.minValue.toInt = -9223372036854775808 := by decide
    omega
  apply Int64.toInt_inj.mp
  rw [Int64.toInt_div_of_ne_left _ _ hn, l3_toInt ha, l3_toInt hb, l3_toInt hd, Int.ofNat_tdiv]
theorem l3_mod {a b : Nat} (ha : a < 2 ^ 63) (hb : b < 2 ^ 63) : lN a - lN a / lN b * lN b = lN (a % b) := by
  rw [l3_div ha hb, lN_mul]
  have h1 : a = a % b + a / b * b := by rw [Nat.mul_comm]; exact (Nat.mod_add_div a b).symm
  have h2 : lN a = lN (a % b) + lN (a / b * b) := by rw [lN_add, ← h1]
  rw [h2, Int64.add_sub_cancel]
theorem l3_ne0 {b : Nat} (h0 : 0 < b) (hb : b < 2 ^ 63) : ¬ lN b = 0 := fun z => by
  have : lN b = lN 0 := z
  rw [l3_eq hb (by decide)] at this
  omega
def b1 (b : Bool) : Int32 := if b then 1 else 0
theorem b1_0 {b : Bool} : b1 b = 0 ↔ b = false := by cases b <;> decide
theorem b1_1 {b : Bool} : b1 b = 1 ↔ b = true := by cases b <;> decide
theorem zn0 : narrow .boolean (.int (0 : Int32)) = .int (0 : Int32) := rfl
theorem zn1 : narrow .boolean (.int (1 : Int32)) = .int (1 : Int32) := rfl
theorem znb {b : Bool} : (narrow .boolean (.int (b1 b)) = .int (b1 b)) = True := by cases b <;> exact eq_true rfl
/-- low ≤ v ≤ high -/
def zin (v low high : Int64) : Bool := decide (low ≤ v) && decide (v ≤ high)
/-- an int below a small number, and not negative -/
def zb (i : Int32) (n : Nat) : Bool := decide (0 ≤ i.toInt) && decide (i.toInt < n)
theorem zb_iff {i : Int32} {n : Nat} : zb i n = true ↔ vp_in i n := by
  rw [vp_in_iff]; simp [zb]
theorem zb_of {i : Int32} {n : Nat} (h : zb i n = true) (hn : n < 2 ^ 31) : ∃ j : Nat, j < n ∧ i = nI j := vp_in_of (zb_iff.mp h) hn
theorem zin_b {i : Int32} {n : Nat} {h : Int64} (hh : h.toInt + 1 = n) : zin i.toInt64 0 h = zb i n := by
  unfold zin zb
  have e0 : (0 : Int64).toInt = 0 := by decide
  have : (decide (0 ≤ i.toInt64)) = decide (0 ≤ i.toInt) := by rw [decide_eq_decide, Int64.le_iff_toInt_le, Int32.toInt_toInt64, e0]
  rw [this]
  have : (decide (i.toInt64 ≤ h)) = decide (i.toInt < n) := by rw [decide_eq_decide, Int64.le_iff_toInt_le, Int32.toInt_toInt64]; omega
  rw [this]
/-- |d| -/
def zab (d : Int32) : Nat := d.toInt.natAbs
theorem zab_lt (d : Int32) : zab d ≤ 2 ^ 31 := by
  have h1 := Int32.toInt_lt d
  have h2 := Int32.le_toInt d
  unfold zab; omega
theorem zab_nn {d : Int32} (h : ¬ d < 0) : d.toInt64 = lN (zab d) := by
  rw [Int32.lt_iff_toInt_lt] at h
  have h0 : (0 : Int32).toInt = 0 := by decide
  have h3 := zab_lt d
  apply Int64.toInt_inj.mp
  rw [Int32.toInt_toInt64, l3_toInt (by omega)]
  unfold zab; omega
theorem zab_ng {d : Int32} (h : d < 0) : - d.toInt64 = lN (zab d) := by
  rw [Int32.lt_iff_toInt_lt] at h
  have h0 : (0 : Int32).toInt = 0 := by decide
  have h3 := zab_lt d
  have h4 := Int32.le_toInt d
  have h5 := Int32.toInt_lt d
  apply Int64.toInt_inj.mp
  have hb : ∀ x : Int, 0 ≤ x → x ≤ 2147483648 → x.bmod (2 ^ 64) = x := fun x h1 h2 => by
    rw [Int.bmod_def]
    simp only [Nat.reducePow]
    omega
  rw [l3_toInt (by omega), Int64.toInt_neg, Int32.toInt_toInt64, hb _ (by omega) (by omega)]
  unfold zab
  omega
theorem p10_lt {k : Nat} (h : k ≤ 18) : 10 ^ k < 2 ^ 63 := Nat.lt_of_le_of_lt (Nat.pow_le_pow_right (by decide) h) (by decide)
theorem p10_pos (k : Nat) : 0 < 10 ^ k := Nat.pow_pos (by decide)
theorem ifb {c : Bool} {A B : Prop} (h1 : c = true → A) (h2 : c = false → B) : (¬ b1 c = 0 → A) ∧ (b1 c = 0 → B) := by
  cases c
  · exact ⟨fun z => absurd rfl z, fun _ => h2 rfl⟩
  · exact ⟨fun _ => h1 rfl, fun z => absurd z (by decide)⟩
theorem ifb' {c : Bool} {A B : Prop} (h1 : c = true → A) (h2 : c = false → B) : (b1 c = 0 → B) ∧ (¬ b1 c = 0 → A) := ⟨(ifb h1 h2).2, (ifb h1 h2).1⟩
/-- trailing zeros of v stripped, at most w of them: what stays, how many weren't stripped -/
def zst : Nat → Nat → Nat × Nat
  | 0, v => (v, 0)
  | w + 1, v => if v % 10 = 0 then zst w (v / 10) else (v, w + 1)
theorem zst_0 : ∀ w : Nat, zst w 0 = (0, 0)
  | 0 => rfl
  | w + 1 => by simp [zst, zst_0 w]
theorem zst_le : ∀ w v : Nat, (zst w v).1 ≤ v ∧ (zst w v).2 ≤ w
  | 0, v => ⟨Nat.le_refl v, Nat.le_refl 0⟩
  | w + 1, v => by
    unfold zst
    split
    · have := zst_le w (v / 10)
      have h2 := Nat.div_le_self v 10
      exact ⟨by omega, by omega⟩
    · exact ⟨Nat.le_refl _, Nat.le_refl _⟩
/-- an operand of d at scale k -/
def zop (d : Int32) (k : Nat) (w : Int32) : Int64 :=
  if w = 0 then lN (zab d / 10 ^ k) else if w = 1 then lN k else if w = 2 then lN (zab d % 10 ^ k) else if w = 3 then lN (zst k (zab d % 10 ^ k)).2 else lN (zst k (zab d % 10 ^ k)).1
/-- a condition: category, rule, operand, modulus, low, high; not -/
abbrev zCo : Type := (Int32 × Int32 × Int32 × Int32 × Int32 × Int32) × Bool
def zmo (v : Int64) (m : Int32) : Int64 := if m = 0 then v else v - v / m.toInt64 * m.toInt64
def zct (q : zCo) (d : Int32) (k : Nat) : Bool := zin (zmo (zop d k q.1.2.2.1) q.1.2.2.2.1) q.1.2.2.2.2.1.toInt64 q.1.2.2.2.2.2.toInt64 != q.2
/-- a rule holds: it has conditions, and all of them are met -/
def zru : List zCo → Bool → Int32 → Int32 → Int32 → Nat → Bool
  | [], any, _, _, _, _ => any
  | q :: l, any, c, r, d, k => if q.1.1 = c ∧ q.1.2.1 = r then (if zct q d k then zru l true c r d k else false) else zru l any c r d k
def zho (l : List zCo) (c : Int32) (d : Int32) (k : Nat) : Bool := zru l false c 0 d k || zru l false c 1 d k
def zcaN (l : List zCo) (d : Int32) (k : Nat) : Nat → Nat
  | 0 => 5
  | n + 1 => if zho l (nI (4 - n)) d k then 4 - n else zcaN l d k n
def zca (l : List zCo) (d : Int32) (k : Nat) : Nat := zcaN l d k 5
theorem zcaN_le (l : List zCo) (d : Int32) (k : Nat) : ∀ n, zcaN l d k n ≤ 5
  | 0 => Nat.le_refl 5
  | n + 1 => by unfold zcaN; split; omega; exact zcaN_le l d k n
theorem zca_le (l : List zCo) (d : Int32) (k : Nat) : zca l d k ≤ 5 := zcaN_le l d k 5
def zco (c o m lo hi : Int32) : zCo := ((c, 0, o, m, lo, hi), false)
def zcr (n : Bool) (c r o m lo hi : Int32) : zCo := ((c, r, o, m, lo, hi), n)
/-- the conditions of languages 0 to 5 -/
def zll : Nat → List zCo := fun l => match l with
  | 0 => [zcr false 1 0 0 0 1 1, zcr false 1 0 1 0 0 0]
  | 1 => [zcr false 1 0 0 0 0 1]
  | 2 => [zcr false 3 0 1 0 0 0, zcr false 3 0 0 10 2 4, zcr true 3 0 0 100 12 14, zcr false 4 0 1 0 0 0, zcr false 1 0 0 0 1 1, zcr false 1 0 1 0 0 0]
  | 3 => [zcr false 0 0 1 0 0 0, zcr false 0 0 0 10 0 0, zcr false 0 1 1 0 0 0, zcr false 0 1 0 100 11 19, zcr false 1 0 1 0 0 0, zcr false 1 0 0 10 1 1, zcr true 1 1 1 0 0 0, zcr false 1 1 2 10 1 1]
  | 4 => [zcr false 4 0 1 0 0 0, zcr false 0 0 0 0 0 0, zcr false 0 0 1 0 0 0, zcr false 1 0 0 0 1 1, zcr false 1 0 1 0 0 0, zcr false 2 0 0 0 2 2, zcr false 2 0 1 0 0 0, zcr false 3 0 1 0 0 0, zcr false 3 0 0 100 3 10, zcr false 4 0 0 100 11 99]
  | _ => []
def zof (own : List zCo) (l : Nat) : List zCo := if l = 6 then own else zll l
/-- the set of categories that 0 to 210, whole and with one place, come to -/
def zus (l : List zCo) : Nat → Int32
  | 0 => 0
  | n + 1 => zus l n ||| (((1 : Int32) <<< (nI (zca l (nI n) 0) &&& 31)) ||| ((1 : Int32) <<< (nI (zca l (nI n) 1) &&& 31)))
def zused (l : List zCo) : Int32 := zus l 211
