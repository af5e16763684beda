/-! the twin's rows -/
def zFw (S : zTS) : Prop := ∀ x, x < 90 → zok32 (S.2.2.1 x) ∧ zok64 (S.2.2.2.1 x)
/-- is there a number i in the row r -/
def zit (S : zTS) (r : Nat) (i : Int32) : Bool := zin i.toInt64 0 (S.2.1 51 r - 1).toInt64
theorem zit_n {S : zTS} {r n : Nat} {i : Int32} (h2 : S.2.1 51 r = nI n) (hn : n < 2 ^ 30) : zit S r i = zb i n := by
  unfold zit
  rw [h2]
  refine zin_b ?_
  rw [Int32.toInt_toInt64]
  rcases Nat.eq_zero_or_pos n with rfl | hp
  · decide
  · obtain ⟨m, rfl⟩ : ∃ m, n = m + 1 := ⟨n - 1, by omega⟩
    rw [nI_pred, nI_toInt (by omega)]
    omega
theorem zit_m {S : zTS} {r : Nat} {i : Int32} (h : S.2.1 51 r = -1) : zit S r i = false := by
  unfold zit
  rw [h]
  unfold zin
  have e0 : (0 : Int64).toInt = 0 := by decide
  have e1 : ((-1 : Int32) - 1).toInt64.toInt = -2 := by decide
  cases h1 : decide ((0 : Int64) ≤ i.toInt64)
  · rfl
  · rw [Bool.true_and, decide_eq_false_iff_not, Int64.le_iff_toInt_le, e1]
    rw [decide_eq_true_eq, Int64.le_iff_toInt_le, e0] at h1
    omega
/-- a row: missing, or of n numbers and of a sort -/
def zRw (S : zTS) : Prop := ∀ r, r < 3 → S.2.1 51 r = -1 ∨ ∃ n q : Nat, n ≤ 30 ∧ q ≤ 2 ∧ S.2.1 51 r = nI n ∧ S.2.1 52 r = nI q
theorem zit_t {S : zTS} {r : Nat} {i : Int32} (hW : zRw S) (hr : r < 3) (h : zit S r i = true) : ∃ n q j : Nat, n ≤ 30 ∧ q ≤ 2 ∧ S.2.1 51 r = nI n ∧ S.2.1 52 r = nI q ∧ j < n ∧ i = nI j := by
  rcases hW r hr with h1 | ⟨n, q, hn, hq, h2, h3⟩
  · rw [zit_m h1] at h; cases h
  · rw [zit_n h2 (by omega)] at h
    obtain ⟨j, hj, rfl⟩ := zb_of h (by omega)
    exact ⟨n, q, j, hn, hq, h2, h3, hj, rfl⟩
theorem tUf_1 {S : zTS} {i : Nat} {x : UInt32} : (tUf S i x).1 = S.1 := rfl
theorem tUf_2 {S : zTS} {i : Nat} {x : UInt32} : (tUf S i x).2.1 = S.2.1 := rfl
theorem tUf_3 {S : zTS} {i : Nat} {x : UInt32} : (tUf S i x).2.2.1 = vf_upd S.2.2.1 i x := rfl
theorem tUf_4 {S : zTS} {i : Nat} {x : UInt32} : (tUf S i x).2.2.2 = S.2.2.2 := rfl
theorem tUd_1 {S : zTS} {i : Nat} {x : UInt64} : (tUd S i x).1 = S.1 := rfl
theorem tUd_2 {S : zTS} {i : Nat} {x : UInt64} : (tUd S i x).2.1 = S.2.1 := rfl
theorem tUd_3 {S : zTS} {i : Nat} {x : UInt64} : (tUd S i x).2.2.1 = S.2.2.1 := rfl
theorem tUd_4 {S : zTS} {i : Nat} {x : UInt64} : (tUd S i x).2.2.2.1 = vf_upd S.2.2.2.1 i x := rfl
theorem tUd_5 {S : zTS} {i : Nat} {x : UInt64} : (tUd S i x).2.2.2.2 = S.2.2.2.2 := rfl
theorem tUl_1 {S : zTS} {i : Nat} {x : Int64} : (tUl S i x).1 = S.1 := rfl
theorem tUl_2 {S : zTS} {i : Nat} {x : Int64} : (tUl S i x).2.1 = S.2.1 := rfl
theorem tUl_3 {S : zTS} {i : Nat} {x : Int64} : (tUl S i x).2.2.1 = S.2.2.1 := rfl
theorem tUl_4 {S : zTS} {i : Nat} {x : Int64} : (tUl S i x).2.2.2.1 = S.2.2.2.1 := rfl
theorem tUl_5 {S : zTS} {i : Nat} {x : Int64} : (tUl S i x).2.2.2.2 = vp_updL S.2.2.2.2 i x := rfl
def trat (S : zTS) (x : Nat) (a b : Int32) : zTS := tUl (tUd (tUf S x (FP.fdiv (FP.i2f a) (FP.i2f b))) x (FP.ddiv (FP.i2d a) (FP.i2d b))) x (a.toInt64 / b.toInt64)
theorem z64ne {b : Int32} (h : b ≠ 0) : ¬ b.toInt64 = 0 := fun z => h (Int32.toInt_inj.mp (by have := congrArg Int64.toInt z; rw [Int32.toInt_toInt64] at this; exact this))
section TR
variable {D : zD} {o : Nat} {A : Nat → Nat} {S : zTS} {I : zM}
theorem t_isThere {post : Int32 → zM → Prop} {r : Nat} {i : Int32} (hT : tok D o A) (hr : r < 3) (h : post (b1 (zit S r i)) (tm o A S I)) : wp_X9_isThere D post o (nI r) i (tm o A S I) := by
  unfold wp_X9_isThere
  simp (disch := first | decide | omega) only [tgI, tgR, tzd, taI hT, tsI hT, tp hT, tF_s, tF_n, tA_F, tF_A, tA_s, tA_n, tA_R, tsz, m8, m5, m6, m10, m30, m120, nI_1, nI_add, clT, vinT, true_and, updS, updN, if_true]
  exact t_in ⟨of_eq_true znb, h⟩
theorem t_ratio {post : Int32 → zM → Prop} {r i a b : Int32} (hT : tok D o A) (hW : zRw S) (h1 : zb r 3 = false → post (-1) (tm o A S I)) (h2 : ∀ q, q < 3 → r = nI q → S.2.1 51 q = -1 → post (-11) (tm o A S I))
    (h3 : ∀ q n, q < 3 → r = nI q → S.2.1 51 q = nI n → zb i n = false → post (-12) (tm o A S I)) (h4 : ∀ q n j, q < 3 → r = nI q → n ≤ 30 → S.2.1 51 q = nI n → j < n → i = nI j → post (if b = 0 then -15 else 1) (tm o A (if b = 0 then S else trat S (30 * q + j) a b) I)) : wp_X9_ratio D post o r i a b (tm o A S I) := by
  unfold wp_X9_ratio
  refine t_isRow (ifb (fun e1 => ?_) (fun e1 => h1 e1))
  obtain ⟨q, hq, rfl⟩ := zb_of e1 (by decide)
  simp (disch := first | decide | omega) only [tgI, tgR, tzd, taI hT, tsI hT, tp hT, tF_s, tF_n, tA_F, tF_A, tA_s, tA_n, tA_R, tsz, m8, m5, m6, m10, m30, m120, nI_1, nI_add, clT, vinT, true_and, updS, updN, if_true]
  rcases hW q hq with h5 | ⟨n, s, hn, hs, h5, h6⟩
  · rw [h5]
    exact ⟨fun z => absurd z (by decide), fun _ => h2 q hq rfl h5⟩
  · rw [h5]
    refine ⟨fun _ => ⟨tis _ (by decide), t_isThere hT hq (ifb (fun e2 => ?_) (fun e2 => ?_))⟩, fun z => absurd (nI_pos' (by omega)) z⟩
    · rw [zit_n h5 (by omega)] at e2
      obtain ⟨j, hj, rfl⟩ := zb_of e2 (by omega)
      have h := h4 q n j hq rfl hn h5 hj rfl
      refine ifn (fun z => ?_) (fun z => ?_)
      · rw [if_pos z, if_pos z] at h; exact h
      · rw [if_neg z, if_neg z] at h
        have f1 := zon32 (zfd32 (a := a) z)
        have f2 := zon64 (zfd64 (a := a) z)
        simp (disch := first | decide | omega) only [tgI, tgR, tzd, taI hT, tsI hT, tp hT, tF_s, tF_n, tA_F, tF_A, tA_s, tA_n, tA_R, tsz, m8, m5, m6, m10, m30, m120, nI_1, nI_add, clT, vinT, true_and, updS, updN, if_true, tsF hT, tsD hT, tsL hT]
        exact ⟨f1, f2, z64ne z, h⟩
    · rw [zit_n h5 (by omega)] at e2
      exact h3 q n hq rfl h5 e2
theorem t_cut {post : Int64 → zM → Prop} {r i w : Int32} (hT : tok D o A) (hW : zRw S) (h1 : (zb r 3 && zb w 2) = false → post (-9223372036854775808) (tm o A S I)) (h2 : ∀ q, q < 3 → r = nI q → zit S q i = false → post (-9223372036854775808) (tm o A S I))
    (h4 : ∀ q n s j : Nat, q < 3 → r = nI q → n ≤ 30 → s ≤ 2 → S.2.1 51 q = nI n → S.2.1 52 q = nI s → j < n → i = nI j → zb w 2 = true →
      post (if s = 0 then (if w = 0 then (FP.f2i (S.2.2.1 (30 * q + j))).toInt64 else FP.f2l (S.2.2.1 (30 * q + j))) else if s = 1 then (if w = 0 then (FP.d2i (S.2.2.2.1 (30 * q + j))).toInt64 else FP.d2l (S.2.2.2.1 (30 * q + j)))
        else (if w = 0 then (S.2.2.2.2 (30 * q + j)).toInt32.toInt64 else S.2.2.2.2 (30 * q + j))) (tm o A S I)) : wp_X9_cut D post o r i w (tm o A S I) := by
  unfold wp_X9_cut wp_X9_cut_L26 wp_X9_cut_L145 wp_X9_cut_L96 wp_X9_cut_L121
  refine t_isRow (ifb' (fun e1 => t_in ?_) (fun e1 => h1 (by rw [e1]; rfl)))
  rw [zin_b (n := 2) (by decide)]
  refine ifb' (fun e3 => ?_) (fun e3 => h1 (by rw [e3, Bool.and_false]))
  obtain ⟨q, hq, rfl⟩ := zb_of e1 (by decide)
  refine ⟨tis _ (by decide), t_isThere hT hq (ifb (fun e2 => ?_) (fun e2 => h2 q hq rfl e2))⟩
  obtain ⟨n, s, j, hn, hs, h5, h6, hj, rfl⟩ := zit_t hW hq e2
  have h := h4 q n s j hq rfl hn hs h5 h6 hj rfl e3
  simp (disch := first | decide | omega) only [tgI, tgR, tzd, taI hT, tsI hT, tp hT, tF_s, tF_n, tA_F, tF_A, tA_s, tA_n, tA_R, tsz, m8, m5, m6, m10, m30, m120, nI_1, nI_add, clT, vinT, true_and, updS, updN, if_true, taF hT, taD hT, taL hT, h6]
  have h9 : s = 0 ∨ s = 1 ∨ s = 2 := by omega
  rcases h9 with rfl | rfl | rfl
  · rw [if_pos rfl] at h
    refine ⟨fun _ => ifn (fun z => ?_) (fun z => ?_), fun z => absurd z (by decide), fun z => absurd rfl z.1⟩
    · rw [if_pos z] at h; exact h
    · rw [if_neg z] at h; exact h
  · rw [if_neg (by decide), if_pos rfl] at h
    refine ⟨fun z => absurd z (by decide), fun _ => ifn (fun z => ?_) (fun z => ?_), fun z => absurd rfl z.2⟩
    · rw [if_pos z] at h; exact h
    · rw [if_neg z] at h; exact h
  · rw [if_neg (by decide), if_neg (by decide)] at h
    refine ⟨fun z => absurd z (by decide), fun z => absurd z (by decide), fun _ => ifn (fun z => ?_) (fun z => ?_)⟩
    · rw [if_pos z] at h; exact h
    · rw [if_neg z] at h; exact h
end TR
