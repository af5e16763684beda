/-! the twin's acts on arguments -/
def thn (S : zTS) (a : Nat) (ty f k : Int32) : zTS := tA (tA (tA S 41 a ty) 42 a f) 43 a k
section TA1
variable {D : zD} {o : Nat} {A : Nat → Nat} {S : zTS} {I : zM}
theorem t_holdsNow {post : Unit → zM → Prop} {a : Nat} {ty f k : Int32} (hT : tok D o A) (ha : a < 5) (h : post () (tm o A (thn S a ty f k) I)) : wp_X9_holdsNow D post o (nI a) ty f k (tm o A S I) := by
  unfold wp_X9_holdsNow
  simp (disch := first | decide | omega) only [tgI, tgR, tzd, taI hT, tsI hT, tp hT, tF_s, tF_n, tA_F, tF_A, tA_s, tA_n, tA_R, tsz, m8, m5, m6, m10, m30, m120, nI_1, nI_add, clT, vinT, true_and, updS, updN, if_true]
  exact h
theorem t_decimal {post : Int32 → zM → Prop} {a d k : Int32} (hT : tok D o A) (h1 : (zb a 5 && zb k 7) = false → post (-1) (tm o A S I)) (h2 : ∀ j i, j < 5 → a = nI j → i < 7 → k = nI i → post 1 (tm o A (thn S j 1 d (nI i)) I)) : wp_X9_decimal D post o a d k (tm o A S I) := by
  unfold wp_X9_decimal wp_X9_decimal_L19
  refine t_isArgument (ifb' (fun e1 => t_in ?_) (fun e1 => h1 (by rw [e1]; rfl)))
  rw [zin_b (n := 7) (by decide)]
  refine ifb (fun e2 => ?_) (fun e2 => h1 (by rw [e2, Bool.and_false]))
  obtain ⟨j, hj, rfl⟩ := zb_of e1 (by decide)
  obtain ⟨i, hi, rfl⟩ := zb_of e2 (by decide)
  exact ⟨tis _ (by decide), t_holdsNow hT hj (h2 j i hj rfl hi rfl)⟩
theorem t_gender {post : Int32 → zM → Prop} {a g : Int32} (hT : tok D o A) (h1 : (zb a 5 && zb g 3) = false → post (-1) (tm o A S I)) (h2 : ∀ j i, j < 5 → a = nI j → i < 3 → g = nI i → post 1 (tm o A (thn S j 2 (nI i) 0) I)) : wp_X9_gender D post o a g (tm o A S I) := by
  unfold wp_X9_gender wp_X9_gender_L19
  refine t_isArgument (ifb' (fun e1 => t_in ?_) (fun e1 => h1 (by rw [e1]; rfl)))
  rw [zin_b (n := 3) (by decide)]
  refine ifb (fun e2 => ?_) (fun e2 => h1 (by rw [e2, Bool.and_false]))
  obtain ⟨j, hj, rfl⟩ := zb_of e1 (by decide)
  obtain ⟨i, hi, rfl⟩ := zb_of e2 (by decide)
  exact ⟨tis _ (by decide), t_holdsNow hT hj (h2 j i hj rfl hi rfl)⟩
def tlist (S : zTS) (j i : Nat) (x y z : Int32) : zTS := tA (tA (tA (thn S j 3 (nI i) 0) 44 (6 * j) x) 44 (6 * j + 1) y) 44 (6 * j + 2) z
theorem m6' (a : Nat) : (6 : Int32) * nI a = nI (6 * a) := by rw [show (6 : Int32) = nI 6 from rfl, nI_mu]
theorem t_list {post : Int32 → zM → Prop} {a n x y z : Int32} (hT : tok D o A) (h1 : (zb a 5 && zb n 4) = false → post (-1) (tm o A S I)) (h2 : ∀ j i, j < 5 → a = nI j → i < 4 → n = nI i → post (nI i) (tm o A (tlist S j i x y z) I)) : wp_X9_list D post o a n x y z (tm o A S I) := by
  unfold wp_X9_list wp_X9_list_L19
  refine t_isArgument (ifb' (fun e1 => t_in ?_) (fun e1 => h1 (by rw [e1]; rfl)))
  rw [zin_b (n := 4) (by decide)]
  refine ifb (fun e2 => ?_) (fun e2 => h1 (by rw [e2, Bool.and_false]))
  obtain ⟨j, hj, rfl⟩ := zb_of e1 (by decide)
  obtain ⟨i, hi, rfl⟩ := zb_of e2 (by decide)
  refine ⟨tis _ (by decide), t_holdsNow hT hj ?_⟩
  rw [m6', show (1 : Int32) = nI 1 from rfl, show (2 : Int32) = nI 2 from rfl]
  simp (disch := first | decide | omega) only [tgI, tgR, tzd, taI hT, tsI hT, tp hT, tF_s, tF_n, tA_F, tF_A, tA_s, tA_n, tA_R, tsz, m8, m5, m6, m10, m30, m120, nI_1, nI_add, clT, vinT, true_and, updS, updN, if_true]
  exact h2 j i hj rfl hi rfl
theorem t_forget {post : Int32 → zM → Prop} {a : Int32} (hT : tok D o A) (h1 : zb a 5 = false → post (-1) (tm o A S I)) (h2 : ∀ j, j < 5 → a = nI j → post (S.2.1 41 j) (tm o A (tA S 41 j 0) I)) : wp_X9_forget D post o a (tm o A S I) := by
  unfold wp_X9_forget
  refine t_isArgument (ifb (fun e1 => ?_) (fun e1 => h1 e1))
  obtain ⟨j, hj, rfl⟩ := zb_of e1 (by decide)
  simp (disch := first | decide | omega) only [tgI, tgR, tzd, taI hT, tsI hT, tp hT, tF_s, tF_n, tA_F, tF_A, tA_s, tA_n, tA_R, tsz, m8, m5, m6, m10, m30, m120, nI_1, nI_add, clT, vinT, true_and, updS, updN, if_true]
  exact h2 j hj rfl
theorem t_more {post : Int32 → zM → Prop} {a v : Int32} (hT : tok D o A) (h1 : zb a 5 = false → post (-1) (tm o A S I)) (h2 : ∀ j, j < 5 → a = nI j → S.2.1 41 j ≠ 3 → post (-2) (tm o A S I))
    (hw : ∀ j, j < 5 → S.2.1 41 j = 3 → ∃ n, n ≤ 6 ∧ S.2.1 42 j = nI n) (h3 : ∀ j, j < 5 → a = nI j → S.2.1 41 j = 3 → S.2.1 42 j = nI 6 → post (-3) (tm o A S I))
    (h4 : ∀ j n, j < 5 → a = nI j → S.2.1 41 j = 3 → n < 6 → S.2.1 42 j = nI n → post (nI (n + 1)) (tm o A (tA (tA S 44 (6 * j + n) v) 42 j (nI (n + 1))) I)) : wp_X9_more D post o a v (tm o A S I) := by
  unfold wp_X9_more
  refine t_isArgument (ifb (fun e1 => ?_) (fun e1 => h1 e1))
  obtain ⟨j, hj, rfl⟩ := zb_of e1 (by decide)
  simp (disch := first | decide | omega) only [tgI, tgR, tzd, taI hT, tsI hT, tp hT, tF_s, tF_n, tA_F, tF_A, tA_s, tA_n, tA_R, tsz, m8, m5, m6, m10, m30, m120, nI_1, nI_add, clT, vinT, true_and, updS, updN, if_true]
  refine ⟨fun z => ?_, fun z => h2 j hj rfl z⟩
  obtain ⟨n, hn, hn2⟩ := hw j hj z
  rw [hn2, show (6 : Int32) = nI 6 from rfl, nI_eq (by omega) (by decide)]
  refine ⟨fun z2 => ?_, fun z2 => ?_⟩
  · rw [show nI 6 = (6 : Int32) from rfl, m6]
    simp (disch := first | decide | omega) only [tgI, tgR, tzd, taI hT, tsI hT, tp hT, tF_s, tF_n, tA_F, tF_A, tA_s, tA_n, tA_R, tsz, m8, m5, m6, m10, m30, m120, nI_1, nI_add, clT, vinT, true_and, updS, updN, if_true, hn2]
    exact h4 j n hj rfl z (by omega) hn2
  · subst z2
    exact h3 j hj rfl z hn2
theorem t_held {post : Int64 → zM → Prop} {a w : Int32} (hT : tok D o A) (h1 : (zb a 5 && zb w 9) = false → post (-9223372036854775808) (tm o A S I))
    (hw : ∀ j, j < 5 → S.2.1 41 j = 3 → ∃ n, n ≤ 6 ∧ S.2.1 42 j = nI n)
    (h2 : ∀ j i, j < 5 → a = nI j → i < 9 → w = nI i → post (if i = 0 then (S.2.1 41 j).toInt64 else if S.2.1 41 j = 0 then -9223372036854775808 else if i = 1 then (S.2.1 42 j).toInt64 else if i = 2 then (S.2.1 43 j).toInt64
      else if S.2.1 41 j = 3 ∧ i - 3 < (S.2.1 42 j).toNatClampNeg then (S.2.1 44 (6 * j + (i - 3))).toInt64 else -9223372036854775808) (tm o A S I)) : wp_X9_held D post o a w (tm o A S I) := by
  unfold wp_X9_held wp_X9_held_L19 wp_X9_held_L75 wp_X9_held_L115 wp_X9_held_L118
  refine t_isArgument (ifb' (fun e1 => t_in ?_) (fun e1 => h1 (by rw [e1]; rfl)))
  rw [zin_b (n := 9) (by decide)]
  refine ifb (fun e2 => ?_) (fun e2 => h1 (by rw [e2, Bool.and_false]))
  obtain ⟨j, hj, rfl⟩ := zb_of e1 (by decide)
  obtain ⟨i, hi, rfl⟩ := zb_of e2 (by decide)
  have h := h2 j i hj rfl hi rfl
  rw [show nI i = 0 ↔ i = 0 by rw [show (0 : Int32) = nI 0 from rfl, nI_eq (by omega) (by decide)], show nI i = 1 ↔ i = 1 by rw [show (1 : Int32) = nI 1 from rfl, nI_eq (by omega) (by decide)], show (3 : Int32) ≤ nI i ↔ 3 ≤ i by rw [show (3 : Int32) = nI 3 from rfl, nI_leI (by decide) (by omega)]]
  simp (disch := first | decide | omega) only [tgI, tgR, tzd, taI hT, tsI hT, tp hT, tF_s, tF_n, tA_F, tF_A, tA_s, tA_n, tA_R, tsz, m8, m5, m6, m10, m30, m120, nI_1, nI_add, clT, vinT, true_and, updS, updN, if_true]
  refine ifn (fun z0 => ?_) (fun z0 => ?_)
  · rw [if_pos z0] at h; exact h
  rw [if_neg z0] at h
  refine ifn (fun z1 => ?_) (fun z1 => ?_)
  · rw [if_pos z1] at h; exact h
  rw [if_neg z1] at h
  refine ⟨fun z2 => ?_, fun z2 => ?_⟩
  · rw [if_neg (by omega), if_neg (by omega)] at h
    refine ifn (fun z3 => ?_) (fun z3 => ?_)
    · obtain ⟨n, hn, hn2⟩ := hw j hj z3
      have e3 : nI i - 3 = nI (i - 3) := by
        obtain ⟨y, rfl⟩ : ∃ y, i = y + 3 := ⟨i - 3, by omega⟩
        rw [← nI_add, show (3 : Int32) = nI 3 from rfl, Int32.add_sub_cancel, Nat.add_sub_cancel]
      have e4 : (6 : Int32) * nI j + nI i - 3 = nI (6 * j + (i - 3)) := by
        obtain ⟨y, rfl⟩ : ∃ y, i = y + 3 := ⟨i - 3, by omega⟩
        rw [m6, show 6 * j + (y + 3) = (6 * j + y) + 3 by omega, ← nI_add, show (3 : Int32) = nI 3 from rfl, Int32.add_sub_cancel, Nat.add_sub_cancel]
      rw [hn2, e3, nI_leI (by omega) (by omega)]
      rw [hn2, clT (by omega)] at h
      refine ⟨fun z4 => ?_, fun z4 => ?_⟩
      · rw [if_neg (by omega)] at h; exact h
      · rw [← m6, e4]
        simp (disch := first | decide | omega) only [tgI, tgR, tzd, taI hT, tsI hT, tp hT, tF_s, tF_n, tA_F, tF_A, tA_s, tA_n, tA_R, tsz, m8, m5, m6, m10, m30, m120, nI_1, nI_add, clT, vinT, true_and, updS, updN, if_true]
        rw [if_pos ⟨z3, by omega⟩] at h; exact h
    · rw [if_neg (fun y => z3 y.1)] at h; exact h
  · refine ifn (fun z3 => ?_) (fun z3 => ?_)
    · rw [if_pos z3] at h; exact h
    · rw [if_neg z3, if_pos (by omega)] at h; exact h
theorem t_grow {post : Int64 → zM → Prop} {a b : Int32} (hT : tok D o A) (h1 : zb a 5 = false → post (-9223372036854775808) (tm o A S I)) (h2 : ∀ j, j < 5 → a = nI j → S.2.1 41 j ≠ 1 → post (-9223372036854775808) (tm o A S I))
    (h3 : ∀ j, j < 5 → a = nI j → S.2.1 41 j = 1 → (S.2.1 42 j).toInt64 * b.toInt64 ≠ ((S.2.1 42 j).toInt64 * b.toInt64).toInt32.toInt64 → post (-9223372036854775808) (tm o A S I))
    (h4 : ∀ j, j < 5 → a = nI j → S.2.1 41 j = 1 → (S.2.1 42 j).toInt64 * b.toInt64 = ((S.2.1 42 j).toInt64 * b.toInt64).toInt32.toInt64 → post ((S.2.1 42 j).toInt64 * b.toInt64) (tm o A (tA S 42 j ((S.2.1 42 j).toInt64 * b.toInt64).toInt32) I)) : wp_X9_grow D post o a b (tm o A S I) := by
  unfold wp_X9_grow wp_X9_grow_L17
  refine t_isArgument (ifb' (fun e1 => ?_) (fun e1 => h1 e1))
  obtain ⟨j, hj, rfl⟩ := zb_of e1 (by decide)
  simp (disch := first | decide | omega) only [tgI, tgR, tzd, taI hT, tsI hT, tp hT, tF_s, tF_n, tA_F, tF_A, tA_s, tA_n, tA_R, tsz, m8, m5, m6, m10, m30, m120, nI_1, nI_add, clT, vinT, true_and, updS, updN, if_true]
  refine ⟨fun z => t_isInt (ifb (fun z2 => ?_) (fun z2 => ?_)), fun z => h2 j hj rfl z⟩
  · simp (disch := first | decide | omega) only [tgI, tgR, tzd, taI hT, tsI hT, tp hT, tF_s, tF_n, tA_F, tF_A, tA_s, tA_n, tA_R, tsz, m8, m5, m6, m10, m30, m120, nI_1, nI_add, clT, vinT, true_and, updS, updN, if_true]
    exact h4 j hj rfl z (of_decide_eq_true z2)
  · exact h3 j hj rfl z (of_decide_eq_false z2)
end TA1
