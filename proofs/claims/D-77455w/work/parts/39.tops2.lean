/-! the twin's acts on choices -/
/-- in each slot with a message: at most 8 choices, of at most 10 branches each -/
def zWf (S : zTS) : Prop := ∀ j, j < 4 → ¬ S.2.1 9 j < 0 → ∃ n, n ≤ 8 ∧ S.2.1 12 j = nI n ∧ ∀ c, c < n → ∃ m, m ≤ 10 ∧ S.2.1 19 (8 * j + c) = nI m
theorem zis9_n {S : zTS} {j n : Nat} {c : Int32} (h1 : ¬ S.2.1 9 j < 0) (h2 : S.2.1 12 j = nI n) (hn : n < 2 ^ 30) : zis9 S j c = zb c n := by
  unfold zis9
  rw [decide_eq_true h1, Bool.true_and, h2]
  refine zin_b ?_
  rw [Int32.toInt_toInt64]
  rcases Nat.eq_zero_or_pos n with rfl | hp
  · decide
  · obtain ⟨m, rfl⟩ : ∃ m, n = m + 1 := ⟨n - 1, by omega⟩
    rw [nI_pred, nI_toInt (by omega)]
    omega
theorem zis9_f {S : zTS} {j : Nat} {c : Int32} (h1 : S.2.1 9 j < 0) : zis9 S j c = false := by
  unfold zis9
  rw [decide_eq_false (fun y => y h1)]
  rfl
/-- a choice that is there -/
theorem zis9_t {S : zTS} {j : Nat} {c : Int32} (hW : zWf S) (hj : j < 4) (h : zis9 S j c = true) : ∃ i m n : Nat, i < n ∧ n ≤ 8 ∧ m ≤ 10 ∧ c = nI i ∧ S.2.1 12 j = nI n ∧ S.2.1 19 (8 * j + i) = nI m ∧ ¬ S.2.1 9 j < 0 := by
  have h1 : ¬ S.2.1 9 j < 0 := fun z => by rw [zis9_f z] at h; cases h
  obtain ⟨n, hn, h2, h3⟩ := hW j hj h1
  rw [zis9_n h1 h2 (by omega)] at h
  obtain ⟨i, hi, rfl⟩ := zb_of h (by omega)
  obtain ⟨m, hm, h4⟩ := h3 i hi
  exact ⟨i, m, n, hi, hn, hm, rfl, h2, h4, h1⟩
/-- which branch has a key -/
def zbw (S : zTS) (j c : Nat) (key : Int32) : Nat → Nat → Int32
  | 0, _ => -1
  | f + 1, b => if S.2.1 20 (10 * (8 * j + c) + b) = key then nI b else zbw S j c key f (b + 1)
section TO2
variable {D : zD} {o : Nat} {A : Nat → Nat} {S : zTS} {I : zM}
theorem t_branchWith {post : Int32 → zM → Prop} {j c m : Nat} {key : Int32} (hT : tok D o A) (hj : j < 4) (hc : c < 8) (hm : m ≤ 10) (he : S.2.1 19 (8 * j + c) = nI m) (h : post (zbw S j c key m 0) (tm o A S I)) : wp_X9_branchWith D post o (nI j) (nI c) key (tm o A S I) := by
  have loop : ∀ f b : Nat, m - b ≤ f → b ≤ m → zbw S j c key (m - b) b = zbw S j c key m 0 → wp_X9_branchWith_L3 D post o (f + 1) (nI j) (nI c) key (nI b) (tm o A S I) := by
    intro f
    induction f with
    | zero =>
      intro b hf hb e
      unfold wp_X9_branchWith_L3
      simp (disch := first | decide | omega) only [tgI, tgR, tzd, taI hT, tsI hT, tp hT, tF_s, tF_n, tA_F, tF_A, tA_s, tA_n, tA_R, tsz, m8, m5, m6, m10, m30, m120, nI_1, nI_add, clT, vinT, true_and, updS, updN, if_true, he]
      have : b = m := by omega
      subst this
      refine ifc (fun _ => ?_) (fun z => absurd (nI_le (Nat.le_refl _) (by omega)) z)
      rw [Nat.sub_self] at e
      rw [← e] at h; exact h
    | succ f ih =>
      intro b hf hb e
      unfold wp_X9_branchWith_L3
      simp (disch := first | decide | omega) only [tgI, tgR, tzd, taI hT, tsI hT, tp hT, tF_s, tF_n, tA_F, tF_A, tA_s, tA_n, tA_R, tsz, m8, m5, m6, m10, m30, m120, nI_1, nI_add, clT, vinT, true_and, updS, updN, if_true, he]
      rw [nI_leI (by omega) (by omega)]
      refine ifc (fun z => ?_) (fun z => ⟨tis _ (by decide), t_keyAt hT hj hc (by omega) ?_⟩)
      · have : b = m := by omega
        subst this
        rw [Nat.sub_self] at e
        rw [← e] at h; exact h
      · rw [show m - b = (m - (b + 1)) + 1 by omega, zbw] at e
        refine ifn (fun z2 => ?_) (fun z2 => ?_)
        · rw [if_pos z2] at e
          rw [← e] at h; exact h
        · rw [if_neg z2] at e
          exact ih (b + 1) (by omega) (by omega) e
  exact ⟨m + 1, loop m 0 (by omega) (Nat.zero_le _) rfl⟩
theorem t_choice {post : Int32 → zM → Prop} {s c w : Int32} (hT : tok D o A) (hW : zWf S) (h1 : (zb s 4 && zb w 4) = false → post (-1) (tm o A S I)) (h2 : ∀ j : Nat, j < 4 → s = nI j → zb w 4 = true → zis9 S j c = false → post (-2) (tm o A S I))
    (h3 : ∀ j i : Nat, j < 4 → s = nI j → c = nI i → zb w 4 = true → zis9 S j c = true → post (if w = 0 then S.2.1 16 (8 * j + i) else if w = 1 then S.2.1 19 (8 * j + i) else if w = 2 then S.2.1 17 (8 * j + i) else S.2.1 18 (8 * j + i)) (tm o A S I)) : wp_X9_choice D post o s c w (tm o A S I) := by
  unfold wp_X9_choice wp_X9_choice_L19 wp_X9_choice_L92
  refine t_isSlot (ifb' (fun e1 => t_in ?_) (fun e1 => h1 (by rw [e1]; rfl)))
  rw [zin_b (n := 4) (by decide)]
  refine ifb (fun e2 => ?_) (fun e2 => h1 (by rw [e2, Bool.and_false]))
  obtain ⟨j, hj, rfl⟩ := zb_of e1 (by decide)
  refine ⟨tis _ (by decide), t_isChoice hT hj (ifb (fun e3 => ?_) (fun e3 => h2 j hj rfl e2 e3))⟩
  obtain ⟨i, m, n, hi, hn, hm, rfl, -, -, -⟩ := zis9_t hW hj e3
  have h := h3 j i hj rfl rfl e2 e3
  simp (disch := first | decide | omega) only [tgI, tgR, tzd, taI hT, tsI hT, tp hT, tF_s, tF_n, tA_F, tF_A, tA_s, tA_n, tA_R, tsz, m8, m5, m6, m10, m30, m120, nI_1, nI_add, clT, vinT, true_and, updS, updN, if_true]
  refine ifn (fun z0 => ?_) (fun z0 => ifn (fun z1 => ?_) (fun z1 => ifn (fun z2 => ?_) (fun z2 => ?_)))
  · rw [if_pos z0] at h; exact h
  · rw [if_neg z0, if_pos z1] at h; exact h
  · rw [if_neg z0, if_neg z1, if_pos z2] at h; exact h
  · rw [if_neg z0, if_neg z1, if_neg z2] at h; exact h
theorem t_key {post : Int32 → zM → Prop} {s c b : Int32} (hT : tok D o A) (hW : zWf S) (h1 : zb s 4 = false → post (-1) (tm o A S I)) (h2 : ∀ j : Nat, j < 4 → s = nI j → zis9 S j c = false → post (-2) (tm o A S I))
    (h3 : ∀ j i m : Nat, j < 4 → i < 8 → m ≤ 10 → s = nI j → c = nI i → zis9 S j c = true → S.2.1 19 (8 * j + i) = nI m → (zb b m = false → post (-2) (tm o A S I)) ∧ ∀ q, q < m → b = nI q → post (S.2.1 20 (10 * (8 * j + i) + q)) (tm o A S I)) : wp_X9_key D post o s c b (tm o A S I) := by
  unfold wp_X9_key wp_X9_key_L45 wp_X9_key_L46 wp_X9_key_L65
  refine t_isSlot (ifb (fun e1 => ?_) (fun e1 => h1 e1))
  obtain ⟨j, hj, rfl⟩ := zb_of e1 (by decide)
  refine ⟨tis _ (by decide), t_isChoice hT hj (ifb' (fun e3 => ?_) (fun e3 => ⟨fun _ => h2 j hj rfl e3, fun z => absurd rfl z⟩))⟩
  obtain ⟨i, m, n, hi, hn, hm, rfl, -, hm2, -⟩ := zis9_t hW hj e3
  obtain ⟨h4, h5⟩ := h3 j i m hj (by omega) hm rfl rfl e3 hm2
  simp (disch := first | decide | omega) only [tgI, tgR, tzd, taI hT, tsI hT, tp hT, tF_s, tF_n, tA_F, tF_A, tA_s, tA_n, tA_R, tsz, m8, m5, m6, m10, m30, m120, nI_1, nI_add, clT, vinT, true_and, updS, updN, if_true, hm2]
  refine t_in ?_
  have hz : zin b.toInt64 0 (nI m - 1).toInt64 = zb b m := by
    refine zin_b ?_
    rw [Int32.toInt_toInt64]
    rcases Nat.eq_zero_or_pos m with rfl | hp
    · decide
    · obtain ⟨q, rfl⟩ : ∃ q, m = q + 1 := ⟨m - 1, by omega⟩
      rw [nI_pred, nI_toInt (by omega)]
      omega
  rw [hz]
  refine ifb' (fun e4 => ⟨fun z => absurd z (by decide), fun _ => ?_⟩) (fun e4 => ⟨fun _ => h4 e4, fun z => absurd trivial z⟩)
  obtain ⟨q, hq, rfl⟩ := zb_of e4 (by omega)
  exact ⟨tis _ (by decide), t_keyAt hT hj (by omega) (by omega) (h5 q hq rfl)⟩
end TO2
