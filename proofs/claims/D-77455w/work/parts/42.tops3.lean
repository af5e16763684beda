/-! the twin's acts: lacks, branch, same -/
def zWk (S : zTS) : Prop := ∀ j, j < 4 → ¬ S.2.1 9 j < 0 → ∃ n, n ≤ 8 ∧ S.2.1 12 j = nI n ∧ ∀ c, c < n → ∃ (ks : List Nat) (pl : Bool), zks S j c ks ∧ S.2.1 17 (8 * j + c) = (if pl then 1 else 2)
theorem zWk_f {S : zTS} (h : zWk S) : zWf S := fun j hj h1 => by
  obtain ⟨n, hn, h2, h3⟩ := h j hj h1
  exact ⟨n, hn, h2, fun c hc => by obtain ⟨ks, pl, hK, -⟩ := h3 c hc; exact ⟨ks.length, hK.2.1, hK.1⟩⟩
theorem zis9_k {S : zTS} {j : Nat} {c : Int32} (hW : zWk S) (hj : j < 4) (h : zis9 S j c = true) : ∃ (i n : Nat) (ks : List Nat) (pl : Bool), i < n ∧ n ≤ 8 ∧ c = nI i ∧ S.2.1 12 j = nI n ∧ zks S j i ks ∧ S.2.1 17 (8 * j + i) = (if pl then 1 else 2) ∧ ¬ S.2.1 9 j < 0 := by
  obtain ⟨i, m, n, hi, hn, hm, rfl, h2, h3, h4⟩ := zis9_t (zWk_f hW) hj h
  obtain ⟨n', hn', h5, h6⟩ := hW j hj h4
  rw [h2, nI_eq (by omega) (by omega)] at h5
  subst h5
  obtain ⟨ks, pl, hK, hp⟩ := h6 i hi
  exact ⟨i, n, ks, pl, hi, hn, rfl, h2, hK, hp, h4⟩
section TO3
variable {D : zD} {o : Nat} {A : Nat → Nat} {S : zTS} {I : zM}
theorem t_lacks {post : Int32 → zM → Prop} {n : Nat} {s l c w : Int32} (hT : tok D o A) (hn : S.1 0 = nI n) (hn2 : n ≤ 12) (hW : zWk S) (h1 : (zb s 4 && (zb l 7 && zb w 2)) = false → post (-1) (tm o A S I)) (h2 : ∀ j : Nat, j < 4 → s = nI j → zb l 7 = true → zb w 2 = true → zis9 S j c = false → post (-2) (tm o A S I))
    (h3 : ∀ (j i q : Nat) (ks : List Nat) (pl : Bool), j < 4 → s = nI j → c = nI i → l = nI q → q < 7 → zb w 2 = true → zis9 S j c = true → zks S j i ks → S.2.1 17 (8 * j + i) = (if pl then 1 else 2) → post (if w = 0 then zlack ks pl (zused (zof (zown S n) q)) else zdead ks pl (zused (zof (zown S n) q))) (tm o A S I)) : wp_X9_lacks D post o s l c w (tm o A S I) := by
  unfold wp_X9_lacks wp_X9_lacks_L25 wp_X9_lacks_L61
  refine t_isSlot (ifb' (fun e1 => t_isLanguage (ifb' (fun e2 => t_in ?_) (fun e2 => h1 (by rw [e2, Bool.false_and, Bool.and_false])))) (fun e1 => h1 (by rw [e1]; rfl)))
  rw [zin_b (n := 2) (by decide)]
  refine ifb (fun e3 => ?_) (fun e3 => h1 (by rw [e3, Bool.and_false, Bool.and_false]))
  obtain ⟨j, hj, rfl⟩ := zb_of e1 (by decide)
  obtain ⟨q, hq, rfl⟩ := zb_of e2 (by decide)
  refine ⟨tis _ (by decide), t_isChoice hT hj (ifb (fun e4 => ?_) (fun e4 => h2 j hj rfl e2 e3 e4))⟩
  obtain ⟨i, m, ks, pl, hi, hm, rfl, -, hK, hp, -⟩ := zis9_k hW hj e4
  have h := h3 j i q ks pl hj rfl rfl rfl hq e3 e4 hK hp
  refine ifn (fun z => ⟨tis _ (by decide), t_lacksOf hT hn hn2 hj (by omega) hq hK hp ?_⟩) (fun z => ⟨tis _ (by decide), t_deadOf hT hn hn2 hj (by omega) hq hK hp ?_⟩)
  · rw [if_pos z] at h; exact h
  · rw [if_neg z] at h; exact h
theorem t_branch {post : Int32 → zM → Prop} {n : Nat} {s l c d k : Int32} (hT : tok D o A) (hn : S.1 0 = nI n) (hn2 : n ≤ 12) (hW : zWk S) (h1 : (zb s 4 && (zb l 7 && zb k 7)) = false → post (-1) (tm o A S I)) (h2 : ∀ j : Nat, j < 4 → s = nI j → zb l 7 = true → zb k 7 = true → zis9 S j c = false → post (-2) (tm o A S I))
    (h3 : ∀ (j i q r : Nat) (ks : List Nat) (pl : Bool), j < 4 → s = nI j → c = nI i → l = nI q → q < 7 → k = nI r → r < 7 → zis9 S j c = true → zks S j i ks → S.2.1 17 (8 * j + i) = (if pl then 1 else 2) → post (if pl then zoi (-1) (zbo d r (zoth ks (zca (zof (zown S n) q) d r) 5) 0 ks) else -2) (tm o A S I)) : wp_X9_branch D post o s l c d k (tm o A S I) := by
  unfold wp_X9_branch wp_X9_branch_L27 wp_X9_branch_L53
  refine t_isSlot (ifb' (fun e1 => t_isLanguage (ifb' (fun e2 => t_in ?_) (fun e2 => h1 (by rw [e2, Bool.false_and, Bool.and_false])))) (fun e1 => h1 (by rw [e1]; rfl)))
  rw [zin_b (n := 7) (by decide)]
  refine ifb (fun e3 => ?_) (fun e3 => h1 (by rw [e3, Bool.and_false, Bool.and_false]))
  obtain ⟨j, hj, rfl⟩ := zb_of e1 (by decide)
  obtain ⟨q, hq, rfl⟩ := zb_of e2 (by decide)
  obtain ⟨r, hr, rfl⟩ := zb_of e3 (by decide)
  refine ⟨tis _ (by decide), t_isChoice hT hj (ifb' (fun e4 => ?_) (fun e4 => h2 j hj rfl e2 e3 e4))⟩
  obtain ⟨i, m, ks, pl, hi, hm, rfl, -, hK, hp, -⟩ := zis9_k hW hj e4
  have h := h3 j i q r ks pl hj rfl rfl rfl hq rfl hr e4 hK hp
  simp (disch := first | decide | omega) only [tgI, tgR, tzd, taI hT, tsI hT, tp hT, tF_s, tF_n, tA_F, tF_A, tA_s, tA_n, tA_R, tsz, m8, m5, m6, m10, m30, m120, nI_1, nI_add, clT, vinT, true_and, updS, updN, if_true, hp]
  cases pl
  · exact ⟨fun z => absurd z (by decide), fun _ => h⟩
  · exact ⟨fun _ => ⟨tis _ (by decide), t_branchOf hT hn hn2 hj (by omega) hq (by omega) hK h⟩, fun z => absurd (if_pos rfl) z⟩
/-- the types of two slots' arguments are alike, from a on -/
def zst9 (S : zTS) (j i : Nat) : Nat → Bool
  | 0 => true
  | a + 1 => zst9 S j i a && decide (S.2.1 15 (5 * j + a) = S.2.1 15 (5 * i + a))
theorem t_same {post : Int32 → zM → Prop} {s c : Int32} (hT : tok D o A) (h1 : (zb s 4 && zb c 4) = false → post (-1) (tm o A S I)) (h2 : ∀ j i : Nat, j < 4 → s = nI j → i < 4 → c = nI i → (S.2.1 9 j < 0 ∨ S.2.1 9 i < 0) → post (-2) (tm o A S I))
    (h3 : ∀ j i : Nat, j < 4 → s = nI j → i < 4 → c = nI i → ¬ S.2.1 9 j < 0 → ¬ S.2.1 9 i < 0 → post (b1 (decide (S.2.1 14 j = S.2.1 14 i) && zst9 S j i 5)) (tm o A S I)) : wp_X9_same D post o s c (tm o A S I) := by
  unfold wp_X9_same wp_X9_same_L14 wp_X9_same_L34
  refine t_isSlot (ifb' (fun e1 => t_isSlot (ifb (fun e2 => ?_) (fun e2 => h1 (by rw [e2, Bool.and_false])))) (fun e1 => h1 (by rw [e1]; rfl)))
  obtain ⟨j, hj, rfl⟩ := zb_of e1 (by decide)
  obtain ⟨i, hi, rfl⟩ := zb_of e2 (by decide)
  simp (disch := first | decide | omega) only [tgI, tgR, tzd, taI hT, tsI hT, tp hT, tF_s, tF_n, tA_F, tF_A, tA_s, tA_n, tA_R, tsz, m8, m5, m6, m10, m30, m120, nI_1, nI_add, clT, vinT, true_and, updS, updN, if_true, i0_le]
  refine ifc (fun z => h2 j i hj rfl hi rfl (Or.inl z)) (fun z => ⟨fun z2 => ?_, fun z2 => h2 j i hj rfl hi rfl (Or.inr (Classical.not_not.mp z2))⟩)
  have h := h3 j i hj rfl hi rfl z z2
  have loop : ∀ f a : Nat, ∀ x : Bool, a ≤ 5 → 5 - a < f → x = (decide (S.2.1 14 j = S.2.1 14 i) && zst9 S j i a) → wp_X9_same_L61 D post o f (nI j) (nI i) (b1 x) (nI a) (tm o A S I) := by
    intro f
    induction f with
    | zero => intro a x _ hf; omega
    | succ f ih =>
      intro a x ha hf hx
      unfold wp_X9_same_L61 wp_X9_same_L117 wp_X9_same_L100 wp_X9_same_L101
      rw [show (5 : Int32) = nI 5 from rfl, nI_leI (by decide) (by omega)]
      refine ifc (fun z => ?_) (fun z => ?_)
      · have : a = 5 := by omega
        subst this
        rw [← hx] at h
        refine ifb' (fun e => ?_) (fun e => ?_)
        · rw [e] at h; exact h
        · rw [e] at h; exact h
      · refine ifb' (fun e => ?_) (fun e => ?_)
        · rw [show nI 5 = (5 : Int32) from rfl]
          simp (disch := first | decide | omega) only [tgI, tgR, tzd, taI hT, tsI hT, tp hT, tF_s, tF_n, tA_F, tF_A, tA_s, tA_n, tA_R, tsz, m8, m5, m6, m10, m30, m120, nI_1, nI_add, clT, vinT, true_and, updS, updN, if_true]
          refine ifn (fun z3 => ?_) (fun z3 => ?_)
          · exact ih (a + 1) true (by omega) (by omega) (by rw [zst9, ← Bool.and_assoc, ← hx, e, decide_eq_true z3]; rfl)
          · exact ih (a + 1) false (by omega) (by omega) (by rw [zst9, ← Bool.and_assoc, decide_eq_false z3, Bool.and_false])
        · rw [nI_1]
          exact ih (a + 1) false (by omega) (by omega) (by rw [zst9, ← Bool.and_assoc, ← hx, e]; rfl)
  unfold wp_X9_same_L57
  refine ifn (fun z3 => ⟨6, loop 6 0 true (by omega) (by omega) ?_⟩) (fun z3 => ⟨6, loop 6 0 false (by omega) (by omega) ?_⟩)
  · rw [decide_eq_true z3]; rfl
  · rw [decide_eq_false z3]; rfl
end TO3
