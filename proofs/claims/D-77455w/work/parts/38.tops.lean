/-! the twin's acts: what is told of messages, what arguments hold -/
theorem m8 (a b : Nat) : (8 : Int32) * nI a + nI b = nI (8 * a + b) := by rw [show (8 : Int32) = nI 8 from rfl, nI_mu, nI_add]
theorem m5 (a b : Nat) : (5 : Int32) * nI a + nI b = nI (5 * a + b) := by rw [show (5 : Int32) = nI 5 from rfl, nI_mu, nI_add]
theorem m6 (a b : Nat) : (6 : Int32) * nI a + nI b = nI (6 * a + b) := by rw [show (6 : Int32) = nI 6 from rfl, nI_mu, nI_add]
theorem m10 (a b : Nat) : (10 : Int32) * nI a + nI b = nI (10 * a + b) := by rw [show (10 : Int32) = nI 10 from rfl, nI_mu, nI_add]
theorem m30 (a b : Nat) : (30 : Int32) * nI a + nI b = nI (30 * a + b) := by rw [show (30 : Int32) = nI 30 from rfl, nI_mu, nI_add]
theorem m120 (a b : Nat) : (120 : Int32) * nI a + nI b = nI (120 * a + b) := by rw [show (120 : Int32) = nI 120 from rfl, nI_mu, nI_add]
theorem clT {n : Nat} (h : n < 2 ^ 31) : (nI n).toNatClampNeg = n := nI_clamp h
theorem vinT {i n : Nat} (h : i < n) (hn : n < 2 ^ 31) : vp_in (nI i) n = True := eq_true (vp_in_nI h hn)
theorem tF_s {S : zTS} {k : Nat} {v : Int32} : (tF S k v).1 k = v := if_pos rfl
theorem tF_n {S : zTS} {k j : Nat} {v : Int32} (h : j ≠ k) : (tF S k v).1 j = S.1 j := if_neg h
theorem tA_s {S : zTS} {k i : Nat} {v : Int32} : (tA S k i v).2.1 k = upd (S.2.1 k) i v := if_pos rfl
theorem tA_n {S : zTS} {k j i : Nat} {v : Int32} (h : j ≠ k) : (tA S k i v).2.1 j = S.2.1 j := if_neg h
theorem updS {f : Nat → Int32} {k : Nat} {x : Int32} : upd f k x k = x := if_pos rfl
theorem updN {f : Nat → Int32} {k j : Nat} {x : Int32} (h : j ≠ k) : upd f k x j = f j := if_neg h
theorem ifc {c : Prop} {A B : Prop} (h1 : c → A) (h2 : ¬ c → B) : (c → A) ∧ (¬ c → B) := ⟨h1, h2⟩
theorem ifn {c : Prop} {A B : Prop} (h1 : c → A) (h2 : ¬ c → B) : (¬ c → B) ∧ (c → A) := ⟨h2, h1⟩
section TO
variable {D : zD} {o : Nat} {A : Nat → Nat} {S : zTS} {I : zM}
theorem t_told {post : Int32 → zM → Prop} {s w : Int32} (hT : tok D o A) (h1 : (zb s 4 && zb w 4) = false → post (-1) (tm o A S I)) (h2 : ∀ j : Nat, j < 4 → s = nI j → zb w 4 = true → ¬ 0 ≤ S.2.1 9 j → post (-2) (tm o A S I))
    (h3 : ∀ j : Nat, j < 4 → s = nI j → zb w 4 = true → 0 ≤ S.2.1 9 j → post (if w = 0 then S.2.1 11 j else if w = 1 then S.2.1 12 j else if w = 2 then S.2.1 13 j else S.2.1 14 j) (tm o A S I)) : wp_X9_told D post o s w (tm o A S I) := by
  unfold wp_X9_told wp_X9_told_L19 wp_X9_told_L80
  refine t_isSlot (ifb' (fun e1 => t_in ?_) (fun e1 => h1 (by rw [e1]; rfl)))
  rw [zin_b (n := 4) (by decide)]
  refine ifb (fun e2 => ?_) (fun e2 => h1 (by rw [e2, Bool.and_false]))
  obtain ⟨j, hj, rfl⟩ := zb_of e1 (by decide)
  simp (disch := first | decide | omega) only [tgI, tgR, tzd, taI hT, tsI hT, tp hT, tF_s, tF_n, tA_F, tF_A, tA_s, tA_n, tA_R, tsz, m8, m5, m6, m10, m30, m120, nI_1, nI_add, clT, vinT, true_and, updS, updN, if_true]
  refine ifc (fun z => ?_) (fun z => h2 j hj rfl e2 z)
  have h := h3 j hj rfl e2 z
  refine ifn (fun z0 => ?_) (fun z0 => ifn (fun z1 => ?_) (fun z1 => ifn (fun z2 => ?_) (fun z2 => ?_)))
  · rw [if_pos z0] at h; exact h
  · rw [if_neg z0, if_pos z1] at h; exact h
  · rw [if_neg z0, if_neg z1, if_pos z2] at h; exact h
  · rw [if_neg z0, if_neg z1, if_neg z2] at h; exact h
theorem t_type {post : Int32 → zM → Prop} {s a : Int32} (hT : tok D o A) (h1 : (zb s 4 && zb a 5) = false → post (-1) (tm o A S I))
    (h3 : ∀ j i : Nat, j < 4 → s = nI j → i < 5 → a = nI i → post (if 0 ≤ S.2.1 9 j then S.2.1 15 (5 * j + i) else -2) (tm o A S I)) : wp_X9_type D post o s a (tm o A S I) := by
  unfold wp_X9_type wp_X9_type_L14 wp_X9_type_L40
  refine t_isSlot (ifb' (fun e1 => t_isArgument (ifb (fun e2 => ?_) (fun e2 => h1 (by rw [e2, Bool.and_false])))) (fun e1 => h1 (by rw [e1]; rfl)))
  obtain ⟨j, hj, rfl⟩ := zb_of e1 (by decide)
  obtain ⟨i, hi, rfl⟩ := zb_of e2 (by decide)
  have h := h3 j i hj rfl hi rfl
  simp (disch := first | decide | omega) only [tgI, tgR, tzd, taI hT, tsI hT, tp hT, tF_s, tF_n, tA_F, tF_A, tA_s, tA_n, tA_R, tsz, m8, m5, m6, m10, m30, m120, nI_1, nI_add, clT, vinT, true_and, updS, updN, if_true]
  refine ifc (fun z => ?_) (fun z => ?_)
  · rw [if_pos z] at h; exact h
  · rw [if_neg z] at h; exact h
/-- is there such a choice: c of the slot j -/
def zis9 (S : zTS) (j : Nat) (c : Int32) : Bool := decide (¬ S.2.1 9 j < 0) && zin c.toInt64 0 (S.2.1 12 j - 1).toInt64
theorem t_isChoice {post : Int32 → zM → Prop} {j : Nat} {c : Int32} (hT : tok D o A) (hj : j < 4) (h : post (b1 (zis9 S j c)) (tm o A S I)) : wp_X9_isChoice D post o (nI j) c (tm o A S I) := by
  unfold wp_X9_isChoice wp_X9_isChoice_L31 wp_X9_isChoice_L32
  simp (disch := first | decide | omega) only [tgI, tgR, tzd, taI hT, tsI hT, tp hT, tF_s, tF_n, tA_F, tF_A, tA_s, tA_n, tA_R, tsz, m8, m5, m6, m10, m30, m120, nI_1, nI_add, clT, vinT, true_and, updS, updN, if_true]
  unfold zis9 at h
  refine ifc (fun z => ?_) (fun z => t_in (ifb' (fun e => ?_) (fun e => ?_)))
  · rw [decide_eq_false (fun y => y z)] at h; exact ⟨rfl, h⟩
  · rw [decide_eq_true z, e] at h; exact ⟨rfl, h⟩
  · rw [decide_eq_true z, e] at h; exact ⟨rfl, h⟩
theorem t_keyAt {post : Int32 → zM → Prop} {j c b : Nat} (hT : tok D o A) (hj : j < 4) (hc : c < 8) (hb : b < 10) (h : post (S.2.1 20 (10 * (8 * j + c) + b)) (tm o A S I)) : wp_X9_keyAt D post o (nI j) (nI c) (nI b) (tm o A S I) := by
  unfold wp_X9_keyAt
  simp (disch := first | decide | omega) only [tgI, tgR, tzd, taI hT, tsI hT, tp hT, tF_s, tF_n, tA_F, tF_A, tA_s, tA_n, tA_R, tsz, m8, m5, m6, m10, m30, m120, nI_1, nI_add, clT, vinT, true_and, updS, updN, if_true]
  exact h
end TO
