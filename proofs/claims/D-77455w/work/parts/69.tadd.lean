/-! the twin: add -/
section TADD
variable {D : zD} {o : Nat} {A : Nat → Nat} {S : zTS} {I : zM}
/-- both are ints, and their sum too -/
def zadd (d1 : Int32) (k1 : Nat) (d2 : Int32) (k2 : Nat) : Option (Int64 × Nat) :=
  let K := max k1 k2
  let a := d1.toInt64 * lN (10 ^ (K - k1))
  let b := d2.toInt64 * lN (10 ^ (K - k2))
  if a = a.toInt32.toInt64 ∧ b = b.toInt32.toInt64 ∧ a + b = (a + b).toInt32.toInt64 then some (a + b, K) else none
theorem t_add {post : Int64 → zM → Prop} {x y w : Int32} (hT : tok D o A) (h1 : (zb x 5 && (zb y 5 && zb w 5)) = false → post (-9223372036854775808) (tm o A S I))
    (h2 : ∀ a b c, a < 5 → b < 5 → c < 5 → x = nI a → y = nI b → w = nI c → (S.2.1 41 a ≠ 1 ∨ S.2.1 41 b ≠ 1) → post (-9223372036854775808) (tm o A S I))
    (hk : ∀ a, a < 5 → S.2.1 41 a = 1 → ∃ k, k ≤ 6 ∧ S.2.1 43 a = nI k)
    (h3 : ∀ a b c k1 k2, a < 5 → b < 5 → c < 5 → x = nI a → y = nI b → w = nI c → S.2.1 41 a = 1 → S.2.1 41 b = 1 → k1 ≤ 6 → k2 ≤ 6 → S.2.1 43 a = nI k1 → S.2.1 43 b = nI k2 → (zadd (S.2.1 42 a) k1 (S.2.1 42 b) k2 = none → post (-9223372036854775808) (tm o A S I)) ∧
      ∀ v K, zadd (S.2.1 42 a) k1 (S.2.1 42 b) k2 = some (v, K) → post v (tm o A (thn S c 1 v.toInt32 (nI K)) I)) : wp_X9_add D post o x y w (tm o A S I) := by
  unfold wp_X9_add wp_X9_add_L41
  refine t_isArgument (ifb' (fun e1 => t_isArgument (ifb' (fun e2 => t_isArgument (ifb' (fun e3 => ?_) (fun e3 => h1 (by rw [e3, Bool.and_false, Bool.and_false])))) (fun e2 => h1 (by rw [e2, Bool.false_and, Bool.and_false])))) (fun e1 => h1 (by rw [e1]; rfl)))
  obtain ⟨a, ha, rfl⟩ := zb_of e1 (by decide)
  obtain ⟨b, hb, rfl⟩ := zb_of e2 (by decide)
  obtain ⟨c, hc, rfl⟩ := zb_of e3 (by decide)
  simp (disch := first | decide | omega) only [tgI, tgR, tzd, taI hT, tsI hT, tp hT, tF_s, tF_n, tA_F, tF_A, tA_s, tA_n, tA_R, tsz, m8, m5, m6, m10, m30, m120, nI_1, nI_add, clT, vinT, true_and, updS, updN, if_true]
  refine ⟨fun z => h2 a b c ha hb hc rfl rfl rfl (Or.inl z), fun z => ⟨fun z2 => ?_, fun z2 => h2 a b c ha hb hc rfl rfl rfl (Or.inr z2)⟩⟩
  obtain ⟨k1, hk1, e43a⟩ := hk a ha z
  obtain ⟨k2, hk2, e43b⟩ := hk b hb z2
  obtain ⟨hn, hs⟩ := h3 a b c k1 k2 ha hb hc rfl rfl rfl z z2 hk1 hk2 e43a e43b
  rw [e43a, e43b, nI_leI (by omega) (by omega)]
  have h75 : ∀ K, K = max k1 k2 → wp_X9_add_L75 D post o (nI a) (nI b) (nI c) (nI K) (tm o A S I) := by
    rintro K rfl
    unfold wp_X9_add_L75 wp_X9_add_L148
    unfold zadd at hn hs
    simp only at hn hs
    simp (disch := first | decide | omega) only [tgI, tgR, tzd, taI hT, tsI hT, tp hT, tF_s, tF_n, tA_F, tF_A, tA_s, tA_n, tA_R, tsz, m8, m5, m6, m10, m30, m120, nI_1, nI_add, clT, vinT, true_and, updS, updN, if_true, e43a]
    rw [nI_sub (by omega)]
    refine t_tens (by omega) ?_
    simp (disch := first | decide | omega) only [tgI, tgR, tzd, taI hT, tsI hT, tp hT, tF_s, tF_n, tA_F, tF_A, tA_s, tA_n, tA_R, tsz, m8, m5, m6, m10, m30, m120, nI_1, nI_add, clT, vinT, true_and, updS, updN, if_true, e43b]
    rw [nI_sub (by omega)]
    refine t_tens (by omega) ?_
    refine t_isInt (ifb' (fun q1 => t_isInt (ifb' (fun q2 => t_isInt (ifb (fun q3 => ?_) (fun q3 => ?_))) (fun q2 => ?_))) (fun q1 => ?_))
    · rw [if_pos ⟨of_decide_eq_true q1, of_decide_eq_true q2, of_decide_eq_true q3⟩] at hs
      exact ⟨tis _ (by decide), t_holdsNow hT hc (hs _ _ rfl)⟩
    · rw [if_neg (fun q => of_decide_eq_false q3 q.2.2)] at hn; exact hn rfl
    · rw [if_neg (fun q => of_decide_eq_false q2 q.2.1)] at hn; exact hn rfl
    · rw [if_neg (fun q => of_decide_eq_false q1 q.1)] at hn; exact hn rfl
  refine ifc (fun q => ?_) (fun q => ?_)
  · have := h75 k2 (by omega); exact this
  · have := h75 k1 (by omega); exact this
end TADD
