/-! the twin reads: branches -/
theorem zlie_i {w : Option Nat} {p : Nat} : zlie (zlie w p) p = zlie w p := by
  unfold zlie; cases w <;> simp
section TR5
variable {D : zD} {o : Nat} {A : Nat → Nat} {S S0 : zTS} {I : zM} {E : Nat → Nat → Int32} {n m dp : Nat} {r : zRh}
theorem t_dup {P : (Int32 → zM → Prop) → Nat → Int32 → Int32 → zM → Prop} {post : Int32 → zM → Prop} {k3 : Int32 → Int32 → Int32 → Int32 → zM → Prop} {c0 q p : Nat} {k ho : Bool} {x2 x3 : Int32} {ks : List Nat} (hT : tok D o A) (h : zrd9 S0 E n S r m dp) (hc : c0 < 8) (hkl : ks.length ≤ 10) (h33 : E 33 c0 = nI ks.length) (h31 : E 31 c0 = if k then 1 else 2) (hks : ∀ b y, ks[b]? = some y → E 34 (10 * c0 + b) = nI y ∧ y ≤ 1009) (hq : q ≤ 1009) (hp : p ≤ 120)
    (hpost : ∀ S', zrd9 S0 E n S' (r.1, r.2.1, (if ks.any (· == q) then zlie r.2.2.1 p else r.2.2.1), r.2.2.2) m dp → wp_X9_readsBranches_L141 D P post o k3 (nI c0) x2 x3 (nI q) (b1 (ho || q == (if k then 5 else 3))) (tm o A S' I)) :
    ∃ f, wp_X9_readsBranches_L71 D P post o k3 f (nI c0) x2 x3 (b1 ho) (nI p) (nI q) 0 (tm o A S I) := by
  have a15 := h.2.2.2.2.2.2.2.2.2.2.2.2.2.2
  have loop : ∀ (f b : Nat) (S : zTS), ks.length - b < f → b ≤ ks.length → zrd9 S0 E n S (r.1, r.2.1, (if (ks.take b).any (· == q) then zlie r.2.2.1 p else r.2.2.1), r.2.2.2) m dp → wp_X9_readsBranches_L71 D P post o k3 f (nI c0) x2 x3 (b1 ho) (nI p) (nI q) (nI b) (tm o A S I) := by
    intro f
    induction f with
    | zero => intro b S hf; omega
    | succ f ih =>
      intro b S hf hb h
      have e33 : S.2.1 33 = E 33 := h.2.1 33 (by decide)
      have e31 : S.2.1 31 = E 31 := h.2.1 31 (by decide)
      have e34 : S.2.1 34 = E 34 := h.2.1 34 (by decide)
      unfold wp_X9_readsBranches_L71
      simp (disch := first | decide | omega) only [tgI, tgR, tzd, taI hT, tsI hT, tp hT, tF_s, tF_n, tA_F, tF_A, tA_s, tA_n, tA_R, tsz, m8, m5, m6, m10, m30, m120, nI_1, nI_add, clT, vinT, true_and, updS, updN, if_true, e33, e34, h33]
      rw [nI_leI (by omega) (by omega)]
      refine ifc (fun z => ?_) (fun z => ?_)
      · have : b = ks.length := by omega
        subst this
        rw [List.take_length] at h
        have hp' := hpost S h
        unfold wp_X9_readsBranches_L136 wp_X9_readsBranches_L133
        cases ho
        · refine ⟨fun y => absurd rfl y, fun _ => ?_⟩
          rw [Bool.false_or] at hp'
          simp (disch := first | decide | omega) only [tgI, tgR, tzd, taI hT, tsI hT, tp hT, tF_s, tF_n, tA_F, tF_A, tA_s, tA_n, tA_R, tsz, m8, m5, m6, m10, m30, m120, nI_1, nI_add, clT, vinT, true_and, updS, updN, if_true, e31, h31]
          have hfin : ∀ oth : Nat, oth = (if k then 5 else 3) → (¬ nI q = nI oth → wp_X9_readsBranches_L141 D P post o k3 (nI c0) x2 x3 (nI q) 0 (tm o A S I)) ∧ (nI q = nI oth → wp_X9_readsBranches_L136 D P post o k3 (nI c0) x2 x3 (nI q) (tm o A S I)) := by
            rintro oth rfl
            unfold wp_X9_readsBranches_L136
            have hoth : (if k then 5 else 3 : Nat) < 10 := by cases k <;> decide
            rw [nI_eq (by omega) (by omega)]
            refine ⟨fun y => ?_, fun y => ?_⟩
            · rw [beq_false_of_ne y] at hp'; exact hp'
            · rw [beq_iff_eq.mpr y] at hp'; exact hp'
          cases k
          · exact ⟨fun _ => hfin 3 rfl, fun y => absurd y (by decide)⟩
          · exact ⟨fun y => absurd (if_pos rfl) y, fun _ => hfin 5 rfl⟩
        · rw [Bool.true_or] at hp'
          exact ⟨fun _ => hp', fun y => absurd y (by decide)⟩
      · obtain ⟨y, hy⟩ : ∃ y, ks[b]? = some y := ⟨ks[b]'(by omega), List.getElem?_eq_getElem (by omega)⟩
        obtain ⟨g1, g2⟩ := hks b y hy
        have htk : ks.take (b + 1) = ks.take b ++ [y] := by rw [List.take_succ, hy]; rfl
        unfold wp_X9_readsBranches_L105
        simp (disch := first | decide | omega) only [tgI, tgR, tzd, taI hT, tsI hT, tp hT, tF_s, tF_n, tA_F, tF_A, tA_s, tA_n, tA_R, tsz, m8, m5, m6, m10, m30, m120, nI_1, nI_add, clT, vinT, true_and, updS, updN, if_true, e34, g1]
        rw [nI_eq (by omega) (by omega)]
        refine ⟨fun z2 => ih (b + 1) S (by omega) (by omega) ?_, fun z2 => ⟨tis _ (by decide), t_isWrong hT h hp (ih (b + 1) _ (by omega) (by omega) ?_)⟩⟩
        · rw [htk, List.any_append, List.any_cons, List.any_nil, beq_false_of_ne z2, Bool.or_false, Bool.or_false]; exact h
        · have hw := zrd9_w (w := zlie (if (ks.take b).any (· == q) then zlie r.2.2.1 p else r.2.2.1) p) h (zlie_b (fun x hx => by
            split at hx
            · exact zlie_b a15 hp x hx
            · exact a15 x hx) hp)
          have e9 : zlie (if (ks.take b).any (· == q) then zlie r.2.2.1 p else r.2.2.1) p = zlie r.2.2.1 p := by
            split
            · exact zlie_i
            · rfl
          rw [e9] at hw
          rw [htk, List.any_append, List.any_cons, beq_iff_eq.mpr z2, Bool.true_or, Bool.or_true, if_pos rfl]
          show zrd9 S0 E n (tF S 28 (zwi (zlie (if (ks.take b).any (· == q) then zlie r.2.2.1 p else r.2.2.1) p))) _ m dp
          rw [e9]
          exact hw
  refine ⟨ks.length + 1, loop _ 0 S (by omega) (Nat.zero_le _) ?_⟩
  rw [List.take_zero]
  exact h
end TR5
