/-! the twin: the act read -/
def zK6 : Nat → Option Nat := fun k => if k = 10 then some 7 else none
def zK7 : Nat → Option Nat := fun k => if k = 15 then some 29 else none
def zK8 : Nat → Option Nat := fun k => match k with | 16 => some 30 | 17 => some 31 | 18 => some 32 | 19 => some 33 | 22 => some 36 | _ => none
def zK9 : Nat → Option Nat := fun k => match k with | 20 => some 34 | 21 => some 35 | _ => none
/-- what was read is put into the slot j -/
def trdn (S : zTS) (j n : Nat) : zTS :=
  tCp (tCp (tCp (tA (tA (tA (tA (tCp (tA (tF S 8 0) 9 j (nI n)) zK6 (120 * j) 0 n) 11 j (S.1 24)) 12 j (S.1 25)) 13 j (S.1 26)) 14 j (S.1 27)) zK7 (5 * j) 0 5) zK8 (8 * j) 0 8) zK9 (80 * j) 0 80
theorem tCq_z {S : zTS} {K : Nat → Option Nat} {J : List Nat} {a n k q : Nat} (hK : K k = some q) (hJ : k ∉ J) : tA (tCq S K J a 0 n) k (a + n) (S.2.1 q n) = tCq S K (k :: J) a 0 n := by
  have := tCq_s (S := S) (J := J) (a := a) (b := 0) (n := n) hK hJ
  rw [Nat.zero_add] at this
  exact this
section TR9
variable {D : zD} {o : Nat} {A : Nat → Nat} {S : zTS} {I : zM}
theorem t_rd4 {post : Int32 → zM → Prop} {j : Nat} (hT : tok D o A) (hj : j < 4) (h : post (S.1 25) (tm o A (tCp S zK9 (80 * j) 0 80) I)) : ∃ f, wp_X9_read_L358 D post o f (nI j) 0 (tm o A S I) := by
  have loop : ∀ f n : Nat, n ≤ 80 → 80 - n < f → wp_X9_read_L358 D post o f (nI j) (nI n) (tm o A (tCp S zK9 (80 * j) 0 n) I) := by
    intro f
    induction f with
    | zero => intro n _ hf; omega
    | succ f ih =>
      intro n hn hf
      unfold wp_X9_read_L358
      rw [show (80 : Int32) = nI 80 from rfl, nI_leI (by decide) (by omega), show nI 80 = (80 : Int32) from rfl]
      refine ifc (fun z => ?_) (fun z => ?_)
      · have : n = 80 := by omega
        subst this
        rw [tgI (by decide) rfl]
        exact h
      · rw [tCq_nil]
        simp (disch := first | decide | omega) only [tgI, tgR, tzd, taI hT, tsI hT, tp hT, tF_s, tF_n, tA_F, tF_A, tA_s, tA_n, tA_R, tsz, m8, m5, m6, m10, m30, m120, nI_1, nI_add, clT, vinT, true_and, updS, updN, if_true, m80]
        rw [tCq_o (K := zK9) (k := 34) rfl, tCq_o (K := zK9) (k := 35) rfl, tCq_z (K := zK9) (k := 20) (q := 34) rfl (by decide), tCq_z (K := zK9) (k := 21) (q := 35) rfl (by decide), tCq_all (K := zK9) (by intro k hk; unfold zK9 at hk; split at hk <;> first | decide | exact absurd rfl hk)]
        exact ih (n + 1) (by omega) (by omega)
  have := loop 81 0 (by omega) (by omega)
  rw [tCp_0] at this
  exact ⟨81, this⟩
theorem t_rd3 {post : Int32 → zM → Prop} {j : Nat} (hT : tok D o A) (hj : j < 4) (h : post (S.1 25) (tm o A (tCp (tCp S zK8 (8 * j) 0 8) zK9 (80 * j) 0 80) I)) : ∃ f, wp_X9_read_L247 D post o f (nI j) 0 (tm o A S I) := by
  have loop : ∀ f n : Nat, n ≤ 8 → 8 - n < f → wp_X9_read_L247 D post o f (nI j) (nI n) (tm o A (tCp S zK8 (8 * j) 0 n) I) := by
    intro f
    induction f with
    | zero => intro n _ hf; omega
    | succ f ih =>
      intro n hn hf
      unfold wp_X9_read_L247
      rw [show (8 : Int32) = nI 8 from rfl, nI_leI (by decide) (by omega), show nI 8 = (8 : Int32) from rfl]
      refine ifc (fun z => ?_) (fun z => ?_)
      · have : n = 8 := by omega
        subst this
        exact t_rd4 hT hj h
      · rw [tCq_nil]
        simp (disch := first | decide | omega) only [tgI, tgR, tzd, taI hT, tsI hT, tp hT, tF_s, tF_n, tA_F, tF_A, tA_s, tA_n, tA_R, tsz, m8, m5, m6, m10, m30, m120, nI_1, nI_add, clT, vinT, true_and, updS, updN, if_true]
        rw [tCq_o (K := zK8) (k := 30) rfl, tCq_o (K := zK8) (k := 31) rfl, tCq_o (K := zK8) (k := 32) rfl, tCq_o (K := zK8) (k := 33) rfl, tCq_o (K := zK8) (k := 36) rfl, tCq_z (K := zK8) (k := 16) (q := 30) rfl (by decide), tCq_z (K := zK8) (k := 17) (q := 31) rfl (by decide), tCq_z (K := zK8) (k := 18) (q := 32) rfl (by decide), tCq_z (K := zK8) (k := 19) (q := 33) rfl (by decide), tCq_z (K := zK8) (k := 22) (q := 36) rfl (by decide),
          tCq_all (K := zK8) (by intro k hk; unfold zK8 at hk; split at hk <;> first | decide | exact absurd rfl hk)]
        exact ih (n + 1) (by omega) (by omega)
  have := loop 9 0 (by omega) (by omega)
  rw [tCp_0] at this
  exact ⟨9, this⟩
theorem t_rd2 {post : Int32 → zM → Prop} {j : Nat} (hT : tok D o A) (hj : j < 4) (h : post (S.1 25) (tm o A (tCp (tCp (tCp S zK7 (5 * j) 0 5) zK8 (8 * j) 0 8) zK9 (80 * j) 0 80) I)) : ∃ f, wp_X9_read_L214 D post o f (nI j) 0 (tm o A S I) := by
  have loop : ∀ f n : Nat, n ≤ 5 → 5 - n < f → wp_X9_read_L214 D post o f (nI j) (nI n) (tm o A (tCp S zK7 (5 * j) 0 n) I) := by
    intro f
    induction f with
    | zero => intro n _ hf; omega
    | succ f ih =>
      intro n hn hf
      unfold wp_X9_read_L214
      rw [show (5 : Int32) = nI 5 from rfl, nI_leI (by decide) (by omega), show nI 5 = (5 : Int32) from rfl]
      refine ifc (fun z => ?_) (fun z => ?_)
      · have : n = 5 := by omega
        subst this
        exact t_rd3 hT hj h
      · rw [tCq_nil]
        simp (disch := first | decide | omega) only [tgI, tgR, tzd, taI hT, tsI hT, tp hT, tF_s, tF_n, tA_F, tF_A, tA_s, tA_n, tA_R, tsz, m8, m5, m6, m10, m30, m120, nI_1, nI_add, clT, vinT, true_and, updS, updN, if_true]
        rw [tCq_o (K := zK7) (k := 29) rfl, tCq_z (K := zK7) (k := 15) (q := 29) rfl (by decide), tCq_all (K := zK7) (by intro k hk; unfold zK7 at hk; split at hk <;> simp_all)]
        exact ih (n + 1) (by omega) (by omega)
  have := loop 6 0 (by omega) (by omega)
  rw [tCp_0] at this
  exact ⟨6, this⟩
theorem t_rd1 {post : Int32 → zM → Prop} {j n : Nat} (hT : tok D o A) (hj : j < 4) (hn : n ≤ 120) (h : post (S.1 25) (tm o A (tCp (tCp (tCp (tA (tA (tA (tA (tCp S zK6 (120 * j) 0 n) 11 j (S.1 24)) 12 j (S.1 25)) 13 j (S.1 26)) 14 j (S.1 27)) zK7 (5 * j) 0 5) zK8 (8 * j) 0 8) zK9 (80 * j) 0 80) I)) : ∃ f, wp_X9_read_L140 D post o f (nI j) (nI n) 0 (tm o A S I) := by
  have loop : ∀ f i : Nat, i ≤ n → n - i < f → wp_X9_read_L140 D post o f (nI j) (nI n) (nI i) (tm o A (tCp S zK6 (120 * j) 0 i) I) := by
    intro f
    induction f with
    | zero => intro i _ hf; omega
    | succ f ih =>
      intro i hi hf
      unfold wp_X9_read_L140
      rw [nI_leI (by omega) (by omega)]
      refine ifc (fun z => ?_) (fun z => ?_)
      · have : i = n := by omega
        subst this
        simp (disch := first | decide | omega) only [tgI, tgR, tzd, taI hT, tsI hT, tp hT, tF_s, tF_n, tA_F, tF_A, tA_s, tA_n, tA_R, tsz, m8, m5, m6, m10, m30, m120, nI_1, nI_add, clT, vinT, true_and, updS, updN, if_true, tCp_F]
        exact t_rd2 hT hj h
      · rw [tCq_nil]
        simp (disch := first | decide | omega) only [tgI, tgR, tzd, taI hT, tsI hT, tp hT, tF_s, tF_n, tA_F, tF_A, tA_s, tA_n, tA_R, tsz, m8, m5, m6, m10, m30, m120, nI_1, nI_add, clT, vinT, true_and, updS, updN, if_true]
        rw [tCq_o (K := zK6) (k := 7) rfl, tCq_z (K := zK6) (k := 10) (q := 7) rfl (by decide), tCq_all (K := zK6) (by intro k hk; unfold zK6 at hk; split at hk <;> simp_all)]
        exact ih (i + 1) (by omega) (by omega)
  have := loop (n + 1) 0 (by omega) (by omega)
  rw [tCp_0] at this
  exact ⟨n + 1, this⟩
theorem zRM_3 (hT : tok D o A) {S0 : zTS} {n : Nat} : zRM D o A S0 I n 3 :=
  zRM_of hT (zRB_s hT (zRM_of hT (zRB_s hT (zRM_of hT (zRB_s hT (zRM_of hT (zRB_0 hT)))))))
theorem t_read {post : Int32 → zM → Prop} {s : Int32} {n : Nat} (hT : tok D o A) (hn : S.1 8 = nI n) (hn2 : n ≤ 120) (h1 : zb s 4 = false → post (-1) (tm o A S I))
    (hfa : ∀ e S', zrW (S.2.1 7) n = .inl e → e ≤ n → zfr S S' → post (-1000 - nI e) (tm o A (tF S' 8 0) I))
    (hl : ∀ p S', zrW (S.2.1 7) n = .inr (.inl p) → p ≤ 120 → zfr S S' → post (-2000 - nI p) (tm o A (tF S' 8 0) I))
    (hok : ∀ j t r S' E, j < 4 → s = nI j → zrW (S.2.1 7) n = .inr (.inr (t, r)) → zrd9 S E n S' r (ztM 3 t) (ztD 3 t) → zEn S.2.1 E 0 (zcs 3 0 0 t) → (ztL 3 t).length = n → r.2.1 = (zcs 3 0 0 t).length → post (nI (zcs 3 0 0 t).length) (tm o A (trdn S' j n) I)) : wp_X9_read D post o s (tm o A S I) := by
  unfold wp_X9_read
  refine t_isSlot (ifb (fun e1 => ?_) (fun e1 => h1 e1))
  obtain ⟨j, hj, rfl⟩ := zb_of e1 (by decide)
  rw [tp hT (by decide) rfl, tp hT (by decide) rfl, tp hT (by decide) rfl, tp hT (by decide) rfl, tp hT (by decide) rfl, tp hT (by decide) rfl]
  generalize hS1 : tF (tF (tF (tF (tF (tF S 23 0) 24 0) 25 0) 26 0) 27 0) 28 (-1) = S1
  have f23 : S1.1 23 = 0 := by rw [← hS1]; rfl
  have f24 : S1.1 24 = 0 := by rw [← hS1]; rfl
  have f25 : S1.1 25 = 0 := by rw [← hS1]; rfl
  have f26 : S1.1 26 = 0 := by rw [← hS1]; rfl
  have f27 : S1.1 27 = 0 := by rw [← hS1]; rfl
  have f28 : S1.1 28 = -1 := by rw [← hS1]; rfl
  have fo : ∀ k, k < 23 ∨ 28 < k → S1.1 k = S.1 k := fun k hk => by rw [← hS1, tF_n (by omega), tF_n (by omega), tF_n (by omega), tF_n (by omega), tF_n (by omega), tF_n (by omega)]
  have fA : S1.2 = S.2 := by rw [← hS1]; rfl
  have loop : ∀ f i : Nat, i ≤ 5 → 5 - i < f → ∀ S2 : zTS, S2.1 = S1.1 → (∀ k, k ≠ 29 → S2.2.1 k = S.2.1 k) → S2.2.2 = S.2.2 → (∀ a, a < i → S2.2.1 29 a = 0) → wp_X9_read_L41 D post o f (nI j) (nI i) (tm o A S2 I) := by
    intro f
    induction f with
    | zero => intro i _ hf; omega
    | succ f ih =>
      intro i hi hf S2 g1 g2 g3 g4
      unfold wp_X9_read_L41
      rw [show (5 : Int32) = nI 5 from rfl, nI_leI (by decide) (by omega)]
      refine ifc (fun z => ?_) (fun z => ?_)
      · have hz : zrd9 S S.2.1 n S2 (0, 0, none, 0, fun _ => 0) 0 0 := by
          refine ⟨fun k a b => by rw [g1]; exact fo k a, g2, g3, by rw [g1]; exact f23, by rw [g1]; exact f25, by rw [g1]; exact f28, by rw [g1]; exact f27, fun a ha => ⟨g4 a (by omega), Nat.zero_le _⟩, by rw [g1]; exact f24, by rw [g1]; exact f26, hn, hn2, Nat.zero_le _, by decide, fun p hp => by cases hp⟩
        refine ⟨tis _ (by decide), zRM_3 hT false 0 _ 0 0 S2 S.2.1 6 _ rfl (by decide) hz (fun _ _ => rfl) (Nat.zero_le _) (by decide) (fun e S' k1 k2 k3 k4 => ⟨fun _ => ?_, fun y => absurd rfl y⟩) fun t r S' E k1 k2 k3 k4 k5 k6 k7 => ⟨fun y => absurd y (by decide), fun _ => ?_⟩⟩
        · unfold wp_X9_read_L83 wp_X9_read_L84 wp_X9_read_L106 wp_X9_read_L129
          rw [tgI (by decide) rfl, tp hT (by decide) rfl]
          refine ⟨fun _ => ⟨fun _ => ?_, fun y => absurd rfl y⟩, fun y => absurd rfl y⟩
          rw [tgI (by decide) rfl, tF_n (by decide), k2]
          exact hfa e S' (by unfold zrW; rw [k1]) k3 k4
        · have hfr := zfr_of k2 (zEn_0 k4.1 (fun _ _ => rfl))
          have h8 : S'.1 8 = nI n := by rw [k2.1 8 (by decide) (by decide)]; exact hn
          have b23 := k2.2.2.2.1
          have b13 := k2.2.2.2.2.2.2.2.2.2.2.2.2.1
          have b28 := k2.2.2.2.2.2.1
          have b15 := k2.2.2.2.2.2.2.2.2.2.2.2.2.2.2
          unfold wp_X9_read_L83 wp_X9_read_L84 wp_X9_read_L106 wp_X9_read_L129
          rw [tgI (by decide) rfl, tgI (by decide) rfl, b23, h8, nI_eq (by omega) (by omega)]
          refine ⟨fun y => ?_, fun y => ?_⟩
          · rw [tgI (by decide) rfl, tp hT (by decide) rfl]
            refine ⟨fun _ => ⟨fun _ => ?_, fun y => absurd rfl y⟩, fun y => absurd rfl y⟩
            rw [tgI (by decide) rfl, tF_n (by decide), b23]
            exact hfa r.1 S' (by unfold zrW; rw [k1]; simp only; rw [if_neg y]) b13 hfr
          · rw [tgI (by decide) rfl, tp hT (by decide) rfl]
            refine ⟨fun y => absurd y (by decide), fun _ => ?_⟩
            rw [tgI (by decide) rfl, tF_n (by decide), b28, h8]
            cases hw : r.2.2.1 with
            | some p =>
              have hp := b15 p hw
              refine ⟨fun y => absurd y (nI_pos (by omega)), fun _ => ⟨fun y => absurd y (by decide), fun _ => ?_⟩⟩
              rw [tgI (by decide) rfl, tF_n (by decide), b28, hw]
              exact hl p S' (by unfold zrW; rw [k1]; simp only; rw [if_pos y]; simp only [hw]) hp hfr
            | none =>
              refine ⟨fun _ => ?_, fun y => absurd (by decide) y⟩
              simp (disch := first | decide | omega) only [tgI, tgR, tzd, taI hT, tsI hT, tp hT, tF_s, tF_n, tA_F, tF_A, tA_s, tA_n, tA_R, tsz, m8, m5, m6, m10, m30, m120, nI_1, nI_add, clT, vinT, true_and, updS, updN, if_true]
              refine t_rd1 hT hj hn2 ?_
              have hfin := hok j t r S' E hj rfl (by unfold zrW; rw [k1]; simp only; rw [if_pos y]; simp only [hw]) (by
                have := k2
                rw [Nat.zero_add] at this
                have e : zdx 0 0 (ztD 3 t) = ztD 3 t := by unfold zdx; split <;> omega
                rw [e] at this
                exact this) k4 (by rw [Nat.zero_add] at k5; omega) (by rw [k6]; exact Nat.zero_add _)
              have e25 : S'.1 25 = nI (zcs 3 0 0 t).length := by rw [k2.2.2.2.2.1, k6]; congr 1; exact Nat.zero_add _
              unfold trdn at hfin
              rw [e25] at hfin
              have e0 : ∀ k, k ≠ 8 → (tA (tF S' 8 0) 9 j (nI n)).1 k = S'.1 k := fun k hk => by rw [tA_F, tF_n hk]
              rw [e0 24 (by decide), e0 25 (by decide), e0 26 (by decide), e0 27 (by decide), e25]
              exact hfin
      · have z' : ¬ 5 ≤ i := z
        simp (disch := first | decide | omega) only [tgI, tgR, tzd, taI hT, tsI hT, tp hT, tF_s, tF_n, tA_F, tF_A, tA_s, tA_n, tA_R, tsz, m8, m5, m6, m10, m30, m120, nI_1, nI_add, clT, vinT, true_and, updS, updN, if_true]
        refine ih (i + 1) (by omega) (by omega) _ g1 (fun k hk => by rw [tA_n hk]; exact g2 k hk) g3 fun a ha => ?_
        rw [tA_s]
        by_cases e : a = i
        · subst e; rw [updS]
        · rw [updN e]; exact g4 a (by omega)
  exact ⟨6, loop 6 0 (by omega) (by omega) S1 rfl (fun k _ => by rw [fA]) (by rw [fA]) fun a ha => by omega⟩
end TR9
