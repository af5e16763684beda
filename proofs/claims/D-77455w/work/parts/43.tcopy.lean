/-! the twin copies rows of its arrays -/
def zcv (f g : Nat → Int32) (a b n : Nat) : Nat → Int32 := fun x => if a ≤ x ∧ x < a + n then g (b + (x - a)) else f x
/-- each array k with K k = some q has n numbers of the array q, from b, at its places from a -/
def tCp (S : zTS) (K : Nat → Option Nat) (a b n : Nat) : zTS := (S.1, (fun k => match K k with | some q => zcv (S.2.1 k) (S.2.1 q) a b n | none => S.2.1 k), S.2.2)
theorem tCp_F {S : zTS} {K : Nat → Option Nat} {a b n : Nat} : (tCp S K a b n).1 = S.1 := rfl
theorem tCp_R {S : zTS} {K : Nat → Option Nat} {a b n : Nat} : (tCp S K a b n).2.2 = S.2.2 := rfl
theorem tCp_s {S : zTS} {K : Nat → Option Nat} {a b n k q : Nat} (h : K k = some q) : (tCp S K a b n).2.1 k = zcv (S.2.1 k) (S.2.1 q) a b n := by show (match K k with | some q => zcv (S.2.1 k) (S.2.1 q) a b n | none => S.2.1 k) = _; rw [h]
theorem tCp_n {S : zTS} {K : Nat → Option Nat} {a b n k : Nat} (h : K k = none) : (tCp S K a b n).2.1 k = S.2.1 k := by show (match K k with | some q => zcv (S.2.1 k) (S.2.1 q) a b n | none => S.2.1 k) = _; rw [h]
theorem zcv_0 {f g : Nat → Int32} {a b : Nat} : zcv f g a b 0 = f := by
  funext x; unfold zcv; rw [if_neg (by omega)]
theorem zcv_step {f g : Nat → Int32} {a b n : Nat} : upd (zcv f g a b n) (a + n) (g (b + n)) = zcv f g a b (n + 1) := by
  funext x
  unfold upd zcv
  by_cases h : x = a + n
  · subst h
    rw [if_pos rfl, if_pos (by omega), show a + n - a = n by omega]
  · rw [if_neg h]
    by_cases h2 : a ≤ x ∧ x < a + n
    · rw [if_pos h2, if_pos (by omega)]
    · rw [if_neg h2, if_neg (by omega)]
theorem zcv_rd {f : Nat → Int32} {a b n : Nat} (h : a = b ∨ a + n ≤ b ∨ b + n < a) : zcv f f a b n (b + n) = f (b + n) := by
  unfold zcv
  rcases h with h | h | h
  · subst h; rw [if_neg (by omega)]
  · rw [if_neg (by omega)]
  · rw [if_neg (by omega)]
theorem tCp_0 {S : zTS} {K : Nat → Option Nat} {a b : Nat} : tCp S K a b 0 = S := by
  unfold tCp
  refine Prod.ext rfl (Prod.ext ?_ rfl)
  funext k
  show (match K k with | some q => zcv (S.2.1 k) (S.2.1 q) a b 0 | none => S.2.1 k) = S.2.1 k
  cases K k with
  | none => rfl
  | some q => exact zcv_0
/-- one step of one array: the others of K have theirs -/
def tCq (S : zTS) (K : Nat → Option Nat) (J : List Nat) (a b n : Nat) : zTS := (S.1, (fun k => match K k with | some q => zcv (S.2.1 k) (S.2.1 q) a b (if k ∈ J then n + 1 else n) | none => S.2.1 k), S.2.2)
theorem tCq_nil {S : zTS} {K : Nat → Option Nat} {a b n : Nat} : tCp S K a b n = tCq S K [] a b n := by simp [tCp, tCq]
theorem tCq_all {S : zTS} {K : Nat → Option Nat} {J : List Nat} {a b n : Nat} (h : ∀ k, K k ≠ none → k ∈ J) : tCq S K J a b n = tCp S K a b (n + 1) := by
  unfold tCp tCq
  refine Prod.ext rfl (Prod.ext ?_ rfl)
  funext k
  show (match K k with | some q => zcv (S.2.1 k) (S.2.1 q) a b (if k ∈ J then n + 1 else n) | none => S.2.1 k) = (match K k with | some q => zcv (S.2.1 k) (S.2.1 q) a b (n + 1) | none => S.2.1 k)
  cases hK : K k with
  | none => rfl
  | some q => simp [h k (by rw [hK]; simp)]
theorem tCq_s {S : zTS} {K : Nat → Option Nat} {J : List Nat} {a b n k q : Nat} (hK : K k = some q) (hJ : k ∉ J) : tA (tCq S K J a b n) k (a + n) (S.2.1 q (b + n)) = tCq S K (k :: J) a b n := by
  unfold tA tCq
  refine Prod.ext rfl (Prod.ext ?_ rfl)
  funext x
  show (if x = k then upd (match K k with | some q => zcv (S.2.1 k) (S.2.1 q) a b (if k ∈ J then n + 1 else n) | none => S.2.1 k) (a + n) (S.2.1 q (b + n)) else (match K x with | some q => zcv (S.2.1 x) (S.2.1 q) a b (if x ∈ J then n + 1 else n) | none => S.2.1 x)) = (match K x with | some q => zcv (S.2.1 x) (S.2.1 q) a b (if x ∈ k :: J then n + 1 else n) | none => S.2.1 x)
  by_cases e : x = k
  · subst e
    rw [if_pos rfl, hK]
    simp only [hJ, if_false, List.mem_cons, true_or, if_true]
    exact zcv_step
  · rw [if_neg e]
    simp [e]
theorem tCq_r {S : zTS} {K : Nat → Option Nat} {J : List Nat} {a b n k : Nat} (hK : K k = some k) (hJ : k ∉ J) (h : a = b ∨ a + n ≤ b ∨ b + n < a) : (tCq S K J a b n).2.1 k (b + n) = S.2.1 k (b + n) := by
  show (match K k with | some q => zcv (S.2.1 k) (S.2.1 q) a b (if k ∈ J then n + 1 else n) | none => S.2.1 k) (b + n) = _
  rw [hK]
  simp only [hJ, if_false]
  exact zcv_rd h
theorem tCq_n {S : zTS} {K : Nat → Option Nat} {J : List Nat} {a b n k : Nat} (hK : K k = none) : (tCq S K J a b n).2.1 k = S.2.1 k := by
  show (match K k with | some q => zcv (S.2.1 k) (S.2.1 q) a b (if k ∈ J then n + 1 else n) | none => S.2.1 k) = _
  rw [hK]
def zK0 : Nat → Option Nat := fun k => if k = 9 ∨ k = 11 ∨ k = 12 ∨ k = 13 ∨ k = 14 then some k else none
def zK1 : Nat → Option Nat := fun k => if k = 10 then some k else none
def zK2 : Nat → Option Nat := fun k => if k = 15 then some k else none
def zK3 : Nat → Option Nat := fun k => if k = 16 ∨ k = 17 ∨ k = 18 ∨ k = 19 ∨ k = 22 then some k else none
def zK4 : Nat → Option Nat := fun k => if k = 20 ∨ k = 21 then some k else none
def tcpy (S : zTS) (j i : Nat) : zTS := tCp (tCp (tCp (tCp (tCp S zK0 j i 1) zK1 (120 * j) (120 * i) 120) zK2 (5 * j) (5 * i) 5) zK3 (8 * j) (8 * i) 8) zK4 (80 * j) (80 * i) 80
theorem m80 (a b : Nat) : (80 : Int32) * nI a + nI b = nI (80 * a + b) := by rw [show (80 : Int32) = nI 80 from rfl, nI_mu, nI_add]
section TCY
variable {D : zD} {o : Nat} {A : Nat → Nat} {S : zTS} {I : zM}
theorem t_copy4 {post : Int32 → zM → Prop} {j i : Nat} (hT : tok D o A) (hj : j < 4) (hi : i < 4) (h : post (S.2.1 11 j) (tm o A (tCp S zK4 (80 * j) (80 * i) 80) I)) : ∃ f, wp_X9_copy_L283 D post o f (nI j) (nI i) 0 (tm o A S I) := by
  have hd : ∀ n, n < 80 → 80 * j = 80 * i ∨ 80 * j + n ≤ 80 * i ∨ 80 * i + n < 80 * j := fun n hn => by omega
  have loop : ∀ f n : Nat, n ≤ 80 → 80 - n < f → wp_X9_copy_L283 D post o f (nI j) (nI i) (nI n) (tm o A (tCp S zK4 (80 * j) (80 * i) n) I) := by
    intro f
    induction f with
    | zero => intro n _ hf; omega
    | succ f ih =>
      intro n hn hf
      unfold wp_X9_copy_L283
      rw [show (80 : Int32) = nI 80 from rfl, nI_leI (by decide) (by omega), show nI 80 = (80 : Int32) from rfl]
      refine ifc (fun z => ?_) (fun z => ?_)
      · have : n = 80 := by omega
        subst this
        simp (disch := first | decide | omega) only [tgI, tgR, tzd, taI hT, tsI hT, tp hT, tF_s, tF_n, tA_F, tF_A, tA_s, tA_n, tA_R, tsz, m8, m5, m6, m10, m30, m120, nI_1, nI_add, clT, vinT, true_and, updS, updN, if_true, tCp_n (K := zK4) (k := 11) rfl]
        exact h
      · rw [tCq_nil]
        simp (disch := first | decide | omega) only [tgI, tgR, tzd, taI hT, tsI hT, tp hT, tF_s, tF_n, tA_F, tF_A, tA_s, tA_n, tA_R, tsz, m8, m5, m6, m10, m30, m120, nI_1, nI_add, clT, vinT, true_and, updS, updN, if_true, m80]
        rw [tCq_r (K := zK4) (k := 20) rfl (by decide) (hd n (by omega)), tCq_r (K := zK4) (k := 21) rfl (by decide) (hd n (by omega)), tCq_s (K := zK4) (k := 20) rfl (by decide), tCq_s (K := zK4) (k := 21) rfl (by decide), tCq_all (K := zK4) (by intro k; unfold zK4; split <;> simp_all <;> omega)]
        exact ih (n + 1) (by omega) (by omega)
  have := loop 81 0 (by omega) (by omega)
  rw [tCp_0] at this
  exact ⟨81, this⟩
theorem t_copy3 {post : Int32 → zM → Prop} {j i : Nat} (hT : tok D o A) (hj : j < 4) (hi : i < 4) (h : post (S.2.1 11 j) (tm o A (tCp (tCp S zK3 (8 * j) (8 * i) 8) zK4 (80 * j) (80 * i) 80) I)) : ∃ f, wp_X9_copy_L159 D post o f (nI j) (nI i) 0 (tm o A S I) := by
  have hd : ∀ n, n < 8 → 8 * j = 8 * i ∨ 8 * j + n ≤ 8 * i ∨ 8 * i + n < 8 * j := fun n hn => by omega
  have loop : ∀ f n : Nat, n ≤ 8 → 8 - n < f → wp_X9_copy_L159 D post o f (nI j) (nI i) (nI n) (tm o A (tCp S zK3 (8 * j) (8 * i) n) I) := by
    intro f
    induction f with
    | zero => intro n _ hf; omega
    | succ f ih =>
      intro n hn hf
      unfold wp_X9_copy_L159
      rw [show (8 : Int32) = nI 8 from rfl, nI_leI (by decide) (by omega), show nI 8 = (8 : Int32) from rfl]
      refine ifc (fun z => ?_) (fun z => ?_)
      · have : n = 8 := by omega
        subst this
        exact t_copy4 hT hj hi (by rw [tCp_n (K := zK3) (k := 11) rfl]; exact h)
      · rw [tCq_nil]
        simp (disch := first | decide | omega) only [tgI, tgR, tzd, taI hT, tsI hT, tp hT, tF_s, tF_n, tA_F, tF_A, tA_s, tA_n, tA_R, tsz, m8, m5, m6, m10, m30, m120, nI_1, nI_add, clT, vinT, true_and, updS, updN, if_true]
        rw [tCq_r (K := zK3) (k := 16) rfl (by decide) (hd n (by omega)), tCq_r (K := zK3) (k := 17) rfl (by decide) (hd n (by omega)), tCq_r (K := zK3) (k := 18) rfl (by decide) (hd n (by omega)), tCq_r (K := zK3) (k := 19) rfl (by decide) (hd n (by omega)), tCq_r (K := zK3) (k := 22) rfl (by decide) (hd n (by omega)),
          tCq_s (K := zK3) (k := 16) rfl (by decide), tCq_s (K := zK3) (k := 17) rfl (by decide), tCq_s (K := zK3) (k := 18) rfl (by decide), tCq_s (K := zK3) (k := 19) rfl (by decide), tCq_s (K := zK3) (k := 22) rfl (by decide), tCq_all (K := zK3) (by intro k; unfold zK3; split <;> simp_all <;> omega)]
        exact ih (n + 1) (by omega) (by omega)
  have := loop 9 0 (by omega) (by omega)
  rw [tCp_0] at this
  exact ⟨9, this⟩
theorem t_copy2 {post : Int32 → zM → Prop} {j i : Nat} (hT : tok D o A) (hj : j < 4) (hi : i < 4) (h : post (S.2.1 11 j) (tm o A (tCp (tCp (tCp S zK2 (5 * j) (5 * i) 5) zK3 (8 * j) (8 * i) 8) zK4 (80 * j) (80 * i) 80) I)) : ∃ f, wp_X9_copy_L126 D post o f (nI j) (nI i) 0 (tm o A S I) := by
  have hd : ∀ n, n < 5 → 5 * j = 5 * i ∨ 5 * j + n ≤ 5 * i ∨ 5 * i + n < 5 * j := fun n hn => by omega
  have loop : ∀ f n : Nat, n ≤ 5 → 5 - n < f → wp_X9_copy_L126 D post o f (nI j) (nI i) (nI n) (tm o A (tCp S zK2 (5 * j) (5 * i) n) I) := by
    intro f
    induction f with
    | zero => intro n _ hf; omega
    | succ f ih =>
      intro n hn hf
      unfold wp_X9_copy_L126
      rw [show (5 : Int32) = nI 5 from rfl, nI_leI (by decide) (by omega), show nI 5 = (5 : Int32) from rfl]
      refine ifc (fun z => ?_) (fun z => ?_)
      · have : n = 5 := by omega
        subst this
        exact t_copy3 hT hj hi (by rw [tCp_n (K := zK2) (k := 11) rfl]; exact h)
      · rw [tCq_nil]
        simp (disch := first | decide | omega) only [tgI, tgR, tzd, taI hT, tsI hT, tp hT, tF_s, tF_n, tA_F, tF_A, tA_s, tA_n, tA_R, tsz, m8, m5, m6, m10, m30, m120, nI_1, nI_add, clT, vinT, true_and, updS, updN, if_true]
        rw [tCq_r (K := zK2) (k := 15) rfl (by decide) (hd n (by omega)), tCq_s (K := zK2) (k := 15) rfl (by decide), tCq_all (K := zK2) (by intro k; unfold zK2; split <;> simp_all)]
        exact ih (n + 1) (by omega) (by omega)
  have := loop 6 0 (by omega) (by omega)
  rw [tCp_0] at this
  exact ⟨6, this⟩
theorem t_copy1 {post : Int32 → zM → Prop} {j i : Nat} (hT : tok D o A) (hj : j < 4) (hi : i < 4) (h : post (S.2.1 11 j) (tm o A (tCp (tCp (tCp (tCp S zK1 (120 * j) (120 * i) 120) zK2 (5 * j) (5 * i) 5) zK3 (8 * j) (8 * i) 8) zK4 (80 * j) (80 * i) 80) I)) : ∃ f, wp_X9_copy_L90 D post o f (nI j) (nI i) 0 (tm o A S I) := by
  have hd : ∀ n, n < 120 → 120 * j = 120 * i ∨ 120 * j + n ≤ 120 * i ∨ 120 * i + n < 120 * j := fun n hn => by omega
  have loop : ∀ f n : Nat, n ≤ 120 → 120 - n < f → wp_X9_copy_L90 D post o f (nI j) (nI i) (nI n) (tm o A (tCp S zK1 (120 * j) (120 * i) n) I) := by
    intro f
    induction f with
    | zero => intro n _ hf; omega
    | succ f ih =>
      intro n hn hf
      unfold wp_X9_copy_L90
      rw [show (120 : Int32) = nI 120 from rfl, nI_leI (by decide) (by omega), show nI 120 = (120 : Int32) from rfl]
      refine ifc (fun z => ?_) (fun z => ?_)
      · have : n = 120 := by omega
        subst this
        exact t_copy2 hT hj hi (by rw [tCp_n (K := zK1) (k := 11) rfl]; exact h)
      · rw [tCq_nil]
        simp (disch := first | decide | omega) only [tgI, tgR, tzd, taI hT, tsI hT, tp hT, tF_s, tF_n, tA_F, tF_A, tA_s, tA_n, tA_R, tsz, m8, m5, m6, m10, m30, m120, nI_1, nI_add, clT, vinT, true_and, updS, updN, if_true]
        rw [tCq_r (K := zK1) (k := 10) rfl (by decide) (hd n (by omega)), tCq_s (K := zK1) (k := 10) rfl (by decide), tCq_all (K := zK1) (by intro k; unfold zK1; split <;> simp_all)]
        exact ih (n + 1) (by omega) (by omega)
  have := loop 121 0 (by omega) (by omega)
  rw [tCp_0] at this
  exact ⟨121, this⟩
theorem t_copy {post : Int32 → zM → Prop} {s c : Int32} (hT : tok D o A) (h1 : (zb s 4 && zb c 4) = false → post (-1) (tm o A S I)) (h2 : ∀ j i : Nat, j < 4 → s = nI j → i < 4 → c = nI i → S.2.1 9 i < 0 → post (-2) (tm o A S I))
    (h3 : ∀ j i : Nat, j < 4 → s = nI j → i < 4 → c = nI i → ¬ S.2.1 9 i < 0 → post (S.2.1 11 i) (tm o A (tcpy S j i) I)) : wp_X9_copy D post o s c (tm o A S I) := by
  unfold wp_X9_copy wp_X9_copy_L14
  refine t_isSlot (ifb' (fun e1 => t_isSlot (ifb (fun e2 => ?_) (fun e2 => h1 (by rw [e2, Bool.and_false])))) (fun e1 => h1 (by rw [e1]; rfl)))
  obtain ⟨j, hj, rfl⟩ := zb_of e1 (by decide)
  obtain ⟨i, hi, rfl⟩ := zb_of e2 (by decide)
  simp (disch := first | decide | omega) only [tgI, tgR, tzd, taI hT, tsI hT, tp hT, tF_s, tF_n, tA_F, tF_A, tA_s, tA_n, tA_R, tsz, m8, m5, m6, m10, m30, m120, nI_1, nI_add, clT, vinT, true_and, updS, updN, if_true, i0_le]
  refine ⟨fun z => ?_, fun z => h2 j i hj rfl hi rfl (Classical.not_not.mp z)⟩
  have h := h3 j i hj rfl hi rfl z
  have e0 : tA (tA (tA (tA (tA S 9 j (S.2.1 9 i)) 11 j (S.2.1 11 i)) 12 j (S.2.1 12 i)) 13 j (S.2.1 13 i)) 14 j (S.2.1 14 i) = tCp S zK0 j i 1 := by
    rw [← tCq_all (K := zK0) (n := 0) (J := [14, 13, 12, 11, 9]) (by intro k; unfold zK0; split <;> simp_all <;> omega)]
    have e1 : ∀ k (J : List Nat), zK0 k = some k → k ∉ J → tA (tCq S zK0 J j i 0) k j (S.2.1 k i) = tCq S zK0 (k :: J) j i 0 := fun k J a b => tCq_s (n := 0) a b
    have e2 : S = tCq S zK0 [] j i 0 := by rw [← tCq_nil, tCp_0]
    rw [← e1 14 _ rfl (by decide), ← e1 13 _ rfl (by decide), ← e1 12 _ rfl (by decide), ← e1 11 _ rfl (by decide), ← e1 9 _ rfl (by decide), ← e2]
  rw [e0]
  refine t_copy1 hT hj hi ?_
  have e3 : (tCp S zK0 j i 1).2.1 11 j = S.2.1 11 i := by
    rw [tCp_s (K := zK0) (q := 11) rfl]
    unfold zcv
    rw [if_pos (by omega), Nat.sub_self, Nat.add_zero]
  rw [e3]
  exact h
end TCY
