/-! the twin writes numbers in shapes -/
theorem nI_div {a b : Nat} (ha : a < 2 ^ 31) (hb : b < 2 ^ 31) : nI a / nI b = nI (a / b) := by
  have hd : a / b < 2 ^ 31 := Nat.lt_of_le_of_lt (Nat.div_le_self a b) ha
  have hn : nI a ≠ Int32.minValue := fun z => by
    have := congrArg Int32.toInt z
    rw [nI_toInt ha] at this
    have h2 : Int32.minValue.toInt = -2147483648 := by decide
    omega
  apply Int32.toInt_inj.mp
  rw [Int32.toInt_div_of_ne_left _ _ hn, nI_toInt ha, nI_toInt hb, nI_toInt hd, Int.ofNat_tdiv]
theorem nI_sub {a b : Nat} (h : b ≤ a) : nI a - nI b = nI (a - b) := by
  obtain ⟨c, rfl⟩ : ∃ c, a = c + b := ⟨a - b, by omega⟩
  rw [← nI_add, Int32.add_sub_cancel, Nat.add_sub_cancel]
theorem nI_mod {a b : Nat} (ha : a < 2 ^ 31) (hb : b < 2 ^ 31) : nI a - nI a / nI b * nI b = nI (a % b) := by
  rw [nI_div ha hb, nI_mu]
  have h1 := Nat.mod_add_div a b
  rw [Nat.mul_comm] at h1
  rw [nI_sub (by omega)]
  congr 1; omega
theorem zgt_len (sep : Int32) : ∀ n v, (zgt sep n v).length = n + (n - 1) / 3
  | 0, _ => rfl
  | n + 1, v => by
    rw [zgt, List.length_cons, List.length_append, zgt_len sep n v]
    by_cases h : n ≠ 0 ∧ n % 3 = 0
    · rw [if_pos h, List.length_singleton]; omega
    · rw [if_neg h, List.length_nil]; omega
theorem zdt_get : ∀ (n v i : Nat), i < n → (zdt n v)[i]? = some (nI (48 + v / 10 ^ (n - 1 - i) % 10))
  | 0, _, _, h => by omega
  | n + 1, v, 0, _ => by rw [zdt]; rfl
  | n + 1, v, i + 1, h => by
    rw [zdt, List.getElem?_cons_succ, zdt_get n v i (by omega), show n + 1 - 1 - (i + 1) = n - 1 - i by omega]
theorem zwl_in {f : Nat → Int32} {n x : Nat} {l : List Int32} {c : Int32} (h : l[x]? = some c) : zwl f n l (n + x) = c := by
  have := (List.getElem?_eq_some_iff.mp h).1
  unfold zwl
  rw [if_pos (by omega), List.getD_eq_getElem?_getD, show n + x - n = x by omega, h]
  rfl
theorem zwl_ov {f : Nat → Int32} {n : Nat} {a b : List Int32} (h : a.length ≤ b.length) : zwl (zwl f n a) n b = zwl f n b := by
  funext x
  unfold zwl
  by_cases h1 : n ≤ x ∧ x < n + b.length
  · rw [if_pos h1, if_pos h1]
  · rw [if_neg h1, if_neg h1, if_neg (by omega)]
/-- array 47 as it is grouped -/
def tg (S : zTS) (f : Nat → Int32) : zTS := (S.1, (fun j => if j = 47 then f else S.2.1 j), S.2.2)
theorem tg_47 {S : zTS} {f : Nat → Int32} : (tg S f).2.1 47 = f := by simp [tg]
theorem tg_tA {S : zTS} {f : Nat → Int32} {i : Nat} {x : Int32} : tA (tg S f) 47 i x = tg S (upd f i x) := by
  unfold tA tg
  refine Prod.ext rfl (Prod.ext ?_ rfl)
  funext j
  show (if j = 47 then upd (if (47 : Nat) = 47 then f else S.2.1 47) i x else if j = 47 then f else S.2.1 j) = (if j = 47 then upd f i x else S.2.1 j)
  by_cases h : j = 47
  · simp [h]
  · simp [h]
section TW3
variable {D : zD} {o : Nat} {A : Nat → Nat} {S : zTS} {I : zM}
theorem t_groups {post : Unit → zM → Prop} {b N v l : Nat} (hT : tok D o A) (hN : 1 ≤ N) (hN2 : N ≤ 17) (hb : b + N + (N - 1) / 3 ≤ 600) (hl : S.1 49 = nI l) (hl2 : l < 7) (h : post () (tm o A (tw S b (zgt (zgs l) N v)) I)) : wp_X9_groups D post o (nI b) (nI N) (tm o A (tw S b (zdt N v)) I) := by
  have e1 : (nI N - 1) / 3 = nI ((N - 1) / 3) := by
    rw [show (1 : Int32) = nI 1 from rfl, nI_sub hN, show (3 : Int32) = nI 3 from rfl, nI_div (by omega) (by decide)]
  have e2 : nI b + nI N - 1 = nI (b + N - 1) := by rw [nI_add, show (1 : Int32) = nI 1 from rfl, nI_sub (by omega)]
  -- the state the loop works on
  have hst : ∀ f, tF (tw S b (zdt N v)) 48 (nI (b + N + (N - 1) / 3)) = tF (tw S b (zdt N v)) 48 f → f = nI (b + N + (N - 1) / 3) := fun f e => by
    have := congrArg (fun z : zTS => z.1 48) e
    simp only [tF_s] at this
    exact this.symm
  obtain ⟨S1, hS1⟩ : ∃ z : zTS, z = tF (tw S b (zdt N v)) 48 (nI (b + N + (N - 1) / 3)) := ⟨_, rfl⟩
  have hS0 : tF (tw S b (zdt N v)) 48 (nI (b + N + (N - 1) / 3)) = tg S1 (zwl (S.2.1 47) b (zdt N v)) := by
    rw [hS1]
    unfold tg tF tw
    refine Prod.ext rfl (Prod.ext ?_ rfl)
    funext j
    show (if j = 47 then zwl (S.2.1 47) b (zdt N v) else S.2.1 j) = (if j = 47 then zwl (S.2.1 47) b (zdt N v) else if j = 47 then zwl (S.2.1 47) b (zdt N v) else S.2.1 j)
    by_cases e : j = 47
    · rw [if_pos e, if_pos e]
    · rw [if_neg e, if_neg e]
  have hfin : tg S1 (zwl (S.2.1 47) b (zgt (zgs l) N v)) = tw S b (zgt (zgs l) N v) := by
    rw [hS1]
    unfold tg tF tw
    refine Prod.ext ?_ (Prod.ext ?_ rfl)
    · funext j
      show (if j = 48 then nI (b + N + (N - 1) / 3) else if j = 48 then nI (b + (zdt N v).length) else S.1 j) = (if j = 48 then nI (b + (zgt (zgs l) N v).length) else S.1 j)
      by_cases e : j = 48
      · rw [if_pos e, if_pos e, zgt_len, Nat.add_assoc]
      · rw [if_neg e, if_neg e, if_neg e]
    · funext j
      show (if j = 47 then zwl (S.2.1 47) b (zgt (zgs l) N v) else if j = 47 then zwl (S.2.1 47) b (zdt N v) else S.2.1 j) = (if j = 47 then zwl (S.2.1 47) b (zgt (zgs l) N v) else S.2.1 j)
      by_cases e : j = 47
      · rw [if_pos e, if_pos e]
      · rw [if_neg e, if_neg e, if_neg e]
  have hst2 : ∀ n, n ≤ N → n + (n - 1) / 3 ≤ N + (N - 1) / 3 := fun n hn => by omega
  have loop : ∀ f n : Nat, n ≤ N → N - n < f → wp_X9_groups_L51 D post o f (nI N) (nI (b + N - n) - 1) (nI (b + N + (N - 1) / 3 - (n + (n - 1) / 3)) - 1) (zgs l) (nI n) (tm o A (tg S1 (zwl (zwl (S.2.1 47) b (zdt N v)) (b + N + (N - 1) / 3 - (n + (n - 1) / 3)) (zgt (zgs l) n v))) I) := by
    intro f
    induction f with
    | zero => intro n _ hf; omega
    | succ f ih =>
      intro n hn hf
      have hle := hst2 n hn
      unfold wp_X9_groups_L51
      rw [nI_leI (by omega) (by omega), show (0 : Int32) = nI 0 from rfl, nI_leI (by omega) (by decide), show (3 : Int32) = nI 3 from rfl, nI_mod (by omega) (by decide), nI_eq (by omega) (by decide)]
      refine ifc (fun z => ?_) (fun z => ?_)
      · have : n = N := by omega
        subst this
        rw [show b + n + (n - 1) / 3 - (n + (n - 1) / 3) = b by omega, zwl_ov (by rw [zdt_len, zgt_len]; omega), hfin]
        exact h
      · -- one digit
        have dig : ∀ (p : Nat) (t : List Int32), b + N - n ≤ p → p ≤ b + N + (N - 1) / 3 → zgt (zgs l) (n + 1) v = nI (48 + v / 10 ^ n % 10) :: t → p - 1 = b + N + (N - 1) / 3 - (n + 1 + (n + 1 - 1) / 3) →
            wp_X9_groups_L81 D post o (wp_X9_groups_L51 D post o f) (nI N) (nI (b + N - n) - 1) (nI p - 1) (zgs l) (nI n) (tm o A (tg S1 (zwl (zwl (S.2.1 47) b (zdt N v)) p t)) I) := by
          intro p t hp hp2 ht hpe
          obtain ⟨u, hu⟩ : ∃ u, b + N - n = u + 1 := ⟨b + N - n - 1, by omega⟩
          obtain ⟨w, rfl⟩ : ∃ w, p = w + 1 := ⟨p - 1, by omega⟩
          rw [hu, nI_pred, nI_pred]
          unfold wp_X9_groups_L81
          simp (disch := first | decide | omega) only [tgI, tgR, tzd, taI hT, tsI hT, tp hT, tF_s, tF_n, tA_F, tF_A, tA_s, tA_n, tA_R, tsz, m8, m5, m6, m10, m30, m120, nI_1, nI_add, clT, vinT, true_and, updS, updN, if_true, tg_47, tg_tA]
          have hrd : zwl (zwl (S.2.1 47) b (zdt N v)) (w + 1) t u = nI (48 + v / 10 ^ n % 10) := by
            have h1 : zwl (zwl (S.2.1 47) b (zdt N v)) (w + 1) t u = zwl (S.2.1 47) b (zdt N v) u := by
              show (if w + 1 ≤ u ∧ u < w + 1 + t.length then t.getD (u - (w + 1)) 0 else zwl (S.2.1 47) b (zdt N v) u) = _
              rw [if_neg (by omega)]
            rw [h1, show u = b + (N - 1 - n) by omega, zwl_in (zdt_get N v (N - 1 - n) (by omega)), show N - 1 - (N - 1 - n) = n by omega]
          rw [hrd, zwl_cons, ← ht]
          have hr := ih (n + 1) (by omega) (by omega)
          rw [show b + N - (n + 1) = u by omega, ← hpe, Nat.add_sub_cancel] at hr
          rw [← Int32.sub_eq_add_neg, ← Int32.sub_eq_add_neg]
          exact hr
        have hp1 : n ≤ 0 ∨ ¬ n % 3 = 0 → wp_X9_groups_L81 D post o (wp_X9_groups_L51 D post o f) (nI N) (nI (b + N - n) - 1) (nI (b + N + (N - 1) / 3 - (n + (n - 1) / 3)) - 1) (zgs l) (nI n) (tm o A (tg S1 (zwl (zwl (S.2.1 47) b (zdt N v)) (b + N + (N - 1) / 3 - (n + (n - 1) / 3)) (zgt (zgs l) n v))) I) := fun hc => by
          refine dig _ _ (by omega) (by omega) ?_ (by omega)
          rw [zgt, if_neg (fun y => by omega), List.nil_append]
        refine ifc (fun z2 => hp1 (Or.inl z2)) (fun z2 => ifn (fun z3 => ?_) (fun z3 => hp1 (Or.inr z3)))
        · obtain ⟨w, hw⟩ : ∃ w, b + N + (N - 1) / 3 - (n + (n - 1) / 3) = w + 1 := ⟨b + N + (N - 1) / 3 - (n + (n - 1) / 3) - 1, by omega⟩
          rw [hw, nI_pred]
          simp (disch := first | decide | omega) only [tgI, tgR, tzd, taI hT, tsI hT, tp hT, tF_s, tF_n, tA_F, tF_A, tA_s, tA_n, tA_R, tsz, m8, m5, m6, m10, m30, m120, nI_1, nI_add, clT, vinT, true_and, updS, updN, if_true, tg_47, tg_tA]
          rw [zwl_cons, ← Int32.sub_eq_add_neg]
          refine dig w _ (by omega) (by omega) ?_ (by omega)
          rw [zgt, if_pos ⟨by omega, z3⟩]; rfl
  have main : wp_X9_groups_L46 D post o (nI N) (nI b + nI N - 1) (nI b + nI N - 1 + (nI N - 1) / 3) (zgs l) (tm o A (tg S1 (zwl (S.2.1 47) b (zdt N v))) I) := by
    unfold wp_X9_groups_L46
    have := loop (N + 1) 0 (by omega) (by omega)
    rw [show b + N + (N - 1) / 3 - (0 + (0 - 1) / 3) = b + N + (N - 1) / 3 by omega, Nat.sub_zero, zgt, zwl_nil] at this
    rw [e1, e2, nI_add]
    rw [show (1 : Int32) = nI 1 from rfl, nI_sub (by omega), nI_sub (by omega)] at this
    rw [show b + N - 1 + (N - 1) / 3 = b + N + (N - 1) / 3 - 1 by omega]
    exact ⟨N + 1, this⟩
  unfold wp_X9_groups
  rw [tgI (by decide) rfl, tp hT (by decide) rfl, tgI (by decide) rfl, tF_n (by decide), tw_F (by decide), hl, tw_48, zdt_len, e1, show nI (b + N) + nI ((N - 1) / 3) = nI (b + N + (N - 1) / 3) from nI_add _ _, hS0]
  rw [e1] at main
  unfold zgs at main
  refine t_isPointed hl2 (ifb' (fun e => ?_) (fun e => ?_))
  · rw [if_pos (of_decide_eq_true e)] at main; exact main
  · rw [if_neg (of_decide_eq_false e)] at main; exact main
end TW3
