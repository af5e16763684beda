/-! the twin's categories -/
theorem zin_e {v a : Int64} : zin v a a = decide (v = a) := by
  unfold zin
  rw [← Bool.decide_and, decide_eq_decide, Int64.le_iff_toInt_le, Int64.le_iff_toInt_le, ← Int64.toInt_inj]
  omega
theorem zop_1 (d : Int32) (k : Nat) : zop d k 1 = lN k := rfl
theorem zct_k {d : Int32} {k : Nat} {n : Bool} {c r : Int32} (hk : k ≤ 18) : zct (zcr n c r 1 0 0 0) d k = (decide (k = 0) != n) := by
  have e : zct (zcr n c r 1 0 0 0) d k = (zin (lN k) 0 0 != n) := rfl
  rw [e, zin_e, show (0 : Int64) = lN 0 from rfl]
  congr 1
  rw [decide_eq_decide, l3_eq (by omega) (by decide)]
theorem zct_v {d : Int32} {k : Nat} {n : Bool} {c r p a b : Int32} : zct (zcr n c r p 0 a b) d k = (zin (zop d k p) a.toInt64 b.toInt64 != n) := rfl
theorem zct_10 {d : Int32} {k : Nat} {n : Bool} {c r p a b : Int32} : zct (zcr n c r p 10 a b) d k = (zin (zop d k p - zop d k p / 10 * 10) a.toInt64 b.toInt64 != n) := rfl
theorem zct_100 {d : Int32} {k : Nat} {n : Bool} {c r p a b : Int32} : zct (zcr n c r p 100 a b) d k = (zin (zop d k p - zop d k p / 100 * 100) a.toInt64 b.toInt64 != n) := rfl
theorem zop0_nn (d : Int32) (k : Nat) : decide ((0 : Int64) ≤ zop d k 0) = true := by
  have h1 : zop d k 0 = lN (zab d / 10 ^ k) := rfl
  have h2 := zab_lt d
  have h3 : zab d / 10 ^ k ≤ zab d := Nat.div_le_self _ _
  generalize zab d / 10 ^ k = q at h1 h3
  rw [h1, show (0 : Int64) = lN 0 from rfl, decide_eq_true_eq, l3_le (by decide) (by omega)]
  omega
theorem zin_01 {d : Int32} {k : Nat} : zin (zop d k 0) 0 1 = decide (zop d k 0 ≤ 1) := by
  unfold zin
  rw [zop0_nn, Bool.true_and]
theorem zru_c {q : zCo} {l : List zCo} {any : Bool} {c r d : Int32} {k : Nat} (h : q.1.1 = c ∧ q.1.2.1 = r) : zru (q :: l) any c r d k = (zct q d k && zru l true c r d k) := by
  rw [zru, if_pos h]
  cases zct q d k <;> rfl
theorem zru_o {q : zCo} {l : List zCo} {any : Bool} {c r d : Int32} {k : Nat} (h : ¬ (q.1.1 = c ∧ q.1.2.1 = r)) : zru (q :: l) any c r d k = zru l any c r d k := by
  rw [zru, if_neg h]
theorem i64_0 : (0 : Int32).toInt64 = 0 := by decide
theorem i64_1 : (1 : Int32).toInt64 = 1 := by decide
theorem i64_2 : (2 : Int32).toInt64 = 2 := by decide
theorem i64_3 : (3 : Int32).toInt64 = 3 := by decide
theorem i64_4 : (4 : Int32).toInt64 = 4 := by decide
theorem i64_10 : (10 : Int32).toInt64 = 10 := by decide
theorem i64_11 : (11 : Int32).toInt64 = 11 := by decide
theorem i64_12 : (12 : Int32).toInt64 = 12 := by decide
theorem i64_14 : (14 : Int32).toInt64 = 14 := by decide
theorem i64_19 : (19 : Int32).toInt64 = 19 := by decide
theorem i64_99 : (99 : Int32).toInt64 = 99 := by decide
/-- what the twin's holds answers, by language and category -/
def zhl (l c : Nat) (i f : Int64) (w : Bool) : Bool := match 10 * l + c with
  | 1 => decide (i = 1) && w
  | 21 => decide (i = 1) && w
  | 41 => decide (i = 1) && w
  | 11 => decide (i ≤ 1)
  | 23 => w && (zin (i - i / 10 * 10) 2 4 && !zin (i - i / 100 * 100) 12 14)
  | 24 => w
  | 30 => w && (decide (i - i / 10 * 10 = 0) || zin (i - i / 100 * 100) 11 19)
  | 31 => if w then decide (i - i / 10 * 10 = 1) else decide (f - f / 10 * 10 = 1)
  | 40 => decide (i = 0) && w
  | 42 => decide (i = 2) && w
  | 43 => w && zin (i - i / 100 * 100) 3 10
  | 44 => w && zin (i - i / 100 * 100) 11 99
  | _ => false
theorem zcr_c {n : Bool} {c r o m a b : Int32} : (zcr n c r o m a b).1.1 = c := rfl
theorem zcr_r {n : Bool} {c r o m a b : Int32} : (zcr n c r o m a b).1.2.1 = r := rfl
theorem nI_l0 : nI 0 = 0 := rfl
theorem nI_l1 : nI 1 = 1 := rfl
theorem nI_l2 : nI 2 = 2 := rfl
theorem nI_l3 : nI 3 = 3 := rfl
theorem nI_l4 : nI 4 = 4 := rfl
theorem zhl_ok {l c : Nat} {d : Int32} {k : Nat} (hl : l < 6) (hc : c < 5) (hk : k ≤ 18) : zho (zll l) (nI c) d k = zhl l c (zop d k 0) (zop d k 2) (decide (k = 0)) := by
  have h9 : l = 0 ∨ l = 1 ∨ l = 2 ∨ l = 3 ∨ l = 4 ∨ l = 5 := by omega
  have h8 : c = 0 ∨ c = 1 ∨ c = 2 ∨ c = 3 ∨ c = 4 := by omega
  rcases h9 with rfl | rfl | rfl | rfl | rfl | rfl <;> rcases h8 with rfl | rfl | rfl | rfl | rfl <;>
    (unfold zho zll zhl; simp (config := { decide := true }) only [zru, zcr_c, zcr_r, nI_l0, nI_l1, nI_l2, nI_l3, nI_l4, if_true, if_false, zct_k hk, zin_01, zct_v, zct_10, zct_100, i64_0, i64_1, i64_2, i64_3, i64_4, i64_10, i64_11, i64_12, i64_14, i64_19, i64_99, zin_e, Bool.bne_false, Bool.bne_true, Bool.and_true, Bool.and_false, Bool.or_false, Bool.false_or]; try (cases decide (k = 0) <;> simp))
theorem nI_mu (a b : Nat) : nI a * nI b = nI (a * b) := (Int32.ofNat_mul a b).symm
section TL
variable {D : zD} {o : Nat} {A : Nat → Nat} {S : zTS} {I : zM}
theorem t_holds {post : Int32 → zM → Prop} {n l c : Nat} {d : Int32} {k : Nat} (hT : tok D o A) (hn : S.1 0 = nI n) (hn2 : n ≤ 12) (hl : l < 7) (hc : c < 5) (hk : k ≤ 18) (h : post (b1 (zho (zof (zown S n) l) (nI c) d k)) (tm o A S I)) : wp_X9_holds D post o (nI l) (nI c) d (nI k) (tm o A S I) := by
  unfold wp_X9_holds
  refine t_operandOf hk (t_operandOf hk ?_)
  have hk0 : nI k = 0 ↔ k = 0 := by rw [show (0 : Int32) = nI 0 from rfl, nI_eq (by omega) (by decide)]
  suffices key : wp_X9_holds_L44 D post o (nI l) (nI c) d (nI k) (zop d k 0) (zop d k 2) (zop d k 0 - zop d k 0 / 10 * 10) (zop d k 0 - zop d k 0 / 100 * 100) (b1 (decide (k = 0))) (tm o A S I) by
    refine ⟨fun z => ?_, fun z => ?_⟩
    · rw [decide_eq_false (fun e => z (hk0.mpr e))] at key; exact key
    · rw [decide_eq_true (hk0.mp z)] at key; exact key
  unfold wp_X9_holds_L44
  rw [show (10 : Int32) * nI l + nI c = nI (10 * l + c) by rw [show (10 : Int32) = nI 10 from rfl, nI_mu, nI_add]]
  by_cases h6 : l = 6
  · subst h6
    have e : ∀ q : Nat, q < 60 → ¬ nI (10 * 6 + c) = nI q := fun q hq z => by rw [nI_eq (by omega) (by omega)] at z; omega
    refine ⟨fun z => absurd z (e 1 (by decide)), fun z => absurd z (e 11 (by decide)), fun z => absurd z (e 21 (by decide)), fun z => absurd z (e 23 (by decide)), fun z => absurd z (e 24 (by decide)), fun z => absurd z (e 30 (by decide)), fun z => absurd z (e 31 (by decide)), fun z => absurd z (e 40 (by decide)), fun z => absurd z (e 41 (by decide)), fun z => absurd z (e 42 (by decide)), fun z => absurd z (e 43 (by decide)), fun z => absurd z (e 44 (by decide)), fun _ => ?_⟩
    unfold wp_X9_holds_L474 wp_X9_holds_L495 wp_X9_holds_L496
    refine ⟨fun z => absurd rfl z, fun _ => ⟨tis _ (by decide), t_ownHolds hT hn hn2 hk ?_⟩⟩
    rw [show zof (zown S n) 6 = zown S n from rfl, zho_own] at h
    refine ifb' (fun e2 => ⟨rfl, ?_⟩) (fun e2 => ⟨rfl, ?_⟩)
    · rw [e2] at h; exact h
    · rw [e2] at h; exact h
  · have hz : zof (zown S n) l = zll l := by unfold zof; rw [if_neg h6]
    rw [hz, zhl_ok (by omega) hc hk] at h
    generalize zop d k 0 = i at h ⊢
    generalize zop d k 2 = f at h ⊢
    generalize decide (k = 0) = w at h ⊢
    have h9 : l = 0 ∨ l = 1 ∨ l = 2 ∨ l = 3 ∨ l = 4 ∨ l = 5 := by omega
    have h8 : c = 0 ∨ c = 1 ∨ c = 2 ∨ c = 3 ∨ c = 4 := by omega
    clear hz hn
    rcases h9 with rfl | rfl | rfl | rfl | rfl | rfl <;> rcases h8 with rfl | rfl | rfl | rfl | rfl <;>
      (unfold zhl at h; refine ⟨fun z => ?_, fun z => ?_, fun z => ?_, fun z => ?_, fun z => ?_, fun z => ?_, fun z => ?_, fun z => ?_, fun z => ?_, fun z => ?_, fun z => ?_, fun z => ?_, fun z => ?_⟩ <;> first | exact absurd z (by decide) | skip)
    all_goals (try unfold wp_X9_holds_L474)
    all_goals (try unfold wp_X9_holds_L244)
    all_goals simp only [wp_X9_holds_L260, wp_X9_holds_L261, wp_X9_holds_L274, wp_X9_holds_L312, wp_X9_holds_L313, wp_X9_holds_L343, wp_X9_holds_L347, wp_X9_holds_L348, wp_X9_holds_L385, wp_X9_holds_L402, wp_X9_holds_L403, wp_X9_holds_L422, wp_X9_holds_L423, wp_X9_holds_L447, wp_X9_holds_L448, wp_X9_holds_L472, wp_X9_holds_L473, wp_X9_holds_L495, wp_X9_holds_L496, lgc_eq, lgc_gt, zn0, zn1, znb, true_and, Int64.not_lt]
    iterate 6 (all_goals (try first | exact h | refine ifb' (fun e => ?_) (fun e => ?_) | refine ifb (fun e => ?_) (fun e => ?_) | refine t_in ?_ | refine ⟨fun z1 => ?_, fun z1 => ?_⟩))
    all_goals (try rw [← Int64.not_le] at z1)
    all_goals (try simp_all (config := { decide := true }) [b1])
end TL
