/-! what is written: letters as lists; the twin writes them -/
/-- n digits of v -/
def zdt : Nat → Nat → List Int32
  | 0, _ => []
  | n + 1, v => nI (48 + v / 10 ^ n % 10) :: zdt n v
/-- how many digits -/
def zndF : Nat → Nat → Nat → Nat
  | 0, n, _ => n
  | f + 1, n, v => if 10 ^ n ≤ v then zndF f (n + 1) v else n
def znd (v : Nat) : Nat := zndF 18 1 v
def zdl (many v : Nat) : List Int32 := zdt (max many (znd v)) v
/-- digits in threes -/
def zgt (sep : Int32) : Nat → Nat → List Int32
  | 0, _ => []
  | n + 1, v => nI (48 + v / 10 ^ n % 10) :: ((if n ≠ 0 ∧ n % 3 = 0 then [sep] else []) ++ zgt sep n v)
def zpt (l : Nat) : Int32 := if l = 0 ∨ l = 5 ∨ l = 6 then 46 else 44
def zgs (l : Nat) : Int32 := if l = 0 ∨ l = 5 ∨ l = 6 then 44 else 32
/-- a decimal's letters -/
def zpd (l : Nat) (d : Int32) (k : Nat) : List Int32 := (if d < 0 then [45] else []) ++ zdl 1 (zab d / 10 ^ k) ++ (if k = 0 then [] else zpt l :: zdl k (zab d % 10 ^ k))
theorem zdt_len : ∀ n v, (zdt n v).length = n
  | 0, _ => rfl
  | n + 1, v => by rw [zdt, List.length_cons, zdt_len n v]
theorem zndF_b : ∀ (f n v : Nat), n ≤ zndF f n v ∧ zndF f n v ≤ n + f
  | 0, n, v => ⟨Nat.le_refl _, Nat.le_refl _⟩
  | f + 1, n, v => by
    unfold zndF
    split
    · have := zndF_b f (n + 1) v; omega
    · omega
theorem zndF_lt : ∀ (f n v : Nat), v < 10 ^ (n + f) → v < 10 ^ zndF f n v
  | 0, n, v, h => h
  | f + 1, n, v, h => by
    unfold zndF
    split
    · exact zndF_lt f (n + 1) v (by rw [show n + 1 + f = n + (f + 1) by omega]; exact h)
    · omega
theorem zndF_ge : ∀ (f n v m : Nat), n ≤ m → m < zndF f n v → 10 ^ m ≤ v
  | 0, n, v, m, h1, h2 => by unfold zndF at h2; omega
  | f + 1, n, v, m, h1, h2 => by
    unfold zndF at h2
    split at h2
    · rcases Nat.eq_or_lt_of_le h1 with h | h
      · subst h; assumption
      · exact zndF_ge f (n + 1) v m h h2
    · omega
theorem znd_pos (v : Nat) : 1 ≤ znd v := (zndF_b 18 1 v).1
theorem znd_lt {v : Nat} (h : v < 10 ^ 18) : v < 10 ^ znd v := zndF_lt 18 1 v (Nat.lt_of_lt_of_le h (Nat.pow_le_pow_right (by decide) (by decide)))
theorem znd_ge {v m : Nat} (h1 : 1 ≤ m) (h2 : m < znd v) : 10 ^ m ≤ v := zndF_ge 18 1 v m h1 h2
theorem znd_le {v m : Nat} (h1 : 1 ≤ m) (h : v < 10 ^ m) : znd v ≤ m := by
  rcases Nat.lt_or_ge m (znd v) with z | z
  · exact absurd (znd_ge h1 z) (by omega)
  · exact z
theorem zdl_len (m v : Nat) : (zdl m v).length = max m (znd v) := zdt_len _ _
/-- letters put over an array from n on -/
def zwl (f : Nat → Int32) (n : Nat) (l : List Int32) : Nat → Int32 := fun x => if n ≤ x ∧ x < n + l.length then l.getD (x - n) 0 else f x
theorem zwl_nil {f : Nat → Int32} {n : Nat} : zwl f n [] = f := by
  funext x; unfold zwl; rw [if_neg (by simp)]
theorem zwl_app {f : Nat → Int32} {n : Nat} {a b : List Int32} : zwl (zwl f n a) (n + a.length) b = zwl f n (a ++ b) := by
  funext x
  unfold zwl
  simp only [List.length_append, List.getD_eq_getElem?_getD]
  by_cases h1 : n + a.length ≤ x ∧ x < n + a.length + b.length
  · rw [if_pos h1, if_pos (by omega), List.getElem?_append_right (by omega)]
    rw [show x - (n + a.length) = x - n - a.length by omega]
  · rw [if_neg h1]
    by_cases h2 : n ≤ x ∧ x < n + a.length
    · rw [if_pos h2, if_pos (by omega), List.getElem?_append_left (by omega)]
    · rw [if_neg h2, if_neg (by omega)]
theorem zwl_one {f : Nat → Int32} {n : Nat} {c : Int32} : upd f n c = zwl f n [c] := by
  funext x
  unfold upd zwl
  by_cases h : x = n
  · subst h; simp
  · rw [if_neg h, if_neg (by simp; omega)]
theorem zwl_cons {f : Nat → Int32} {n : Nat} {c : Int32} {l : List Int32} : upd (zwl f (n + 1) l) n c = zwl f n (c :: l) := by
  funext x
  unfold upd zwl
  by_cases h : x = n
  · subst h; simp
  · rw [if_neg h]
    by_cases h2 : n + 1 ≤ x ∧ x < n + 1 + l.length
    · rw [if_pos h2, if_pos (by simp; omega)]
      obtain ⟨y, rfl⟩ : ∃ y, x = y + (n + 1) := ⟨x - (n + 1), by omega⟩
      simp [show y + (n + 1) - n = y + 1 by omega]
    · rw [if_neg h2, if_neg (by simp; omega)]
/-- the twin with letters written behind n -/
def tw (S : zTS) (n : Nat) (l : List Int32) : zTS := (fun j => if j = 48 then nI (n + l.length) else S.1 j, fun j => if j = 47 then zwl (S.2.1 47) n l else S.2.1 j, S.2.2)
theorem tw_48 {S : zTS} {n : Nat} {l : List Int32} : (tw S n l).1 48 = nI (n + l.length) := by simp [tw]
theorem tw_F {S : zTS} {n j : Nat} {l : List Int32} (h : j ≠ 48) : (tw S n l).1 j = S.1 j := if_neg h
theorem tw_A {S : zTS} {n j : Nat} {l : List Int32} (h : j ≠ 47) : (tw S n l).2.1 j = S.2.1 j := if_neg h
theorem tw_47 {S : zTS} {n : Nat} {l : List Int32} : (tw S n l).2.1 47 = zwl (S.2.1 47) n l := by simp [tw]
theorem tw_R {S : zTS} {n : Nat} {l : List Int32} : (tw S n l).2.2 = S.2.2 := rfl
theorem tw_app {S : zTS} {n : Nat} {a b : List Int32} : tw (tw S n a) (n + a.length) b = tw S n (a ++ b) := by
  unfold tw
  refine Prod.ext ?_ (Prod.ext ?_ rfl)
  · funext j
    show (if j = 48 then nI (n + a.length + b.length) else if j = 48 then nI (n + a.length) else S.1 j) = (if j = 48 then nI (n + (a ++ b).length) else S.1 j)
    by_cases h : j = 48
    · rw [if_pos h, if_pos h, List.length_append, Nat.add_assoc]
    · rw [if_neg h, if_neg h, if_neg h]
  · funext j
    show (if j = 47 then zwl (zwl (S.2.1 47) n a) (n + a.length) b else if j = 47 then zwl (S.2.1 47) n a else S.2.1 j) = (if j = 47 then zwl (S.2.1 47) n (a ++ b) else S.2.1 j)
    by_cases h : j = 47
    · rw [if_pos h, if_pos h, zwl_app]
    · rw [if_neg h, if_neg h, if_neg h]
theorem tw_nil {S : zTS} {n : Nat} (h : S.1 48 = nI n) : tw S n [] = S := by
  unfold tw
  refine Prod.ext ?_ (Prod.ext ?_ rfl)
  · funext j
    show (if j = 48 then nI (n + 0) else S.1 j) = S.1 j
    by_cases e : j = 48
    · subst e; rw [if_pos rfl, h]; rfl
    · rw [if_neg e]
  · funext j
    show (if j = 47 then zwl (S.2.1 47) n [] else S.2.1 j) = S.2.1 j
    by_cases e : j = 47
    · subst e; rw [if_pos rfl, zwl_nil]
    · rw [if_neg e]
section TW
variable {D : zD} {o : Nat} {A : Nat → Nat} {S : zTS} {I : zM}
theorem t_writes {post : Unit → zM → Prop} {n : Nat} {c : Int32} (hT : tok D o A) (hn : S.1 48 = nI n) (hn2 : n < 600) (h : post () (tm o A (tw S n [c]) I)) : wp_X9_writes D post o c (tm o A S I) := by
  unfold wp_X9_writes
  simp (disch := first | decide | omega) only [tgI, tgR, tzd, taI hT, tsI hT, tp hT, tF_s, tF_n, tA_F, tF_A, tA_s, tA_n, tA_R, tsz, m8, m5, m6, m10, m30, m120, nI_1, nI_add, clT, vinT, true_and, updS, updN, if_true, hn]
  have e : tF (tA S 47 n c) 48 (nI (n + 1)) = tw S n [c] := by
    unfold tF tA tw
    refine Prod.ext rfl (Prod.ext ?_ rfl)
    funext j
    show (if j = 47 then upd (S.2.1 47) n c else S.2.1 j) = (if j = 47 then zwl (S.2.1 47) n [c] else S.2.1 j)
    rw [zwl_one]
  rw [e]
  exact h
theorem t_isPointed {post : Int32 → zM → Prop} {l : Nat} {M : zM} (hl : l < 7) (h : post (b1 (decide (l = 0 ∨ l = 5 ∨ l = 6))) M) : wp_X9_isPointed D post (nI l) M := by
  unfold wp_X9_isPointed wp_X9_isPointed_L15 wp_X9_isPointed_L20
  have h9 : l = 0 ∨ l = 1 ∨ l = 2 ∨ l = 3 ∨ l = 4 ∨ l = 5 ∨ l = 6 := by omega
  rcases h9 with rfl | rfl | rfl | rfl | rfl | rfl | rfl
  · exact ⟨fun _ => ⟨rfl, h⟩, fun z => absurd rfl z⟩
  · exact ⟨fun z => absurd z (by decide), fun _ => ⟨fun z => absurd z (by decide), fun _ => ⟨fun _ => ⟨rfl, h⟩, fun z => absurd z (by decide)⟩⟩⟩
  · exact ⟨fun z => absurd z (by decide), fun _ => ⟨fun z => absurd z (by decide), fun _ => ⟨fun _ => ⟨rfl, h⟩, fun z => absurd z (by decide)⟩⟩⟩
  · exact ⟨fun z => absurd z (by decide), fun _ => ⟨fun z => absurd z (by decide), fun _ => ⟨fun _ => ⟨rfl, h⟩, fun z => absurd z (by decide)⟩⟩⟩
  · exact ⟨fun z => absurd z (by decide), fun _ => ⟨fun z => absurd z (by decide), fun _ => ⟨fun _ => ⟨rfl, h⟩, fun z => absurd z (by decide)⟩⟩⟩
  · exact ⟨fun z => absurd z (by decide), fun _ => ⟨fun _ => ⟨rfl, h⟩, fun z => absurd rfl z⟩⟩
  · exact ⟨fun z => absurd z (by decide), fun _ => ⟨fun z => absurd z (by decide), fun _ => ⟨fun z => absurd rfl z, fun _ => ⟨rfl, h⟩⟩⟩⟩
theorem t_writesPoint {post : Unit → zM → Prop} {n l : Nat} (hT : tok D o A) (hn : S.1 48 = nI n) (hn2 : n < 600) (hl : S.1 49 = nI l) (hl2 : l < 7) (h : post () (tm o A (tw S n [zpt l]) I)) : wp_X9_writesPoint D post o (tm o A S I) := by
  unfold wp_X9_writesPoint wp_X9_writesPoint_L18
  rw [tgI (by decide) rfl, hl]
  unfold zpt at h
  refine t_isPointed hl2 (ifb' (fun e => ?_) (fun e => ?_))
  · rw [if_pos (of_decide_eq_true e)] at h
    exact tzd.mpr ⟨tis _ (by decide), t_writes hT hn hn2 h⟩
  · rw [if_neg (of_decide_eq_false e)] at h
    exact tzd.mpr ⟨tis _ (by decide), t_writes hT hn hn2 h⟩
theorem t_wdL {post : Unit → zM → Prop} {v : Nat} (hT : tok D o A) (hv : v < 10 ^ 18) : ∀ (m : Nat) (S : zTS) (n : Nat), m ≤ 18 → S.1 48 = nI n → n + m ≤ 600 → post () (tm o A (tw S n (zdt m v)) I) →
    wp_X9_writesDigits_L37 D post o (m + 1) (lN v) (lN (if m = 0 then 0 else 10 ^ (m - 1))) (tm o A S I) := by
  intro m
  induction m with
  | zero =>
    intro S n hm hn hn2 h
    unfold wp_X9_writesDigits_L37
    rw [if_pos rfl, lg_cmp_le, show (0 : Int64) = lN 0 from rfl, l3_le (by decide) (by decide)]
    refine ⟨fun _ => ?_, fun z => absurd (Nat.le_refl 0) z⟩
    rw [zdt, tw_nil hn] at h
    exact h
  | succ m ih =>
    intro S n hm hn hn2 h
    have hp := p10_lt (k := m) (by omega)
    have hq := p10_pos m
    have hv' : v < 2 ^ 63 := Nat.lt_trans hv (by decide)
    have hvq : v / 10 ^ m < 2 ^ 63 := Nat.lt_of_le_of_lt (Nat.div_le_self _ _) hv'
    unfold wp_X9_writesDigits_L37
    rw [if_neg (by omega), Nat.add_sub_cancel, lg_cmp_le, show (0 : Int64) = lN 0 from rfl, l3_le hp (by decide)]
    refine ⟨fun z => by omega, fun _ => ⟨l3_ne0 hq hp, tis _ (by decide), ?_⟩⟩
    rw [show (10 : Int64) = lN 10 from rfl, l3_div hv' hp, l3_mod hvq (by decide), show (48 : Int64) = lN 48 from rfl, lN_add, lN_i, l3_div hp (by decide)]
    refine t_writes hT hn (by omega) ?_
    have hr := ih (tw S n [nI (48 + v / 10 ^ m % 10)]) (n + 1) (by omega) tw_48 (by omega) ?_
    · have e : (if m = 0 then 0 else 10 ^ (m - 1)) = 10 ^ m / 10 := by
        split
        · rename_i z; subst z; rfl
        · rename_i z
          obtain ⟨w, rfl⟩ : ∃ w, m = w + 1 := ⟨m - 1, by omega⟩
          rw [Nat.pow_succ, Nat.mul_div_cancel _ (by decide), Nat.add_sub_cancel]
      rw [e] at hr
      exact hr
    · have := tw_app (S := S) (n := n) (a := [nI (48 + v / 10 ^ m % 10)]) (b := zdt m v)
      rw [show n + [nI (48 + v / 10 ^ m % 10)].length = n + 1 from rfl] at this
      rw [this]
      exact h
theorem t_writesDigits {post : Unit → zM → Prop} {n v many : Nat} (hT : tok D o A) (hn : S.1 48 = nI n) (hv : v < 10 ^ 17) (hm : many ≤ 17) (hn2 : n + max many (znd v) ≤ 600) (h : post () (tm o A (tw S n (zdl many v)) I)) : wp_X9_writesDigits D post o (lN v) (nI many) (tm o A S I) := by
  have hv18 : v < 10 ^ 18 := Nat.lt_of_lt_of_le hv (by decide)
  have hv' : v < 2 ^ 63 := Nat.lt_trans hv18 (by decide)
  have hz := znd_pos v
  have hz2 : znd v ≤ 17 := znd_le (by decide) hv
  have hzl := znd_lt hv18
  have loop : ∀ f i : Nat, 1 ≤ i → i ≤ max many (znd v) → max many (znd v) - i < f → wp_X9_writesDigits_L6 D post o f (lN v) (nI many) (lN (10 ^ (i - 1))) (nI i) (tm o A S I) := by
    intro f
    induction f with
    | zero => intro i _ _ hf; omega
    | succ f ih =>
      intro i h1 hi hf
      have hp := p10_lt (k := i - 1) (by omega)
      have hq := p10_pos (i - 1)
      unfold wp_X9_writesDigits_L6 wp_X9_writesDigits_L23
      have next : i < max many (znd v) → wp_X9_writesDigits_L6 D post o f (lN v) (nI many) (lN (10 ^ (i - 1)) * 10) (nI i + 1) (tm o A S I) := fun hlt => by
        rw [show (10 : Int64) = lN 10 from rfl, lN_mul, ← Nat.pow_succ, show (i - 1).succ = i + 1 - 1 by omega, nI_1]
        exact ih (i + 1) (by omega) (by omega) (by omega)
      rw [nI_ltI (by omega) (by omega), lg_cmp_le, l3_div hv' hp, show (9 : Int64) = lN 9 from rfl, l3_le (Nat.lt_of_le_of_lt (Nat.div_le_self _ _) hv') (by decide)]
      have hdiv : v / 10 ^ (i - 1) ≤ 9 ↔ v < 10 ^ i := by
        have e : 10 ^ i = 10 * 10 ^ (i - 1) := by rw [Nat.mul_comm, ← Nat.pow_succ, show (i - 1).succ = i by omega]
        rw [e, ← Nat.div_lt_iff_lt_mul hq]; omega
      rw [hdiv]
      refine ⟨fun z => next (by omega), fun z => ⟨l3_ne0 hq hp, fun z2 => ?_, fun z2 => next ?_⟩⟩
      · have : i = max many (znd v) := by
          have := znd_le h1 z2
          omega
        have hr := t_wdL (post := post) (I := I) hT hv18 i S n (by omega) hn (by omega) (by rw [this]; exact h)
        rw [if_neg (by omega)] at hr
        exact ⟨_, hr⟩
      · have : ¬ znd v ≤ i := fun y => z2 (Nat.lt_of_lt_of_le hzl (Nat.pow_le_pow_right (by decide) y))
        omega
  exact ⟨max many (znd v) + 1, loop _ 1 (Nat.le_refl 1) (by omega) (by omega)⟩
theorem t_writesDecimal {post : Unit → zM → Prop} {n l k : Nat} {d : Int32} (hT : tok D o A) (hn : S.1 48 = nI n) (hl : S.1 49 = nI l) (hl2 : l < 7) (hk : k ≤ 6) (hn2 : n ≤ 500) (h : post () (tm o A (tw S n (zpd l d k)) I)) : wp_X9_writesDecimal D post o d (nI k) (tm o A S I) := by
  have hd := zab_lt d
  have hp := p10_lt (k := k) (by omega)
  have hq := p10_pos k
  have hu : zab d < 10 ^ 17 := Nat.lt_of_le_of_lt hd (by decide)
  have hu1 : zab d / 10 ^ k < 10 ^ 17 := Nat.lt_of_le_of_lt (Nat.div_le_self _ _) hu
  have hu2 : zab d % 10 ^ k < 10 ^ 17 := Nat.lt_of_le_of_lt (Nat.mod_le _ _) hu
  have hz1 : znd (zab d / 10 ^ k) ≤ 17 := znd_le (by decide) hu1
  have hz2 : znd (zab d % 10 ^ k) ≤ 17 := znd_le (by decide) hu2
  have h23 : ∀ (S : zTS) (n : Nat), S.1 48 = nI n → S.1 49 = nI l → n ≤ 501 → post () (tm o A (tw S n (zdl 1 (zab d / 10 ^ k) ++ (if k = 0 then [] else zpt l :: zdl k (zab d % 10 ^ k)))) I) → wp_X9_writesDecimal_L23 D post o (nI k) (lN (zab d)) (tm o A S I) := by
    intro S n hn hl hn2 h
    unfold wp_X9_writesDecimal_L23 wp_X9_writesDecimal_L53
    refine t_tens (by omega) ⟨l3_ne0 hq hp, tis _ (by decide), ?_⟩
    rw [l3_div (by omega) hp]
    refine t_writesDigits (many := 1) hT hn hu1 (by decide) (by omega) ?_
    rw [show (0 : Int32) = nI 0 from rfl, nI_leI (by omega) (by decide)]
    rw [← tw_app, zdl_len] at h
    refine ⟨fun z => ?_, fun z => ⟨tis _ (by decide), t_writesPoint (n := n + max 1 (znd (zab d / 10 ^ k))) hT (by rw [tw_48, zdl_len]) (by omega) (by rw [tw_F (by decide)]; exact hl) hl2 ?_⟩⟩
    · rw [if_pos (by omega), tw_nil (by rw [tw_48, zdl_len])] at h; exact h
    · refine t_tens (by omega) ⟨l3_ne0 hq hp, tis _ (by decide), ?_⟩
      rw [l3_mod (by omega) hp]
      refine t_writesDigits (n := n + max 1 (znd (zab d / 10 ^ k)) + 1) hT tw_48 hu2 (by omega) (by omega) ?_
      rw [if_neg (by omega)] at h
      have e := tw_app (S := tw S n (zdl 1 (zab d / 10 ^ k))) (n := n + max 1 (znd (zab d / 10 ^ k))) (a := [zpt l]) (b := zdl k (zab d % 10 ^ k))
      rw [show n + max 1 (znd (zab d / 10 ^ k)) + [zpt l].length = n + max 1 (znd (zab d / 10 ^ k)) + 1 from rfl] at e
      rw [e]
      exact h
  unfold wp_X9_writesDecimal wp_X9_writesDecimal_L12
  unfold zpd at h
  rw [i0_le]
  refine ⟨fun z => ⟨fun _ => ?_, fun y => absurd z y⟩, fun z => ⟨fun y => absurd y z, fun _ => ⟨tis _ (by decide), t_writes hT hn (by omega) ?_⟩⟩⟩
  · rw [if_neg z, List.nil_append] at h
    rw [zab_nn z]
    exact h23 S n hn hl (by omega) h
  · have z' : d < 0 := Classical.not_not.mp z
    rw [if_pos z', List.append_assoc, ← tw_app] at h
    rw [zab_ng z']
    exact h23 _ (n + 1) tw_48 (by rw [tw_F (by decide)]; exact hl) (by omega) h
end TW
