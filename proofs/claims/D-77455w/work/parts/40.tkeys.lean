/-! keys as a list: what lacks, what never comes, which branch a decimal comes to -/
def zix (q : Nat) : Nat → List Nat → Option Nat
  | _, [] => none
  | i, x :: l => if x = q then some i else zix q (i + 1) l
def zoi (n : Int32) : Option Nat → Int32
  | none => n
  | some i => nI i
/-- a slot's choice has these keys -/
def zks (S : zTS) (j c : Nat) (ks : List Nat) : Prop := S.2.1 19 (8 * j + c) = nI ks.length ∧ ks.length ≤ 10 ∧ ∀ b q, ks[b]? = some q → S.2.1 20 (10 * (8 * j + c) + b) = nI q ∧ q ≤ 1009
theorem zix_lt {q : Nat} : ∀ {l : List Nat} {i r : Nat}, zix q i l = some r → i ≤ r ∧ r < i + l.length
  | [], i, r, h => by cases h
  | x :: l, i, r, h => by
    unfold zix at h
    split at h
    · cases h; simp
    · have := zix_lt h; simp only [List.length_cons]; omega
theorem zbw_ix {S : zTS} {j c q : Nat} (hq : q ≤ 1009) : ∀ (ks : List Nat) (b : Nat), (∀ i x, ks[i]? = some x → S.2.1 20 (10 * (8 * j + c) + (b + i)) = nI x ∧ x ≤ 1009) → zbw S j c (nI q) ks.length b = zoi (-1) (zix q b ks)
  | [], b, _ => rfl
  | x :: l, b, h => by
    have h0 := h 0 x rfl
    rw [Nat.add_zero] at h0
    have hxq := nI_eq (a := x) (b := q) (by omega) (by omega)
    rw [List.length_cons, zbw, zix, h0.1]
    by_cases e : x = q
    · rw [if_pos (hxq.mpr e), if_pos e]; rfl
    · rw [if_neg (fun z => e (hxq.mp z)), if_neg e]
      refine zbw_ix hq l (b + 1) fun i y hy => ?_
      have := h (i + 1) y (by simpa using hy)
      rw [show b + 1 + i = b + (i + 1) by omega]
      exact this
/-- what lacks: bits 0 to 4 of x, those of the keys taken off -/
def zlk (P : Nat → Bool) (x : Int32) : Nat → Int32
  | 0 => x
  | k + 1 => zlk P x k &&& (if P k then (((1 : Int32) <<< (nI k &&& 31)) ^^^ (-1 : Int32)) else (-1 : Int32))
def zhas (ks : List Nat) (q : Nat) : Bool := (zix q 0 ks).isSome
def zlack (ks : List Nat) (pl : Bool) (used : Int32) : Int32 := zlk (zhas ks) (if pl then used &&& 31 else 7) 5
/-- what never comes, of branches with keys below 5 -/
def zdd (ks : List Nat) (used : Int32) : Nat → Int32
  | 0 => 0
  | k + 1 => zdd ks used k ||| (if zhas ks k && decide (((used >>> (nI k &&& 31)) &&& 1) = 0) then ((1 : Int32) <<< (zoi (-1) (zix k 0 ks) &&& 31)) else 0)
def zdead (ks : List Nat) (pl : Bool) (used : Int32) : Int32 :=
  let s := if pl then zdd ks used 5 else 0
  if (!pl || decide (((used >>> ((5 : Int32) &&& 31)) &&& 1) = 0)) && decide (zlack ks pl used = 0) then s ||| ((1 : Int32) <<< (zoi (-1) (zix (if pl then 5 else 3) 0 ks) &&& 31)) else s
/-- is d at scale k the number v -/
def ziz (d : Int32) (k v : Nat) : Bool := decide (0 ≤ d.toInt) && decide (zab d = v * 10 ^ k)
/-- which branch -/
def zbo (d : Int32) (k : Nat) (other : Option Nat) : Nat → List Nat → Option Nat
  | _, [] => other
  | i, x :: l => if 10 ≤ x ∧ ziz d k (x - 10) = true then some i else zbo d k other (i + 1) l
def zoth (ks : List Nat) (key : Nat) (o : Nat) : Option Nat := match zix key 0 ks with | some b => some b | none => zix o 0 ks
theorem ziz_64 {d : Int32} {k v : Nat} (hk : k ≤ 6) (hv : v ≤ 999) : (d.toInt64 = lN v * lN (10 ^ k)) ↔ ziz d k v = true := by
  have h1 := Int32.toInt_lt d
  have h2 := Int32.le_toInt d
  have hp : 10 ^ k ≤ 1000000 := Nat.le_trans (Nat.pow_le_pow_right (by decide) hk) (by decide)
  have hq : v * 10 ^ k ≤ 999 * 1000000 := Nat.mul_le_mul hv hp
  rw [lN_mul, ← Int64.toInt_inj, Int32.toInt_toInt64, l3_toInt (by omega)]
  unfold ziz zab
  rw [Bool.and_eq_true, decide_eq_true_eq, decide_eq_true_eq]
  generalize v * 10 ^ k = w at *
  omega
section TK
variable {D : zD} {o : Nat} {A : Nat → Nat} {S : zTS} {I : zM}
theorem t_bw {post : Int32 → zM → Prop} {j c q : Nat} {ks : List Nat} (hT : tok D o A) (hj : j < 4) (hc : c < 8) (hK : zks S j c ks) (hq : q ≤ 1009) (h : post (zoi (-1) (zix q 0 ks)) (tm o A S I)) : wp_X9_branchWith D post o (nI j) (nI c) (nI q) (tm o A S I) := by
  refine t_branchWith hT hj hc hK.2.1 hK.1 ?_
  rw [zbw_ix hq ks 0 fun i x hx => by rw [Nat.zero_add]; exact hK.2.2 i x hx]
  exact h
theorem zoi_neg {o : Option Nat} (h : ∀ r, o = some r → r < 2 ^ 31) : (zoi (-1) o < 0) ↔ o = none := by
  cases o with
  | none => exact ⟨fun _ => rfl, fun _ => by decide⟩
  | some r => exact ⟨fun z => absurd z (nI_pos (h r rfl)), fun z => by cases z⟩
theorem zix_sm {q : Nat} {ks : List Nat} (h : ks.length ≤ 10) : ∀ r, zix q 0 ks = some r → r < 2 ^ 31 := fun r hr => by have := zix_lt hr; omega
theorem t_lacksOf {post : Int32 → zM → Prop} {j c l n : Nat} {ks : List Nat} {pl : Bool} (hT : tok D o A) (hn : S.1 0 = nI n) (hn2 : n ≤ 12) (hj : j < 4) (hc : c < 8) (hl : l < 7) (hK : zks S j c ks) (hp : S.2.1 17 (8 * j + c) = if pl then 1 else 2) (h : post (zlack ks pl (zused (zof (zown S n) l))) (tm o A S I)) : wp_X9_lacksOf D post o (nI j) (nI l) (nI c) (tm o A S I) := by
  have loop : ∀ x : Int32, zlk (zhas ks) x 5 = zlack ks pl (zused (zof (zown S n) l)) → wp_X9_lacksOf_L40 D post o (nI j) (nI c) x (tm o A S I) := by
    intro x hx
    have key : ∀ f k : Nat, k ≤ 5 → 5 - k < f → wp_X9_lacksOf_L45 D post o f (nI j) (nI c) (zlk (zhas ks) x k) (nI k) (tm o A S I) := by
      intro f
      induction f with
      | zero => intro k _ hf; omega
      | succ f ih =>
        intro k hk hf
        unfold wp_X9_lacksOf_L45
        rw [show (5 : Int32) = nI 5 from rfl, nI_leI (by decide) (by omega)]
        refine ifc (fun z => ?_) (fun z => ⟨tis _ (by decide), t_bw hT hj hc hK (by omega) ?_⟩)
        · have : k = 5 := by omega
          subst this
          rw [hx]; exact h
        · rw [zoi_neg (zix_sm hK.2.1)]
          unfold wp_X9_lacksOf_L74
          rw [nI_1]
          have hr := ih (k + 1) (by omega) (by omega)
          rw [zlk] at hr
          unfold zhas at hr
          refine ifc (fun z2 => ?_) (fun z2 => ?_)
          · rw [z2] at hr; exact hr
          · cases e : zix k 0 ks with
            | none => exact absurd e z2
            | some r => rw [e] at hr; exact hr
    exact ⟨6, key 6 0 (by omega) (by omega)⟩
  unfold wp_X9_lacksOf wp_X9_lacksOf_L20
  simp (disch := first | decide | omega) only [tgI, tgR, tzd, taI hT, tsI hT, tp hT, tF_s, tF_n, tA_F, tF_A, tA_s, tA_n, tA_R, tsz, m8, m5, m6, m10, m30, m120, nI_1, nI_add, clT, vinT, true_and, updS, updN, if_true, hp]
  cases pl
  · exact ⟨fun _ => ⟨fun _ => loop _ rfl, fun z => absurd trivial z⟩, fun z => absurd z (by decide)⟩
  · exact ⟨fun z => absurd (if_pos rfl) z, fun _ => ⟨fun z => absurd z (by decide), fun _ => ⟨tis _ (by decide), t_usedBy hT hn hn2 hl (loop _ rfl)⟩⟩⟩
end TK
