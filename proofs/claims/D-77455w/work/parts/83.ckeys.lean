/-! keys as the component sees them: one by one -/
theorem zix_s (q : Nat) : ∀ (l : List Nat) (i j : Nat), (zix q i l).isSome = (zix q j l).isSome
  | [], _, _ => rfl
  | x :: l, i, j => by
    unfold zix
    split
    · rfl
    · exact zix_s q l (i + 1) (j + 1)
theorem zhas_c {x k : Nat} {l : List Nat} : zhas (x :: l) k = (decide (x = k) || zhas l k) := by
  unfold zhas
  rw [zix]
  split
  · rename_i h; rw [decide_eq_true h]; rfl
  · rename_i h; rw [decide_eq_false h, zix_s k l (0 + 1) 0]; rfl
/-- what lacks, key by key; o: the other's key -/
def zfC (o : Nat) : List Nat → Int32 → Int32
  | [], s => s
  | x :: l, s => zfC o l (s &&& (if o ≤ x then s else (((1 : Int32) <<< (nI x &&& 31)) ^^^ (-1 : Int32))))
def zp5 (a b c d e : Bool) : Nat → Bool
  | 0 => a
  | 1 => b
  | 2 => c
  | 3 => d
  | _ => e
theorem zlk_g {P Q : Nat → Bool} {x : Int32} : ∀ n : Nat, (∀ k, k < n → P k = Q k) → zlk P x n = zlk Q x n
  | 0, _ => rfl
  | n + 1, h => by rw [zlk, zlk, zlk_g n (fun k hk => h k (by omega)), h n (by omega)]
theorem zlk_m {P : Nat → Bool} {x : Int32} : ∀ n : Nat, zlk P x n = x &&& zlk P (-1) n
  | 0 => by rw [zlk, zlk]; exact (Int32.and_neg_one).symm
  | n + 1 => by rw [zlk, zlk, zlk_m n, Int32.and_assoc]
theorem zlk_5 {P : Nat → Bool} {x : Int32} : zlk P x 5 = zlk (zp5 (P 0) (P 1) (P 2) (P 3) (P 4)) x 5 := zlk_g 5 fun k hk => by
  match k, hk with
  | 0, _ => rfl
  | 1, _ => rfl
  | 2, _ => rfl
  | 3, _ => rfl
  | 4, _ => rfl
theorem zfC_key : ∀ (pl : Bool) (x : Fin 5) (a b c d e : Bool), ((if pl then (31 : Int32) else 7) &&& ((if (if pl then 5 else 3) ≤ x.val then (-1 : Int32) else (((1 : Int32) <<< (nI x.val &&& 31)) ^^^ (-1 : Int32))) &&& zlk (zp5 a b c d e) (-1) 5)) =
    (if pl then (31 : Int32) else 7) &&& zlk (zp5 (decide (x.val = 0) || a) (decide (x.val = 1) || b) (decide (x.val = 2) || c) (decide (x.val = 3) || d) (decide (x.val = 4) || e)) (-1) 5 := by decide +kernel
theorem zfC_eq (pl : Bool) : ∀ (l : List Nat) (s : Int32), s &&& (if pl then (31 : Int32) else 7) = s → zfC (if pl then 5 else 3) l s = zlk (zhas l) s 5
  | [], s, _ => by
    have e : zlk (zhas []) s 5 = zlk (fun _ => false) s 5 := zlk_g 5 (fun k _ => rfl)
    rw [zfC, e]
    simp only [zlk, Bool.false_eq_true, if_false, Int32.and_neg_one]
  | x :: l, s, h => by
    have e1 : s &&& (if (if pl then 5 else 3) ≤ x then s else (((1 : Int32) <<< (nI x &&& 31)) ^^^ (-1 : Int32))) = s &&& (if (if pl then 5 else 3) ≤ x then (-1 : Int32) else (((1 : Int32) <<< (nI x &&& 31)) ^^^ (-1 : Int32))) := by
      by_cases e0 : (if pl then 5 else 3) ≤ x
      · rw [if_pos e0, if_pos e0, Int32.and_self, Int32.and_neg_one]
      · rw [if_neg e0, if_neg e0]
    rw [zfC, e1]
    rw [zfC_eq pl l _ (by
      rw [Int32.and_comm s, Int32.and_assoc, h])]
    rw [zlk_m, zlk_m (x := s)]
    rcases Nat.lt_or_ge x 5 with hx | hx
    · rw [zlk_5 (P := zhas l), zlk_5 (P := zhas (x :: l)), zhas_c, zhas_c, zhas_c, zhas_c, zhas_c, ← h, Int32.and_assoc, Int32.and_assoc, Int32.and_assoc]
      congr 1
      exact zfC_key pl ⟨x, hx⟩ _ _ _ _ _
    · rw [if_pos (by split <;> omega), Int32.and_neg_one]
      congr 1
      refine zlk_g 5 fun k hk => ?_
      rw [zhas_c, decide_eq_false (by omega), Bool.false_or]
/-- what never comes, key by key -/
def zdF (used : Int32) : Nat → List Nat → Int32
  | _, [] => 0
  | i, x :: l => (if x < 5 ∧ ((used >>> (nI x &&& 31)) &&& 1) = 0 then ((1 : Int32) <<< (nI i &&& 31)) else 0) ||| zdF used (i + 1) l
def zsum (t : Nat → Int32) : Nat → Int32
  | 0 => 0
  | k + 1 => zsum t k ||| t k
theorem zsum_a {s t : Nat → Int32} : ∀ n : Nat, zsum (fun k => s k ||| t k) n = zsum s n ||| zsum t n
  | 0 => by rw [zsum, zsum, zsum]; rfl
  | n + 1 => by rw [zsum, zsum, zsum, zsum_a n, Int32.or_assoc, Int32.or_assoc, ← Int32.or_assoc (zsum t n), Int32.or_comm (zsum t n), Int32.or_assoc]
theorem zsum_g {s t : Nat → Int32} : ∀ n : Nat, (∀ k, k < n → s k = t k) → zsum s n = zsum t n
  | 0, _ => rfl
  | n + 1, h => by rw [zsum, zsum, zsum_g n (fun k hk => h k (by omega)), h n (by omega)]
theorem zsum_1 {x : Nat} {v : Int32} : ∀ n : Nat, zsum (fun k => if k = x then v else 0) n = if x < n then v else 0
  | 0 => rfl
  | n + 1 => by
    rw [zsum, zsum_1 n]
    by_cases h : x < n
    · rw [if_pos h, if_neg (by omega), if_pos (by omega), Int32.or_zero]
    · rw [if_neg h]
      by_cases e : n = x
      · rw [if_pos e, if_pos (by omega), Int32.zero_or]
      · rw [if_neg e, if_neg (by omega), Int32.or_zero]
def zd5 (used : Int32) (i : Nat) (l : List Nat) (k : Nat) : Int32 := if (zix k i l).isSome && decide (((used >>> (nI k &&& 31)) &&& 1) = 0) then ((1 : Int32) <<< (zoi (-1) (zix k i l) &&& 31)) else 0
theorem zdd_sum {l : List Nat} {used : Int32} : ∀ n : Nat, zdd l used n = zsum (zd5 used 0 l) n
  | 0 => rfl
  | n + 1 => by rw [zdd, zsum, zdd_sum n]; rfl
theorem zix_no {q : Nat} : ∀ {l : List Nat} {i : Nat}, q ∉ l → zix q i l = none
  | [], _, _ => rfl
  | x :: l, i, h => by
    rw [zix, if_neg (fun z => h (by rw [z]; exact List.mem_cons_self ..))]
    exact zix_no fun z => h (List.mem_cons_of_mem _ z)
theorem zdF_sum {used : Int32} : ∀ {l : List Nat} {i : Nat}, l.Nodup → zdF used i l = zsum (zd5 used i l) 5
  | [], i, _ => by
    have e : zsum (zd5 used i []) 5 = zsum (fun _ => 0) 5 := zsum_g 5 (fun k _ => rfl)
    rw [zdF, e]; rfl
  | x :: l, i, h => by
    have hn := List.nodup_cons.mp h
    rw [zdF, zdF_sum hn.2]
    have e1 : zsum (zd5 used i (x :: l)) 5 = zsum (fun k => (fun k => if k = x then (if ((used >>> (nI x &&& 31)) &&& 1) = 0 then ((1 : Int32) <<< (nI i &&& 31)) else 0) else 0) k ||| zd5 used (i + 1) l k) 5 := by
      refine zsum_g 5 fun k _ => ?_
      by_cases e : k = x
      · subst e
        unfold zd5
        rw [zix, if_pos rfl, zix_no hn.1]
        simp only [Option.isSome, Bool.true_and, Bool.false_and, if_true, Bool.false_eq_true, if_false, Int32.or_zero, decide_eq_true_eq]
        rfl
      · have ez : zix k i (x :: l) = zix k (i + 1) l := by rw [zix, if_neg (fun z => e z.symm)]
        unfold zd5
        rw [ez]
        simp only [if_neg e, Int32.zero_or]
    rw [e1, zsum_a, zsum_1]
    congr 1
    by_cases h5 : x < 5
    · simp only [h5, true_and, if_true]
    · simp only [h5, false_and, if_false]
theorem zix_at {q : Nat} : ∀ {l : List Nat} {i j : Nat}, l[j]? = some q → (∀ r, r < j → l[r]? ≠ some q) → zix q i l = some (i + j)
  | [], _, _, h, _ => by cases h
  | x :: l, i, 0, h, _ => by cases h; rw [zix, if_pos rfl]; rfl
  | x :: l, i, j + 1, h, h2 => by
    rw [zix, if_neg (fun z => h2 0 (by omega) (by rw [z]; rfl)), zix_at (i := i + 1) (j := j) (by simpa using h) (fun r hr => by have := h2 (r + 1) (by omega); simpa using this)]
    congr 1; omega
theorem zix_mem {q : Nat} {l : List Nat} {i : Nat} (h : q ∈ l) : ∃ r, zix q i l = some r := by
  cases e : zix q i l with
  | some r => exact ⟨r, rfl⟩
  | none =>
    exfalso
    induction l generalizing i with
    | nil => cases h
    | cons x l ih =>
      rw [zix] at e
      split at e
      · cases e
      · rename_i hx
        rcases List.mem_cons.mp h with h | h
        · exact hx h.symm
        · exact ih h e
theorem bit_n {y : Int32} : (¬ (y &&& 1) = 1) ↔ (y &&& 1) = 0 := by
  have h : (y &&& 1) = 1 ∨ (y &&& 1) = 0 := by
    rw [← Int32.toBitVec_inj, ← Int32.toBitVec_inj, Int32.toBitVec_and]
    have e : y.toBitVec &&& (1 : Int32).toBitVec = BitVec.setWidth 32 (BitVec.ofBool (y.toBitVec.getLsbD 0)) := BitVec.and_one_eq_setWidth_ofBool_getLsbD
    rw [e]
    cases y.toBitVec.getLsbD 0
    · right; decide
    · left; decide
  constructor
  · intro h1
    exact h.resolve_left h1
  · intro h1 h2
    rw [h1] at h2
    exact absurd h2 (by decide)
