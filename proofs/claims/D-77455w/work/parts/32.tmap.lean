/-! the twin's cells as one map over a tuple: fields by number, arrays by field number -/
abbrev zTS : Type := (Nat → Int32) × (Nat → Nat → Int32) × (Nat → UInt32) × (Nat → UInt64) × (Nat → Int64)
/-- a field's kind: 0 an int, 1 an array of ints, 2 of floats, 3 of doubles, 4 of longs -/
def tkd : Nat → Nat := fun k => match k with
  | 0 => 0 | 8 => 0 | 23 => 0 | 24 => 0 | 25 => 0 | 26 => 0 | 27 => 0 | 28 => 0 | 37 => 0 | 38 => 0 | 39 => 0 | 40 => 0 | 46 => 0 | 48 => 0 | 49 => 0 | 50 => 0
  | 53 => 2 | 54 => 3 | 55 => 4 | _ => 1
def tsz : Nat → Nat := fun k => match k with
  | 1 => 12 | 2 => 12 | 3 => 12 | 4 => 12 | 5 => 12 | 6 => 12 | 7 => 120 | 9 => 4 | 10 => 480 | 11 => 4 | 12 => 4 | 13 => 4 | 14 => 4 | 15 => 20
  | 16 => 32 | 17 => 32 | 18 => 32 | 19 => 32 | 20 => 320 | 21 => 320 | 22 => 32 | 29 => 5 | 30 => 8 | 31 => 8 | 32 => 8 | 33 => 8 | 34 => 80 | 35 => 80 | 36 => 8
  | 41 => 5 | 42 => 5 | 43 => 5 | 44 => 30 | 45 => 240 | 47 => 600 | 51 => 3 | 52 => 3 | _ => 90
def tcell (S : zTS) (k : Nat) : zV := match tkd k with
  | 2 => .inl (3, 90, .inr (.inr (.inl S.2.2.1)))
  | 3 => .inl (4, 90, .inr (.inr (.inr (.inl S.2.2.2.1))))
  | 4 => .inl (2, 90, .inr (.inl S.2.2.2.2))
  | _ => .inl (0, tsz k, .inl (S.2.1 k))
def tfs (A : Nat → Nat) (S : zTS) : List Value := (List.range 56).map fun k => if tkd k = 0 then .int (S.1 k) else .ref (A k)
def tarr (k : Nat) : Prop := k < 56 ∧ tkd k ≠ 0
def tix (A : Nat → Nat) (a : Nat) : Option Nat := (List.range 56).find? fun k => decide (tkd k ≠ 0) && decide (a = A k)
def tm (o : Nat) (A : Nat → Nat) (S : zTS) (I : zM) : zM := fun a => if a = o then some (.inr (8, tfs A S)) else match tix A a with | some k => some (tcell S k) | none => I a
theorem tix_s {A : Nat → Nat} {a j : Nat} (h : tix A a = some j) : tarr j ∧ a = A j := by
  have h1 := List.find?_some h
  have h2 := List.mem_range.mp (List.mem_of_find?_eq_some h)
  simp only [Bool.and_eq_true, decide_eq_true_eq] at h1
  exact ⟨⟨h2, h1.1⟩, h1.2⟩
theorem tix_n {A : Nat → Nat} {a : Nat} (h : tix A a = none) : ∀ k, tarr k → a ≠ A k := fun k hk e => by
  have h1 := List.find?_eq_none.mp h k (List.mem_range.mpr hk.1)
  simp [hk.2, e] at h1
def tok (D : zD) (o : Nat) (A : Nat → Nat) : Prop := (∀ k, tarr k → A k ≠ o) ∧ (∀ j k, tarr j → tarr k → A j = A k → j = k) ∧ zB D ≤ o ∧ ∀ k, tarr k → zB D ≤ A k
def tF (S : zTS) (k : Nat) (v : Int32) : zTS := (fun j => if j = k then v else S.1 j, S.2)
def tA (S : zTS) (k i : Nat) (x : Int32) : zTS := (S.1, (fun j => if j = k then upd (S.2.1 k) i x else S.2.1 j), S.2.2)
def tUf (S : zTS) (i : Nat) (x : UInt32) : zTS := (S.1, S.2.1, vf_upd S.2.2.1 i x, S.2.2.2)
def tUd (S : zTS) (i : Nat) (x : UInt64) : zTS := (S.1, S.2.1, S.2.2.1, vf_upd S.2.2.2.1 i x, S.2.2.2.2)
def tUl (S : zTS) (i : Nat) (x : Int64) : zTS := (S.1, S.2.1, S.2.2.1, S.2.2.2.1, vp_updL S.2.2.2.2 i x)
theorem tfs_at {A : Nat → Nat} {S : zTS} {k : Nat} (hk : k < 56) : (tfs A S)[k]? = some (if tkd k = 0 then .int (S.1 k) else .ref (A k)) := by
  simp [tfs, hk]
theorem tfs_set {A : Nat → Nat} {S : zTS} {k : Nat} {v : Int32} (h : tkd k = 0) : (tfs A S).set k (.int v) = tfs A (tF S k v) := by
  apply List.ext_getElem?
  intro j
  by_cases hj : j < 56
  · rw [tfs_at hj, List.getElem?_set]
    by_cases e : k = j
    · subst e; simp [tfs, hj, tF, h]
    · simp only [if_neg e, tfs_at hj]
      have : ¬ j = k := fun z => e z.symm
      simp [tF, this]
  · rw [List.getElem?_eq_none (by simp [tfs]; omega), List.getElem?_eq_none (by simp [tfs]; omega)]
theorem tm_o {o : Nat} {A : Nat → Nat} {S : zTS} {I : zM} : tm o A S I o = some (.inr (8, tfs A S)) := by simp [tm]
theorem tm_a {D : zD} {o : Nat} {A : Nat → Nat} (h : tok D o A) {S : zTS} {I : zM} {k : Nat} (hk : tarr k) : tm o A S I (A k) = some (tcell S k) := by
  have h1 : ¬ A k = o := h.1 k hk
  unfold tm
  rw [if_neg h1]
  cases h2 : tix A (A k) with
  | none => exact absurd rfl (tix_n h2 k hk)
  | some j =>
    have h3 := tix_s h2
    rw [h.2.1 k _ hk h3.1 h3.2]
theorem tm_i {o : Nat} {A : Nat → Nat} {S : zTS} {I : zM} {a : Nat} (h1 : a ≠ o) (h2 : ∀ k, tarr k → a ≠ A k) : tm o A S I a = I a := by
  unfold tm
  rw [if_neg h1]
  cases h3 : tix A a with
  | none => rfl
  | some j => exact absurd (tix_s h3).2 (h2 j (tix_s h3).1)
theorem tm_zuo {o : Nat} {A : Nat → Nat} {S S' : zTS} {I : zM} (h : S'.2 = S.2) : zu (tm o A S I) o (some (.inr (8, tfs A S'))) = tm o A S' I := by
  funext a
  by_cases e : a = o
  · subst e; rw [zu_s, tm_o]
  · rw [zu_n e]
    unfold tm
    simp only [if_neg e]
    have : ∀ k, tcell S k = tcell S' k := fun k => by unfold tcell; rw [h]
    cases tix A a with
    | none => rfl
    | some j => show some (tcell S j) = some (tcell S' j); rw [this]
theorem tm_zua {D : zD} {o : Nat} {A : Nat → Nat} (h : tok D o A) {S S' : zTS} {I : zM} {k : Nat} (hk : tarr k) (h1 : S'.1 = S.1) (h2 : ∀ j, j ≠ k → tcell S' j = tcell S j) : zu (tm o A S I) (A k) (some (tcell S' k)) = tm o A S' I := by
  have hf : tfs A S = tfs A S' := by unfold tfs; rw [h1]
  funext a
  by_cases e : a = A k
  · subst e; rw [zu_s, tm_a h hk]
  · rw [zu_n e]
    by_cases e2 : a = o
    · subst e2; rw [tm_o, tm_o, hf]
    · by_cases e3 : ∃ j, tarr j ∧ a = A j
      · obtain ⟨j, hj, rfl⟩ := e3
        have : j ≠ k := fun z => e (by rw [z])
        rw [tm_a h hj, tm_a h hj, h2 j this]
      · rw [tm_i e2 (fun j hj z => e3 ⟨j, hj, z⟩), tm_i e2 (fun j hj z => e3 ⟨j, hj, z⟩)]
theorem zv_ref {x : Option Nat} {b : Nat} (h : some (Value.ref b) = some (va_rf x)) : x = some b := by
  cases x with
  | none => simp [va_rf] at h
  | some c => simp [va_rf] at h; rw [h]
section TM
variable {D : zD} {o : Nat} {A : Nat → Nat} {S : zTS} {I : zM}
theorem tgI {k : Nat} {Φ : Int32 → Prop} (hk : k < 56) (h : tkd k = 0) : zgI (tm o A S I) o 8 k Φ ↔ Φ (S.1 k) := by
  unfold zgI
  rw [tm_o]
  constructor
  · rintro ⟨fs, x, h1, h2, h3⟩
    simp only [Option.some.injEq, Sum.inr.injEq, Prod.mk.injEq, true_and] at h1
    subst h1
    rw [tfs_at hk, if_pos h] at h2
    simp only [Option.some.injEq, Value.int.injEq] at h2
    rw [h2]; exact h3
  · intro h3
    exact ⟨_, _, rfl, by rw [tfs_at hk, if_pos h], h3⟩
theorem tgR {k : Nat} {Φ : Option Nat → Prop} (hk : k < 56) (h : tkd k ≠ 0) : zgR (tm o A S I) o 8 k Φ ↔ Φ (some (A k)) := by
  unfold zgR
  rw [tm_o]
  constructor
  · rintro ⟨fs, x, h1, h2, h3⟩
    simp only [Option.some.injEq, Sum.inr.injEq, Prod.mk.injEq, true_and] at h1
    subst h1
    rw [tfs_at hk, if_neg h] at h2
    rw [← zv_ref h2]; exact h3
  · intro h3
    exact ⟨_, some (A k), rfl, by rw [tfs_at hk, if_neg h]; rfl, h3⟩
theorem tzd {b : Nat} {Φ : Nat → Prop} : zd (some b) Φ ↔ Φ b := by
  unfold zd; constructor
  · rintro ⟨c, h, h2⟩; cases h; exact h2
  · exact fun h => ⟨b, rfl, h⟩
theorem tp {k : Nat} {v : Int32} {Φ : zM → Prop} (hT : tok D o A) (hk : k < 56) (h : tkd k = 0) : zp D (tm o A S I) o 8 k (.int v) Φ ↔ Φ (tm o A (tF S k v) I) := by
  unfold zp
  rw [tm_o]
  have hl : (tfs A S).length = 56 := by simp [tfs]
  constructor
  · rintro ⟨fs, h1, -, -, h3⟩
    simp only [Option.some.injEq, Sum.inr.injEq, Prod.mk.injEq, true_and] at h1
    subst h1
    rw [tfs_set h, tm_zuo (S' := tF S k v) (S := S) rfl] at h3
    exact h3
  · intro h3
    refine ⟨_, rfl, hT.2.2.1, by omega, ?_⟩
    rw [tfs_set h, tm_zuo (S' := tF S k v) (S := S) rfl]
    exact h3
theorem taI {k : Nat} {i : Int32} {Φ : Int32 → Prop} (hT : tok D o A) (hk : k < 56) (h : tkd k = 1) : zaI (tm o A S I) (A k) 0 i Φ ↔ vp_in i (tsz k) ∧ Φ (S.2.1 k i.toNatClampNeg) := by
  unfold zaI
  rw [tm_a hT ⟨hk, by omega⟩]
  have hc : tcell S k = .inl (0, tsz k, .inl (S.2.1 k)) := by unfold tcell; rw [h]; rfl
  rw [hc]
  constructor
  · rintro ⟨n, f, h1, h2, h3⟩
    simp only [Option.some.injEq, Sum.inl.injEq, Prod.mk.injEq, true_and] at h1
    obtain ⟨rfl, rfl⟩ := h1
    exact ⟨h2, h3⟩
  · rintro ⟨h2, h3⟩; exact ⟨_, _, rfl, h2, h3⟩
theorem taL {i : Int32} {Φ : Int64 → Prop} (hT : tok D o A) : zaL (tm o A S I) (A 55) i Φ ↔ vp_in i 90 ∧ Φ (S.2.2.2.2 i.toNatClampNeg) := by
  unfold zaL
  rw [tm_a hT ⟨by decide, by decide⟩]
  constructor
  · rintro ⟨n, f, h1, h2, h3⟩
    simp only [tcell, tkd, Option.some.injEq, Sum.inl.injEq, Prod.mk.injEq, true_and, Sum.inr.injEq] at h1
    obtain ⟨rfl, rfl⟩ := h1
    exact ⟨h2, h3⟩
  · rintro ⟨h2, h3⟩; exact ⟨_, _, rfl, h2, h3⟩
theorem taF {i : Int32} {Φ : UInt32 → Prop} (hT : tok D o A) : zaF (tm o A S I) (A 53) i Φ ↔ vp_in i 90 ∧ Φ (S.2.2.1 i.toNatClampNeg) := by
  unfold zaF
  rw [tm_a hT ⟨by decide, by decide⟩]
  constructor
  · rintro ⟨n, f, h1, h2, h3⟩
    simp only [tcell, tkd, Option.some.injEq, Sum.inl.injEq, Prod.mk.injEq, true_and, Sum.inr.injEq] at h1
    obtain ⟨rfl, rfl⟩ := h1
    exact ⟨h2, h3⟩
  · rintro ⟨h2, h3⟩; exact ⟨_, _, rfl, h2, h3⟩
theorem taD {i : Int32} {Φ : UInt64 → Prop} (hT : tok D o A) : zaD (tm o A S I) (A 54) i Φ ↔ vp_in i 90 ∧ Φ (S.2.2.2.1 i.toNatClampNeg) := by
  unfold zaD
  rw [tm_a hT ⟨by decide, by decide⟩]
  constructor
  · rintro ⟨n, f, h1, h2, h3⟩
    simp only [tcell, tkd, Option.some.injEq, Sum.inl.injEq, Prod.mk.injEq, true_and, Sum.inr.injEq] at h1
    obtain ⟨rfl, rfl⟩ := h1
    exact ⟨h2, h3⟩
  · rintro ⟨h2, h3⟩; exact ⟨_, _, rfl, h2, h3⟩
theorem tsI {k : Nat} {i x : Int32} {Φ : zM → Prop} (hT : tok D o A) (hk : k < 56) (h : tkd k = 1) : zsI D (tm o A S I) (A k) i x Φ ↔ vp_in i (tsz k) ∧ Φ (tm o A (tA S k i.toNatClampNeg x) I) := by
  have hka : tarr k := ⟨hk, by omega⟩
  unfold zsI
  rw [tm_a hT hka]
  have hc : ∀ S : zTS, tcell S k = .inl (0, tsz k, .inl (S.2.1 k)) := fun S => by unfold tcell; rw [h]; rfl
  have e : zu (tm o A S I) (A k) (some (.inl (0, tsz k, .inl (upd (S.2.1 k) i.toNatClampNeg x)))) = tm o A (tA S k i.toNatClampNeg x) I := by
    have e1 : (.inl (0, tsz k, .inl (upd (S.2.1 k) i.toNatClampNeg x)) : zV) = tcell (tA S k i.toNatClampNeg x) k := by rw [hc]; simp [tA]
    rw [e1]
    refine tm_zua hT hka rfl fun j hj => ?_
    unfold tcell
    have : (tA S k i.toNatClampNeg x).2.1 j = S.2.1 j := by simp [tA, hj]
    rw [this]
    rfl
  rw [hc]
  constructor
  · rintro ⟨n, f, h1, -, h2, h3⟩
    simp only [Option.some.injEq, Sum.inl.injEq, Prod.mk.injEq, true_and] at h1
    obtain ⟨rfl, rfl⟩ := h1
    rw [e] at h3
    exact ⟨h2, h3⟩
  · rintro ⟨h2, h3⟩; exact ⟨_, _, rfl, hT.2.2.2 k hka, h2, by rw [e]; exact h3⟩
theorem tsF {i : Int32} {x : UInt32} {Φ : zM → Prop} (hT : tok D o A) : zsF D (tm o A S I) (A 53) i x Φ ↔ vp_in i 90 ∧ Φ (tm o A (tUf S i.toNatClampNeg x) I) := by
  have hka : tarr 53 := ⟨by decide, by decide⟩
  unfold zsF
  rw [tm_a hT hka]
  have e : zu (tm o A S I) (A 53) (some (.inl (3, 90, .inr (.inr (.inl (vf_upd S.2.2.1 i.toNatClampNeg x)))))) = tm o A (tUf S i.toNatClampNeg x) I :=
    tm_zua (S' := tUf S i.toNatClampNeg x) hT hka rfl fun j hj => by
      have h9 : tkd j ≠ 2 := fun z => hj (by unfold tkd at z; split at z <;> first | rfl | cases z)
      unfold tcell; split <;> first | rfl | exact absurd ‹_› h9
  constructor
  · rintro ⟨n, f, h1, -, h2, h3⟩
    simp only [tcell, tkd, Option.some.injEq, Sum.inl.injEq, Prod.mk.injEq, true_and, Sum.inr.injEq] at h1
    obtain ⟨rfl, rfl⟩ := h1
    rw [e] at h3
    exact ⟨h2, h3⟩
  · rintro ⟨h2, h3⟩; exact ⟨_, _, rfl, hT.2.2.2 53 hka, h2, by rw [e]; exact h3⟩
theorem tsD {i : Int32} {x : UInt64} {Φ : zM → Prop} (hT : tok D o A) : zsD D (tm o A S I) (A 54) i x Φ ↔ vp_in i 90 ∧ Φ (tm o A (tUd S i.toNatClampNeg x) I) := by
  have hka : tarr 54 := ⟨by decide, by decide⟩
  unfold zsD
  rw [tm_a hT hka]
  have e : zu (tm o A S I) (A 54) (some (.inl (4, 90, .inr (.inr (.inr (.inl (vf_upd S.2.2.2.1 i.toNatClampNeg x))))))) = tm o A (tUd S i.toNatClampNeg x) I :=
    tm_zua (S' := tUd S i.toNatClampNeg x) hT hka rfl fun j hj => by
      have h9 : tkd j ≠ 3 := fun z => hj (by unfold tkd at z; split at z <;> first | rfl | cases z)
      unfold tcell; split <;> first | rfl | exact absurd ‹_› h9
  constructor
  · rintro ⟨n, f, h1, -, h2, h3⟩
    simp only [tcell, tkd, Option.some.injEq, Sum.inl.injEq, Prod.mk.injEq, true_and, Sum.inr.injEq] at h1
    obtain ⟨rfl, rfl⟩ := h1
    rw [e] at h3
    exact ⟨h2, h3⟩
  · rintro ⟨h2, h3⟩; exact ⟨_, _, rfl, hT.2.2.2 54 hka, h2, by rw [e]; exact h3⟩
theorem tsL {i : Int32} {x : Int64} {Φ : zM → Prop} (hT : tok D o A) : zsL D (tm o A S I) (A 55) i x Φ ↔ vp_in i 90 ∧ Φ (tm o A (tUl S i.toNatClampNeg x) I) := by
  have hka : tarr 55 := ⟨by decide, by decide⟩
  unfold zsL
  rw [tm_a hT hka]
  have e : zu (tm o A S I) (A 55) (some (.inl (2, 90, .inr (.inl (vp_updL S.2.2.2.2 i.toNatClampNeg x))))) = tm o A (tUl S i.toNatClampNeg x) I :=
    tm_zua (S' := tUl S i.toNatClampNeg x) hT hka rfl fun j hj => by
      have h9 : tkd j ≠ 4 := fun z => hj (by unfold tkd at z; split at z <;> first | rfl | cases z)
      unfold tcell; split <;> first | rfl | exact absurd ‹_› h9
  constructor
  · rintro ⟨n, f, h1, -, h2, h3⟩
    simp only [tcell, tkd, Option.some.injEq, Sum.inl.injEq, Prod.mk.injEq, true_and, Sum.inr.injEq] at h1
    obtain ⟨rfl, rfl⟩ := h1
    rw [e] at h3
    exact ⟨h2, h3⟩
  · rintro ⟨h2, h3⟩; exact ⟨_, _, rfl, hT.2.2.2 55 hka, h2, by rw [e]; exact h3⟩
end TM
theorem tF_F {S : zTS} {k j : Nat} {v : Int32} : (tF S k v).1 j = if j = k then v else S.1 j := rfl
theorem tF_A {S : zTS} {k : Nat} {v : Int32} : (tF S k v).2 = S.2 := rfl
theorem tA_F {S : zTS} {k i : Nat} {v : Int32} : (tA S k i v).1 = S.1 := rfl
theorem tA_A {S : zTS} {k i j : Nat} {v : Int32} : (tA S k i v).2.1 j = if j = k then upd (S.2.1 k) i v else S.2.1 j := rfl
theorem tA_R {S : zTS} {k i : Nat} {v : Int32} : (tA S k i v).2.2 = S.2.2 := rfl
