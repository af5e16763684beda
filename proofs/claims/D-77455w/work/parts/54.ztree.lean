/-! trees that a reader can have read; their letters are balanced; where their choices lie -/
def zwfF (pl : Bool) (q : zLf) : Prop := match q with
  | (0, c, _) => zsg c = true
  | (1, _) => pl = true
  | (2, _, a, _) => a < 5
  | (3, _, a, _) => a < 5
  | (t, _, a, _, w, l, m) => t = 4 ∧ a < 5 ∧ 1 ≤ w ∧ w ≤ 4 ∧ l ≤ 3 ∧ m ≤ 3
def zkok (k : Bool) (kt : List Int32) : Prop := kt ≠ [] ∧ zkv k kt ≤ 1009 ∧ ∀ c ∈ kt, c ≠ 123 ∧ c ≠ 125
def zwfN : (d : Nat) → Bool → zN d → Prop
  | 0, pl, q => zwfF pl q
  | d + 1, pl, q => Sum.elim (fun q => zwfF pl q) (fun q => q.2.1 < 5 ∧ q.2.2.length ≤ 10 ∧ (∀ b ∈ q.2.2, zkok q.1 b.1 ∧ ∀ x ∈ b.2, zwfN d (pl || q.1) x) ∧
      (q.2.2.map fun b => zkv q.1 b.1).Pairwise (· ≠ ·) ∧ (if q.1 then 5 else 3) ∈ q.2.2.map fun b => zkv q.1 b.1) q
def zwfT (d : Nat) (pl : Bool) (t : List (zN d)) : Prop := ∀ q ∈ t, zwfN d pl q
/-- how deep in braces -/
def zbl : Nat → List Int32 → Option Nat
  | c, [] => some c
  | c, x :: l => if x = 123 then zbl (c + 1) l else if x = 125 then (if c = 0 then none else zbl (c - 1) l) else zbl c l
theorem zbl_app : ∀ (a b : List Int32) (c : Nat), zbl c (a ++ b) = (zbl c a).bind fun k => zbl k b
  | [], b, c => rfl
  | x :: a, b, c => by
    rw [List.cons_append, zbl, zbl]
    split
    · exact zbl_app a b _
    · split
      · split
        · rfl
        · exact zbl_app a b _
      · exact zbl_app a b _
theorem zbl_mono : ∀ (a : List Int32) (c k e : Nat), zbl c a = some k → zbl (c + e) a = some (k + e)
  | [], c, k, e, h => by cases h; rfl
  | x :: a, c, k, e, h => by
    rw [zbl] at h ⊢
    split at h
    · rename_i z; rw [if_pos z, show c + e + 1 = (c + 1) + e by omega]; exact zbl_mono a _ _ _ h
    · rename_i z; rw [if_neg z]
      split at h
      · rename_i z2; rw [if_pos z2]
        split at h
        · cases h
        · rename_i z3; rw [if_neg (by omega), show c + e - 1 = (c - 1) + e by omega]; exact zbl_mono a _ _ _ h
      · rename_i z2; rw [if_neg z2]; exact zbl_mono a _ _ _ h
/-- balanced -/
def zba (l : List Int32) : Prop := zbl 0 l = some 0
theorem zba_app {a b : List Int32} (h1 : zba a) (h2 : zba b) : zba (a ++ b) := by
  unfold zba at *; rw [zbl_app, h1]; exact h2
theorem zba_nil : zba [] := rfl
theorem zba_one {c : Int32} (h1 : c ≠ 123) (h2 : c ≠ 125) : zba [c] := by unfold zba; rw [zbl, if_neg h1, if_neg h2]; rfl
theorem zba_cons {c : Int32} {l : List Int32} (h1 : c ≠ 123) (h2 : c ≠ 125) (h : zba l) : zba (c :: l) := zba_app (zba_one h1 h2) h
theorem zba_flat {α : Type} {f : α → List Int32} : ∀ {l : List α}, (∀ x ∈ l, zba (f x)) → zba (l.flatMap f)
  | [], _ => zba_nil
  | x :: l, h => by rw [List.flatMap_cons]; exact zba_app (h x List.mem_cons_self) (zba_flat fun y hy => h y (List.mem_cons_of_mem _ hy))
theorem zba_all : ∀ {l : List Int32}, (∀ c ∈ l, c ≠ 123 ∧ c ≠ 125) → zba l
  | [], _ => zba_nil
  | x :: l, h => zba_cons (h x List.mem_cons_self).1 (h x List.mem_cons_self).2 (zba_all fun y hy => h y (List.mem_cons_of_mem _ hy))
theorem zba_br {l : List Int32} (h : zba l) : zba (123 :: (l ++ [125])) := by
  unfold zba at *
  have h1 : zbl 1 l = some 1 := zbl_mono l 0 0 1 h
  rw [zbl, if_pos rfl, zbl_app, h1]
  rfl
theorem zsg_ok {c : Int32} (h : zsg c = true) : c ≠ 123 ∧ c ≠ 125 ∧ c ≠ 41 ∧ c ≠ 35 := by
  refine ⟨fun z => ?_, fun z => ?_, fun z => ?_, fun z => ?_⟩ <;> (subst z; exact absurd h (by decide))
/-- what is within a brace -/
def zin1 (l : List Int32) : Prop := ∃ m, l = 123 :: (m ++ [125]) ∧ zba m
theorem nI_65 {a : Nat} (h : a < 5) : nI (65 + a) ≠ 123 ∧ nI (65 + a) ≠ 125 := by
  constructor
  · intro z; rw [show (123 : Int32) = nI 123 from rfl, nI_eq (by omega) (by decide)] at z; omega
  · intro z; rw [show (125 : Int32) = nI 125 from rfl, nI_eq (by omega) (by decide)] at z; omega
theorem zba_rp {n : Nat} {c : Int32} (h1 : c ≠ 123) (h2 : c ≠ 125) : zba (zrp n c) := zba_all fun x hx => by
  rw [List.eq_of_mem_replicate hx]; exact ⟨h1, h2⟩
theorem zba_pl {g : Bool} {w l m : Nat} : zba (zpl g w l m) := by
  unfold zpl
  refine zba_app (zba_app ?_ (zba_rp (by decide) (by decide))) ?_
  · split
    · exact zba_one (by decide) (by decide)
    · exact zba_nil
  · split
    · exact zba_nil
    · exact zba_cons (by decide) (by decide) (zba_app (zba_rp (by decide) (by decide)) (zba_rp (by decide) (by decide)))
/-- a part's letters: one letter that is no brace, or a brace with what is balanced -/
theorem zlL_b {pl : Bool} : ∀ {q : zLf}, zwfF pl q → (∃ c, zlL q = [c] ∧ c ≠ 123 ∧ c ≠ 125 ∧ c ≠ 41) ∨ zin1 (zlL q)
  | (0, c, r), h => Or.inl ⟨c, rfl, (zsg_ok h).1, (zsg_ok h).2.1, (zsg_ok h).2.2.1⟩
  | (1, c, r), h => Or.inl ⟨35, rfl, by decide, by decide, by decide⟩
  | (2, c, a, r), h => Or.inr ⟨[nI (65 + a)], rfl, zba_one (nI_65 h).1 (nI_65 h).2⟩
  | (3, c, a, r), h => Or.inr ⟨[nI (65 + a), 108], rfl, zba_cons (nI_65 h).1 (nI_65 h).2 (zba_one (by decide) (by decide))⟩
  | (t + 4, c, a, g, w, l, m), h => Or.inr ⟨nI (65 + a) :: 110 :: zpl g w l m, rfl, zba_cons (nI_65 h.2.1).1 (nI_65 h.2.1).2 (zba_cons (by decide) (by decide) zba_pl)⟩
theorem zba_in1 {l : List Int32} (h : zin1 l) : zba l := by obtain ⟨m, rfl, h⟩ := h; exact zba_br h
theorem znL_b : ∀ (d : Nat) (pl : Bool) (q : zN d), zwfN d pl q → (∃ c, znL d q = [c] ∧ c ≠ 123 ∧ c ≠ 125 ∧ c ≠ 41) ∨ zin1 (znL d q)
  | 0, pl, q, h => zlL_b h
  | d + 1, pl, .inl q, h => zlL_b h
  | d + 1, pl, .inr (k, a, bs), h => by
    obtain ⟨ha, hl, hb, -, -⟩ := h
    refine Or.inr ⟨nI (65 + a) :: (if k then 112 else 103) :: bs.flatMap (fun b => b.1 ++ 40 :: (b.2.flatMap (znL d) ++ [41])), rfl, ?_⟩
    refine zba_cons (nI_65 ha).1 (nI_65 ha).2 (zba_cons (by split <;> decide) (by split <;> decide) (zba_flat fun b hbm => ?_))
    obtain ⟨⟨-, -, h3⟩, h4⟩ := hb b hbm
    refine zba_app (zba_all h3) (zba_cons (by decide) (by decide) (zba_app (zba_flat fun x hx => ?_) (zba_one (by decide) (by decide))))
    rcases znL_b d (pl || k) x (h4 x hx) with ⟨c, e, h5, h6, -⟩ | h5
    · rw [e]; exact zba_one h5 h6
    · exact zba_in1 h5
theorem znL_pos (d : Nat) (pl : Bool) (q : zN d) (h : zwfN d pl q) : 1 ≤ (znL d q).length := by
  rcases znL_b d pl q h with ⟨c, e, -⟩ | ⟨m, e, -⟩ <;> rw [e] <;> simp
/-- a list within another -/
def zIn {α : Type} (cs l : List α) : Prop := ∃ c0 : Nat, ∀ (i : Nat) (q : α), l[i]? = some q → cs[c0 + i]? = some q
theorem zIn_r {α : Type} {l : List α} : zIn l l := ⟨0, fun i q h => by rw [Nat.zero_add]; exact h⟩
theorem zIn_a {α : Type} {cs a b : List α} (h : zIn cs (a ++ b)) : zIn cs a ∧ zIn cs b := by
  obtain ⟨c0, h⟩ := h
  refine ⟨⟨c0, fun i q hq => h i q ?_⟩, ⟨c0 + a.length, fun i q hq => ?_⟩⟩
  · rw [List.getElem?_append_left (List.getElem?_eq_some_iff.mp hq).1]; exact hq
  · rw [Nat.add_assoc]
    refine h (a.length + i) q ?_
    rw [List.getElem?_append_right (by omega), Nat.add_sub_cancel_left]; exact hq
theorem zIn_c {α : Type} {cs b : List α} {a : α} (h : zIn cs (a :: b)) : (∃ c0 : Nat, cs[c0]? = some a) ∧ zIn cs b := by
  obtain ⟨h1, h2⟩ := zIn_a (a := [a]) (b := b) h
  obtain ⟨c0, h1⟩ := h1
  exact ⟨⟨c0, by have := h1 0 a rfl; rw [Nat.add_zero] at this; exact this⟩, h2⟩
theorem zalg_app {α β : Type} {g : Nat → α → List β} {len : α → Nat} : ∀ (a b : List α) (p : Nat), zalg g len p (a ++ b) = zalg g len p a ++ zalg g len (p + (a.map len).sum) b
  | [], b, p => by simp [zalg]
  | x :: a, b, p => by
    rw [List.cons_append, zalg, zalg, zalg_app a b, List.append_assoc, List.map_cons, List.sum_cons, Nat.add_assoc]
theorem zalg_mem {α β : Type} {g : Nat → α → List β} {len : α → Nat} {P : β → Prop} {lo hi : Nat} : ∀ (l : List α) (p : Nat), lo ≤ p → p + (l.map len).sum ≤ hi → (∀ r x, x ∈ l → lo ≤ r → r + len x ≤ hi → ∀ y ∈ g r x, P y) → ∀ y ∈ zalg g len p l, P y
  | [], _, _, _, _, y, hy => by cases hy
  | x :: l, p, h1, h2, h, y, hy => by
    rw [List.map_cons, List.sum_cons] at h2
    rw [zalg] at hy
    rcases List.mem_append.mp hy with hy | hy
    · exact h p x List.mem_cons_self h1 (by omega) y hy
    · exact zalg_mem l (p + len x) (by omega) (by omega) (fun r z hz => h r z (List.mem_cons_of_mem _ hz)) y hy
theorem zflat_len {α : Type} {f : α → List Int32} : ∀ l : List α, (l.flatMap f).length = (l.map fun x => (f x).length).sum
  | [] => rfl
  | x :: l => by rw [List.flatMap_cons, List.length_append, zflat_len l, List.map_cons, List.sum_cons]
/-- places rise -/
def zri (lo hi : Nat) (l : List zCh) : Prop := l.Pairwise (fun a b => a.2.2.2.1 < b.2.2.2.1) ∧ ∀ x ∈ l, lo ≤ x.2.2.2.1 ∧ x.2.2.2.1 < hi
theorem zri_app {lo mid hi : Nat} {a b : List zCh} (h1 : zri lo mid a) (h2 : zri mid hi b) (hl : lo ≤ mid) (hh : mid ≤ hi) : zri lo hi (a ++ b) := by
  refine ⟨List.pairwise_append.mpr ⟨h1.1, h2.1, fun x hx y hy => ?_⟩, fun x hx => ?_⟩
  · have := h1.2 x hx; have := h2.2 y hy; omega
  · rcases List.mem_append.mp hx with hx | hx
    · have := h1.2 x hx; omega
    · have := h2.2 x hx; omega
theorem zri_alg {α : Type} {g : Nat → α → List zCh} {len : α → Nat} : ∀ (l : List α) (p : Nat), (∀ r x, x ∈ l → zri r (r + len x) (g r x)) → zri p (p + (l.map len).sum) (zalg g len p l)
  | [], p, _ => ⟨List.Pairwise.nil, fun x hx => by cases hx⟩
  | x :: l, p, h => by
    rw [zalg, List.map_cons, List.sum_cons, ← Nat.add_assoc]
    exact zri_app (h p x List.mem_cons_self) (zri_alg l (p + len x) fun r y hy => h r y (List.mem_cons_of_mem _ hy)) (by omega) (by omega)
theorem zri_w {lo lo' hi hi' : Nat} {l : List zCh} (h : zri lo hi l) (h1 : lo' ≤ lo) (h2 : hi ≤ hi') : zri lo' hi' l := ⟨h.1, fun x hx => by have := h.2 x hx; omega⟩
theorem zcN_ri : ∀ (d u p : Nat) (q : zN d), zri p (p + (znL d q).length) (zcN d u p q)
  | 0, u, p, q => ⟨List.Pairwise.nil, fun x hx => by cases hx⟩
  | d + 1, u, p, .inl q => ⟨List.Pairwise.nil, fun x hx => by cases hx⟩
  | d + 1, u, p, .inr (k, a, bs) => by
    have hlen : (znL (d + 1) (.inr (k, a, bs))).length = 4 + (bs.map fun b => (zbL d b).length).sum := by
      show (123 :: nI (65 + a) :: (if k then 112 else 103) :: (bs.flatMap (fun b => b.1 ++ 40 :: (b.2.flatMap (znL d) ++ [41])) ++ [125])).length = _
      simp only [List.length_cons, List.length_append, List.length_nil]
      rw [zflat_len]
      simp only [zbL, ztL]
      omega
    rw [hlen]
    have h1 : zri (p + 3) (p + 3 + (bs.map fun b => (zbL d b).length).sum) (zalg (fun r b => zalg (zcN d (u + 1)) (fun x => (znL d x).length) (r + b.1.length + 1) b.2) (fun b => (zbL d b).length) (p + 3) bs) := by
      refine zri_alg bs (p + 3) fun r b _ => ?_
      have h2 := zri_alg (g := zcN d (u + 1)) (len := fun x => (znL d x).length) b.2 (r + b.1.length + 1) fun r' x _ => zcN_ri d (u + 1) r' x
      refine zri_w h2 (by omega) ?_
      have e : (ztL d b.2).length = (b.2.map fun x => (znL d x).length).sum := zflat_len b.2
      simp only [zbL, List.length_append, List.length_cons, List.length_nil]
      omega
    refine ⟨List.pairwise_cons.mpr ⟨fun x hx => ?_, h1.1⟩, fun x hx => ?_⟩
    · have := h1.2 x hx; show p < _; omega
    · rcases List.mem_cons.mp hx with rfl | hx
      · exact ⟨Nat.le_refl p, by show p < _; omega⟩
      · have := h1.2 x hx; omega
theorem zcs_ri (d u p : Nat) (t : List (zN d)) : zri p (p + (ztL d t).length) (zcs d u p t) := by
  have e : (ztL d t).length = (t.map fun x => (znL d x).length).sum := zflat_len t
  rw [e]
  exact zri_alg t p fun r x _ => zcN_ri d u r x
theorem zri_u {lo hi : Nat} {l : List zCh} (h : zri lo hi l) {i j : Nat} {x y : zCh} (hi : l[i]? = some x) (hj : l[j]? = some y) (he : x.2.2.2.1 = y.2.2.2.1) : i = j := by
  have hp := List.pairwise_iff_getElem.mp h.1
  obtain ⟨h1, rfl⟩ := List.getElem?_eq_some_iff.mp hi
  obtain ⟨h2, rfl⟩ := List.getElem?_eq_some_iff.mp hj
  rcases Nat.lt_trichotomy i j with z | z | z
  · have := hp i j h1 h2 z; omega
  · exact z
  · have := hp j i h2 h1 z; omega
