/-! frames: what an act of the component leaves; the component's cells against an abstract state -/
/-- I: cells that never change; U: cells that may; M: the whole map -/
def ext (U : Nat → Prop) (I M I' M' : zM) : Prop := zle I I' ∧ zle I' M' ∧ (∀ a e, M a = some e → ¬ U a → M' a = some e) ∧ ∀ a, M a ≠ none → M' a ≠ none ∧ (I a = none → I' a = none)
section EX
variable {U U1 : Nat → Prop} {I M I1 M1 I2 M2 : zM}
theorem ext_r (h : zle I M) : ext U I M I M := ⟨zle_r _, h, fun _ _ h _ => h, fun _ h => ⟨h, fun h => h⟩⟩
theorem ext_t (h : ext U I M I1 M1) (h2 : ext U1 I1 M1 I2 M2) (hU : ∀ a, U1 a → U a ∨ M a = none) : ext U I M I2 M2 :=
  ⟨zle_t h.1 h2.1, h2.2.1, fun a e ha hn => h2.2.2.1 a e (h.2.2.1 a e ha hn) (fun z => by
    rcases hU a z with y | y
    · exact hn y
    · rw [ha] at y; cases y), fun a ha => by
    have h3 := h.2.2.2 a ha
    have h4 := h2.2.2.2 a h3.1
    exact ⟨h4.1, fun z => h4.2 (h3.2 z)⟩⟩
theorem ext_t0 (h : ext U I M I1 M1) (h2 : ext U I1 M1 I2 M2) : ext U I M I2 M2 := ext_t h h2 (fun _ h => Or.inl h)
theorem ext_w (hI : zle I M) (h : ext U1 I M I1 M1) (hU : ∀ a, U1 a → U a ∨ M a = none) : ext U I M I1 M1 := ext_t (ext_r hI) h hU
/-- a new cell, which will not change -/
theorem ext_n {b : Nat} {e : zV} (h : ext U I M I1 M1) (hb : M1 b = none) : ext U I M (zu I1 b (some e)) (zu M1 b (some e)) := by
  refine ext_t0 h ⟨fun a x hx => ?_, fun a x hx => ?_, fun a x hx _ => ?_, fun a ha => ⟨?_, fun z => ?_⟩⟩
  · have := h.2.1 a x hx
    rw [zu_n (fun z => by rw [z, hb] at this; cases this)]; exact hx
  · by_cases e1 : a = b
    · subst e1; rw [zu_s] at hx ⊢; exact hx
    · rw [zu_n e1] at hx ⊢; exact h.2.1 a x hx
  · rw [zu_n (fun z => by rw [z, hb] at hx; cases hx)]; exact hx
  · rw [zu_n (fun z => ha (by rw [z]; exact hb))]; exact ha
  · rw [zu_n (fun y => ha (by rw [y]; exact hb))]; exact z
/-- a new cell, which may change yet -/
theorem ext_m {b : Nat} {e : zV} (h : ext U I M I1 M1) (hb : M1 b = none) : ext U I M I1 (zu M1 b (some e)) := by
  refine ext_t0 h ⟨zle_r _, fun a x hx => ?_, fun a x hx _ => ?_, fun a ha => ⟨?_, fun z => z⟩⟩
  · have := h.2.1 a x hx
    rw [zu_n (fun z => by rw [z, hb] at this; cases this)]; exact this
  · rw [zu_n (fun z => by rw [z, hb] at hx; cases hx)]; exact hx
  · rw [zu_n (fun z => ha (by rw [z]; exact hb))]; exact ha
/-- a written cell -/
theorem ext_p {b : Nat} {e : zV} (h : ext U I M I1 M1) (hb : U b ∨ M b = none) (hi : I1 b = none) : ext U I M I1 (zu M1 b (some e)) := by
  refine ⟨h.1, fun a x hx => ?_, fun a x hx hn => ?_, fun a ha => ⟨?_, fun z => (h.2.2.2 a ha).2 z⟩⟩
  · rw [zu_n (fun z => by rw [z, hi] at hx; cases hx)]; exact h.2.1 a x hx
  · rw [zu_n (fun z => by
      subst z
      rcases hb with y | y
      · exact hn y
      · rw [hx] at y; cases y)]
    exact h.2.2.1 a x hx hn
  · by_cases e1 : a = b
    · subst e1; rw [zu_s]; simp
    · rw [zu_n e1]; exact (h.2.2.2 a ha).1
/-- a cell that was new will not change any more -/
theorem ext_f {b : Nat} {e : zV} (h : ext U I M I1 M1) (hb : M b = none) (hM : M1 b = some e) : ext U I M (zu I1 b (some e)) M1 := by
  refine ⟨fun a x hx => ?_, fun a x hx => ?_, h.2.2.1, fun a ha => ⟨(h.2.2.2 a ha).1, fun z => ?_⟩⟩
  · by_cases e1 : a = b
    · subst e1
      have := h.2.1 a x (h.1 a x hx)
      rw [hM] at this; rw [zu_s]; exact this
    · rw [zu_n e1]; exact h.1 a x hx
  · by_cases e1 : a = b
    · subst e1; rw [zu_s] at hx; rw [hM]; exact hx
    · rw [zu_n e1] at hx; exact h.2.1 a x hx
  · rw [zu_n (fun y => ha (by rw [y]; exact hb))]; exact (h.2.2.2 a ha).2 z
theorem ext_z (h : ext U I M I1 M1) : zle I1 M1 := h.2.1
theorem ext_i (h : ext U I M I1 M1) : zle I I1 := h.1
theorem ext_k {a : Nat} {e : zV} (h : ext U I M I1 M1) (ha : M a = some e) (hu : ¬ U a) : M1 a = some e := h.2.2.1 a e ha hu
theorem ext_0 {a : Nat} {e : zV} (h : ext U I M I1 M1) (ha : M a = some e) (hi : I a = none) : I1 a = none := (h.2.2.2 a (by rw [ha]; simp)).2 hi
/-- new cells that none reads afterwards -/
theorem ext_le (h : zle I M) (h2 : zle M M1) : ext U I M I M1 := by
  refine ⟨zle_r _, zle_t h h2, fun a e ha _ => h2 a e ha, fun a ha => ⟨fun z => ?_, fun z => z⟩⟩
  cases hm : M a with
  | none => exact ha hm
  | some e => rw [h2 a e hm] at z; cases z
theorem kn_ne {a b : Nat} {x y : zV} (h1 : M a = some x) (h2 : M b = some y) (h : x ≠ y) : a ≠ b := fun z => by
  subst z; rw [h1] at h2; exact h (Option.some.inj h2)
/-- another cell is written -/
theorem kn {a b : Nat} {x y : zV} {e : Option zV} (h1 : M a = some x) (h2 : M b = some y) (h : x ≠ y) : zu M b e a = some x := by
  rw [zu_n (kn_ne h1 h2 h)]; exact h1
theorem kw {a b : Nat} {x : zV} {e : Option zV} (h1 : M a = some x) (h2 : M b = none) : zu M b e a = some x := by
  rw [zu_n (fun z => by rw [z, h2] at h1; cases h1)]; exact h1
end EX
/-! what messages are as objects -/
abbrev zMs : Type := List (zN 3) × Int32 × (Nat → Nat)
abbrev zRo : Type := Nat × Nat × (Nat → UInt32) × (Nat → UInt64) × (Nat → Int64)
/-- conditions, tape, slots, things, output, rows -/
abbrev zSg : Type := List zCo × List Int32 × (Nat → Option zMs) × (Nat → zTh) × List Int32 × (Nat → Option zRo)
def zLe (I : zM) (a : Nat) (q : zLf) : Prop := match q with
  | (0, c, _) => I a = some (.inr (21, [.int c]))
  | (1, _) => I a = some (.inr (12, []))
  | (2, _, x, _) => I a = some (.inr (14, [.int (nI x)]))
  | (3, _, x, _) => I a = some (.inr (15, [.int (nI x)]))
  | (_, _, x, g, w, l, m) => ∃ p, I a = some (.inr (16, [.int (nI x), .ref p])) ∧ I p = some (.inr (17, [.int (b1 g), .int (nI w), .int (nI l), .int (nI (l + m))]))
/-- a list of things told apart by P -/
def zLs {α : Type} (I : zM) (L : Nat) (l : List α) (P : Nat → α → Prop) : Prop := ∃ f : Nat → Option Nat, zLi I L l.length f ∧ ∀ i q, l[i]? = some q → ∃ a, f i = some a ∧ P a q
def zPs (I : zM) {α : Type} (node : Nat → α → Prop) (P : Nat) (t : List α) : Prop := ∃ L, I P = some (.inr (11, [.ref L])) ∧ zLs I L t node
def zNd (I : zM) : (d : Nat) → Nat → zN d → Prop
  | 0, a, q => zLe I a q
  | d + 1, a, q => Sum.elim (fun q => zLe I a q) (fun q => ∃ (L : Nat) (u : Int32), I a = some (.inr ((if q.1 then 18 else 19), [.ref L, .int u, .int (nI q.2.1)])) ∧
      zLs I L q.2.2 (fun c b => ∃ P, I c = some (.inr (20, [.int (nI (zkv q.1 b.1)), .ref P])) ∧ zPs I (zNd I d) P b.2)) q
/-- a choice as an object, without its branches' parts -/
def zCh0 (I : zM) (a : Nat) (x : zCh) : Prop := ∃ L : Nat, I a = some (.inr ((if x.2.1 = 1 then 18 else 19), [.ref L, .int (nI x.2.2.1), .int (nI x.1)])) ∧
  zLs I L x.2.2.2.2 (fun c b => ∃ P, I c = some (.inr (20, [.int (nI b.1), .ref P])))
/-- a choice of a message without lies: its kind, its keys -/
def zgd (x : zCh) : Prop := (x.2.1 = 1 ∨ x.2.1 = 2) ∧ x.2.2.2.2.length ≤ 10 ∧ (∀ q ∈ x.2.2.2.2.map Prod.fst, q ≤ 1009) ∧ (x.2.2.2.2.map Prod.fst).Nodup ∧ (if x.2.1 = 1 then 5 else 3) ∈ x.2.2.2.2.map Prod.fst
def zMg (I : zM) (a : Nat) (q : zMs) : Prop := ∃ (P L T : Nat) (f : Nat → Int32), I a = some (.inr (10, [.ref P, .int (nI (ztM 3 q.1)), .ref L, .ref T, .int q.2.1])) ∧ zPs I (zNd I 3) P q.1 ∧
  zLs I L (zcs 3 0 0 q.1) (zCh0 I) ∧ I T = some (.inl (0, 5, .inl f)) ∧ (∀ i, i < 5 → f i = nI (q.2.2 i) ∧ q.2.2 i ≤ 3) ∧ (zcs 3 0 0 q.1).length ≤ 8 ∧ (∀ x ∈ zcs 3 0 0 q.1, zgd x) ∧ (ztL 3 q.1).length ≤ 120
/-- what an argument holds -/
def zTg (I : zM) (r : Option Nat) (q : zTh) : Prop := (q.1 = 0 ∧ r = none) ∨
  (q.1 = 1 ∧ q.2.2.1 ≤ 6 ∧ ∃ a c, r = some a ∧ I a = some (.inr (22, [.ref c])) ∧ zDe I c q.2.1 q.2.2.1) ∨
  (q.1 = 2 ∧ q.2.2.1 = 0 ∧ ∃ a g, r = some a ∧ I a = some (.inr (23, [.int q.2.1])) ∧ g < 3 ∧ q.2.1 = nI g) ∨
  (q.1 = 3 ∧ q.2.2.1 = 0 ∧ q.2.2.2.length ≤ 6 ∧ q.2.1 = nI q.2.2.2.length ∧ ∃ a c f, r = some a ∧ I a = some (.inr (24, [.ref c])) ∧ I c = some (.inl (0, q.2.2.2.length, .inl f)) ∧ ∀ i v, q.2.2.2[i]? = some v → f i = v)
def zRk : Nat → Nat := fun s => if s = 0 then 3 else if s = 1 then 4 else 2
def zRa (q : zRo) : zV := if q.1 = 0 then .inl (3, q.2.1, .inr (.inr (.inl q.2.2.1))) else if q.1 = 1 then .inl (4, q.2.1, .inr (.inr (.inr (.inl q.2.2.2.1)))) else .inl (2, q.2.1, .inr (.inl q.2.2.2.2))
/-- a language's class by its number -/
def zLc : Nat → Nat := fun l => match l with | 1 => 2 | 2 => 2 | 3 => 2 | 4 => 4 | 5 => 5 | _ => 6
/-- the component's cells: B: 0 itself, 1 output, 2 languages, 3 tape, 5 slots, 6 things, 7 rows, 10 to 12 the rows, 20 its own list, 21 what that holds, 30 to 32 what rows hold -/
def mu0 : List Nat := [0, 1, 3, 5, 6, 10, 11, 12, 20, 21]
def muI (X : zSg) (i : Nat) : Prop := i ∈ mu0 ∨ ∃ r, r < 3 ∧ i = 30 + r ∧ X.2.2.2.2.2 r ≠ none
def muA (X : zSg) (B : Nat → Nat) (a : Nat) : Prop := ∃ i, muI X i ∧ a = B i
def RCo (X : zSg) (B : Nat → Nat) (M : zM) : Prop := M (B 0) = some (.inr (0, [.ref (B 2), .ref (B 1), .int (nI X.2.2.2.2.1.length), .ref (B 3), .int (nI X.2.1.length), .ref (B 5), .ref (B 6), .ref (B 7)]))
def RCw (X : zSg) (B : Nat → Nat) (M : zM) : Prop := X.2.2.2.2.1.length ≤ 240 ∧ ∃ f, M (B 1) = some (.inl (1, 240, .inl f)) ∧ ∀ i c, X.2.2.2.2.1[i]? = some c → f i = c
def RCt (X : zSg) (B : Nat → Nat) (M : zM) : Prop := X.2.1.length ≤ 120 ∧ ∃ f, M (B 3) = some (.inl (1, 120, .inl f)) ∧ ∀ i c, X.2.1[i]? = some c → f i = vp_nar .byte (c.toInt8.toInt32) ∧ zb c 256 = true
def RCs (X : zSg) (B : Nat → Nat) (I M : zM) : Prop := ∃ f, M (B 5) = some (.inl (8, 4, .inr (.inr (.inr (.inr f))))) ∧ ∀ j, j < 4 → (X.2.2.1 j = none ∧ f j = none) ∨ ∃ q a, X.2.2.1 j = some q ∧ f j = some a ∧ zMg I a q
def RCh (X : zSg) (B : Nat → Nat) (I M : zM) : Prop := ∃ f, M (B 6) = some (.inl (9, 5, .inr (.inr (.inr (.inr f))))) ∧ ∀ j, j < 5 → zTg I (f j) (X.2.2.2.1 j)
def RCr (X : zSg) (B : Nat → Nat) (I M : zM) : Prop := (∃ f, I (B 7) = some (.inl (10, 3, .inr (.inr (.inr (.inr f))))) ∧ ∀ r, r < 3 → f r = some (B (10 + r))) ∧ (∀ r q, r < 3 → q < 3 → r ≠ q → B (10 + r) ≠ B (10 + q)) ∧ (∀ r q, r < 3 → q < 3 → r ≠ q → X.2.2.2.2.2 r ≠ none → X.2.2.2.2.2 q ≠ none → B (30 + r) ≠ B (30 + q)) ∧
  ∀ r, r < 3 → (X.2.2.2.2.2 r = none ∧ M (B (10 + r)) = some (.inr (7, [.null]))) ∨ ∃ q, X.2.2.2.2.2 r = some q ∧ q.1 ≤ 2 ∧ q.2.1 ≤ 30 ∧ M (B (10 + r)) = some (.inr (7, [.ref (B (30 + r))])) ∧ M (B (30 + r)) = some (zRa q)
def zLj (D : zD) (l : Nat) : List Value := if l = 1 ∨ l = 2 ∨ l = 3 then [.ref (D.2.2.2 (9 + l))] else []
def RCl (D : zD) (X : zSg) (B : Nat → Nat) (I M : zM) : Prop := ∃ (f : Nat → Option Nat) (T : Nat), I (B 2) = some (.inl (6, 7, .inr (.inr (.inr (.inr f))))) ∧ zTr I T ∧
  (∀ l, l < 6 → ∃ a L, f l = some a ∧ I a = some (.inr (zLc l, .ref L :: .ref T :: zLj D l)) ∧ zCs I L (zll l)) ∧
  (∃ a, f 6 = some a ∧ I a = some (.inr (6, [.ref (B 20), .ref T]))) ∧ X.1.length ≤ 12 ∧ (∀ q ∈ X.1, q.1.2.1 = 0) ∧
  ∃ (mc : Int32) (g : Nat → Option Nat), M (B 20) = some (.inr (26, [.int mc, .ref (B 21), .int (nI X.1.length)])) ∧ M (B 21) = some (.inl (5, 12, .inr (.inr (.inr (.inr g))))) ∧ ∀ i q, X.1[i]? = some q → ∃ c, g i = some c ∧ I c = some (.inr (3, zcf q))
/-- the component's cells hold X -/
def RC (D : zD) (X : zSg) (B : Nat → Nat) (I M : zM) : Prop := RCo X B M ∧ RCw X B M ∧ RCt X B M ∧ RCs X B I M ∧ RCh X B I M ∧ RCr X B I M ∧ RCl D X B I M ∧ (∀ i, muI X i → I (B i) = none ∧ zB D ≤ B i)
