/-! what is kept as a cell of the component is written -/
def tgf (v : zV) : Nat := match v with
  | .inr (ci, _) => 100 + ci
  | .inl (k, n, _) => if k = 1 then (if n = 240 then 1 else 3) else if k = 2 ∨ k = 3 ∨ k = 4 then 30 else 10 + k
def tgi (i : Nat) : Nat := if i = 0 then 100 else if i = 1 then 1 else if i = 3 then 3 else if i = 5 then 18 else if i = 6 then 19 else if i = 10 ∨ i = 11 ∨ i = 12 then 107 else if i = 20 then 126 else if i = 21 then 15 else 30
/-- the state, changed at one place -/
def xC (X : zSg) (l : List zCo) : zSg := (l, X.2)
def xT (X : zSg) (l : List Int32) : zSg := (X.1, l, X.2.2)
def zup {α : Type} (f : Nat → α) (j : Nat) (v : α) : Nat → α := fun i => if i = j then v else f i
def xS (X : zSg) (j : Nat) (q : Option zMs) : zSg := (X.1, X.2.1, zup X.2.2.1 j q, X.2.2.2)
def xH (X : zSg) (j : Nat) (q : zTh) : zSg := (X.1, X.2.1, X.2.2.1, zup X.2.2.2.1 j q, X.2.2.2.2)
def xO (X : zSg) (l : List Int32) : zSg := (X.1, X.2.1, X.2.2.1, X.2.2.2.1, l, X.2.2.2.2.2)
def xR (X : zSg) (j : Nat) (q : Option zRo) : zSg := (X.1, X.2.1, X.2.2.1, X.2.2.2.1, X.2.2.2.2.1, zup X.2.2.2.2.2 j q)
theorem zup_s {α : Type} {f : Nat → α} {j : Nat} {v : α} : zup f j v j = v := if_pos rfl
theorem zup_n {α : Type} {f : Nat → α} {i j : Nat} {v : α} (h : i ≠ j) : zup f j v i = f i := if_neg h
/-- what an act of the component has to answer to -/
def done (D : zD) (X : zSg) (B : Nat → Nat) (I M : zM) (X' : zSg) (post : zM → Prop) : Prop :=
  ∀ (I' M' : zM) (B' : Nat → Nat), B' 0 = B 0 → ext (muA X B) I M I' M' → RC D X' B' I' M' → (∀ a, muA X' B' a → muA X B a ∨ M a = none) → post M'
section CK
variable {D : zD} {X X' : zSg} {B : Nat → Nat} {I M I' M' : zM}
theorem RC_tag (h : RC D X B I M) {i : Nat} (hi : muI X i) : ∃ v, M (B i) = some v ∧ tgf v = tgi i := by
  obtain ⟨ho, ⟨-, f1, hw, -⟩, ⟨-, f3, ht, -⟩, ⟨f5, hs, -⟩, ⟨f6, hh, -⟩, ⟨-, -, -, hr⟩, ⟨f, T, -, -, -, -, -, -, mc, g, hl, he, -⟩, -⟩ := h
  rcases hi with hi | ⟨r, hr3, rfl, hn⟩
  · simp only [mu0, List.mem_cons, List.not_mem_nil, or_false] at hi
    rcases hi with rfl | rfl | rfl | rfl | rfl | rfl | rfl | rfl | rfl | rfl
    · exact ⟨_, ho, rfl⟩
    · exact ⟨_, hw, rfl⟩
    · exact ⟨_, ht, rfl⟩
    · exact ⟨_, hs, rfl⟩
    · exact ⟨_, hh, rfl⟩
    · rcases hr 0 (by decide) with ⟨-, h1⟩ | ⟨q, -, -, -, h1, -⟩ <;> exact ⟨_, h1, rfl⟩
    · rcases hr 1 (by decide) with ⟨-, h1⟩ | ⟨q, -, -, -, h1, -⟩ <;> exact ⟨_, h1, rfl⟩
    · rcases hr 2 (by decide) with ⟨-, h1⟩ | ⟨q, -, -, -, h1, -⟩ <;> exact ⟨_, h1, rfl⟩
    · exact ⟨_, hl, rfl⟩
    · exact ⟨_, he, rfl⟩
  · rcases hr r hr3 with ⟨h0, -⟩ | ⟨q, -, -, -, -, h1⟩
    · exact absurd h0 hn
    · refine ⟨_, h1, ?_⟩
      have : tgi (30 + r) = 30 := by
        have h9 : ∀ r : Fin 3, tgi (30 + r.val) = 30 := by decide
        exact h9 ⟨r, hr3⟩
      rw [this]
      unfold zRa
      split
      · rfl
      · split <;> rfl
theorem RC_ne (h : RC D X B I M) {i j : Nat} (hi : muI X i) (hj : muI X j) (hn : i ≠ j) : B i ≠ B j := by
  intro e
  obtain ⟨v, h1, h2⟩ := RC_tag h hi
  obtain ⟨w, h3, h4⟩ := RC_tag h hj
  rw [e, h3] at h1
  cases h1
  have key : ∀ i ∈ ([0, 1, 3, 5, 6, 10, 11, 12, 20, 21, 30, 31, 32] : List Nat), ∀ j ∈ ([0, 1, 3, 5, 6, 10, 11, 12, 20, 21, 30, 31, 32] : List Nat), tgi i = tgi j → i ≠ j → (10 ≤ i ∧ i ≤ 12 ∧ 10 ≤ j ∧ j ≤ 12) ∨ (30 ≤ i ∧ 30 ≤ j) := by decide
  have mem : ∀ {i : Nat}, muI X i → i ∈ ([0, 1, 3, 5, 6, 10, 11, 12, 20, 21, 30, 31, 32] : List Nat) := by
    intro i hi
    rcases hi with hi | ⟨r, hr, rfl, -⟩
    · exact (by decide : ∀ i ∈ mu0, i ∈ ([0, 1, 3, 5, 6, 10, 11, 12, 20, 21, 30, 31, 32] : List Nat)) i hi
    · have h9 : ∀ r : Fin 3, 30 + r.val ∈ ([0, 1, 3, 5, 6, 10, 11, 12, 20, 21, 30, 31, 32] : List Nat) := by decide
      exact h9 ⟨r, hr⟩
  obtain ⟨-, -, -, -, -, ⟨-, d1, d2, -⟩, -⟩ := h
  rcases key i (mem hi) j (mem hj) (h2.symm.trans h4) hn with ⟨a1, a2, a3, a4⟩ | ⟨a1, a2⟩
  · obtain ⟨r, rfl⟩ : ∃ r, i = 10 + r := ⟨i - 10, by omega⟩
    obtain ⟨q, rfl⟩ : ∃ q, j = 10 + q := ⟨j - 10, by omega⟩
    exact d1 r q (by omega) (by omega) (by omega) e
  · rcases hi with hi | ⟨r, hr, rfl, hrn⟩
    · exact absurd ((by decide : ∀ i ∈ mu0, i < 30) i hi) (by omega)
    · rcases hj with hj | ⟨q, hq, rfl, hqn⟩
      · exact absurd ((by decide : ∀ i ∈ mu0, i < 30) j hj) (by omega)
      · exact d2 r q hr hq (by omega) hrn hqn e
/-- all but the cells of numbers in J are as they were -/
theorem RC_k (h : RC D X B I M) (J : List Nat) (hI : zle I I') (hM : ∀ i, muI X i → i ∉ J → M' (B i) = M (B i)) :
    (0 ∉ J → RCo X B M') ∧ (1 ∉ J → RCw X B M') ∧ (3 ∉ J → RCt X B M') ∧ (5 ∉ J → RCs X B I' M') ∧ (6 ∉ J → RCh X B I' M') ∧ ((∀ j ∈ J, j < 10 ∨ (20 ≤ j ∧ j < 30)) → RCr X B I' M') ∧ (20 ∉ J → 21 ∉ J → RCl D X B I' M') := by
  obtain ⟨ho, ⟨w1, f1, hw, w2⟩, ⟨t1, f3, ht, t2⟩, ⟨f5, hs, s2⟩, ⟨f6, hh, h2⟩, ⟨⟨fr, r0, r1⟩, r2, r3, hr⟩, ⟨f, T, l1, l2, l3, ⟨a6, l4, l5⟩, l6, l7, mc, g, hl, he, l8⟩, -⟩ := h
  refine ⟨fun n => ?_, fun n => ⟨w1, f1, ?_, w2⟩, fun n => ⟨t1, f3, ?_, t2⟩, fun n => ⟨f5, ?_, fun j hj => ?_⟩, fun n => ⟨f6, ?_, fun j hj => zTg_m hI (h2 j hj)⟩, fun n => ⟨⟨fr, hI _ _ r0, r1⟩, r2, r3, fun r hr3 => ?_⟩, fun n n' => ⟨f, T, hI _ _ l1, zTr_m hI l2, fun l hl => ?_, ⟨a6, l4, hI _ _ l5⟩, l6, l7, mc, g, ?_, ?_, fun i q hq => ?_⟩⟩
  · unfold RCo; rw [hM 0 (Or.inl (by decide)) n]; exact ho
  · rw [hM 1 (Or.inl (by decide)) n]; exact hw
  · rw [hM 3 (Or.inl (by decide)) n]; exact ht
  · rw [hM 5 (Or.inl (by decide)) n]; exact hs
  · rcases s2 j hj with y | ⟨q, a, y1, y2, y3⟩
    · exact Or.inl y
    · exact Or.inr ⟨q, a, y1, y2, zMg_m hI y3⟩
  · rw [hM 6 (Or.inl (by decide)) n]; exact hh
  · have m1 : 10 + r ∈ mu0 := by
      have h9 : ∀ r : Fin 3, 10 + r.val ∈ mu0 := by decide
      exact h9 ⟨r, hr3⟩
    have n1 : 10 + r ∉ J := fun z => by have := n _ z; omega
    rcases hr r hr3 with ⟨y1, y2⟩ | ⟨q, y1, y2, y3, y4, y5⟩
    · exact Or.inl ⟨y1, by rw [hM _ (Or.inl m1) n1]; exact y2⟩
    · have n2 : 30 + r ∉ J := fun z => by have := n _ z; omega
      exact Or.inr ⟨q, y1, y2, y3, by rw [hM _ (Or.inl m1) n1]; exact y4, by rw [hM _ (Or.inr ⟨r, hr3, rfl, by rw [y1]; simp⟩) n2]; exact y5⟩
  · obtain ⟨a, L, k1, k2, k3⟩ := l3 l hl
    exact ⟨a, L, k1, hI _ _ k2, zCs_m hI k3⟩
  · rw [hM 20 (Or.inl (by decide)) n]; exact hl
  · rw [hM 21 (Or.inl (by decide)) n']; exact he
  · obtain ⟨c, k1, k2⟩ := l8 i q hq
    exact ⟨c, k1, hI _ _ k2⟩
theorem RC_u (h : RC D X B I M) (hx : ext (muA X B) I M I' M') (hr : X'.2.2.2.2.2 = X.2.2.2.2.2) : ∀ i, muI X' i → I' (B i) = none ∧ zB D ≤ B i := by
  intro i hi
  have hi' : muI X i := by unfold muI at hi ⊢; rw [hr] at hi; exact hi
  obtain ⟨v, h1, -⟩ := RC_tag h hi'
  have h2 := h.2.2.2.2.2.2.2 i hi'
  exact ⟨ext_0 hx h1 h2.1, h2.2⟩
theorem mu_i {i : Nat} (h : i ∈ mu0) : muI X i := Or.inl h
theorem mu_a {i : Nat} (h : i ∈ mu0) : muA X B (B i) := ⟨i, Or.inl h, rfl⟩
theorem fin {post : zM → Prop} (h : done D X B I M X' post) (hr : X'.2.2.2.2.2 = X.2.2.2.2.2) (hx : ext (muA X B) I M I' M') (hR : RC D X' B I' M') : post M' :=
  h I' M' B rfl hx hR fun a ⟨i, hi, he⟩ => Or.inl ⟨i, by unfold muI at hi ⊢; rw [hr] at hi; exact hi, he⟩
/-- nothing was changed -/
theorem fin0 {post : zM → Prop} (hR : RC D X B I M) (hz : zle I M) (h : done D X B I M X post) (hm : zle M M') : post M' := by
  have hx : ext (muA X B) I M I M' := ext_le hz hm
  obtain ⟨k1, k2, k3, k4, k5, k6, k7⟩ := RC_k (I' := I) (M' := M') hR [] (zle_r _) (fun i hi _ => by
    obtain ⟨v, h1, -⟩ := RC_tag hR hi
    rw [h1, hm _ _ h1])
  exact fin h rfl hx ⟨k1 (by simp), k2 (by simp), k3 (by simp), k4 (by simp), k5 (by simp), k6 (by simp), k7 (by simp) (by simp), RC_u hR hx rfl⟩
/-- one cell of the component was written, others are new -/
theorem RC_1 (hR : RC D X B I M) (hx : ext (muA X B) I M I' M') {J : List Nat} {f : Nat → zV} (hJ : ∀ j ∈ J, muI X j) (hM : ∀ a e, M a = some e → (∀ j ∈ J, a ≠ B j) → M' a = some e) : ∀ i, muI X i → i ∉ J → M' (B i) = M (B i) := by
  intro i hi hn
  obtain ⟨v, h1, -⟩ := RC_tag hR hi
  rw [h1]
  exact hM _ _ h1 fun j hj => RC_ne hR hi (hJ j hj) (fun z => hn (by rw [z]; exact hj))
end CK
