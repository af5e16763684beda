/-! the component's reader: lists in the making, its cells -/
def zol (D : zD) (M0 I M : zM) (L E : Nat) (l : List Nat) : Prop := M0 L = none ∧ I L = none ∧ zB D ≤ L ∧ (∀ (i a : Nat), l[i]? = some a → zis I a (zok 5)) ∧ ∃ (mc : Int32) (cap : Nat) (f : Nat → Option Nat), M L = some (.inr (26, [.int mc, .ref E, .int (nI l.length)])) ∧ M E = some (.inl (5, cap, .inr (.inr (.inr (.inr f))))) ∧
  l.length ≤ cap ∧ cap ≤ 10 + 2 * l.length ∧ (∀ (i a : Nat), l[i]? = some a → f i = some a) ∧ ((E = D.2.2.2 1 ∧ cap = 0) ∨ (I E = none ∧ M0 E = none ∧ zB D ≤ E ∧ 1 ≤ cap))
theorem zis_m {I M : zM} {a : Nat} {L : List Nat} (h : zle I M) (h1 : zis I a L) : zis M a L := by
  obtain ⟨ci, fs, h2, h3⟩ := h1
  exact ⟨ci, fs, h2, h _ _ h3⟩
section RD1
variable {D : zD} {M0 I M : zM} {L E a : Nat} {l : List Nat}
theorem nI_half {c : Nat} (h : c < 300) : nI c >>> ((1 : Int32) &&& 31) = nI (c / 2) := by
  have h1 : ∀ c : Fin 300, nI c.val >>> ((1 : Int32) &&& 31) = nI (c.val / 2) := by decide +kernel
  exact h1 ⟨c, h⟩
theorem none_I {b : Nat} (hz : zle I M) (hb : M b = none) : I b = none := by
  cases e : I b with
  | none => rfl
  | some v => rw [hz _ _ e] at hb; cases hb
theorem none_0 {b : Nat} (hz : zle M0 M) (hb : M b = none) : M0 b = none := none_I hz hb
/-- what is behind an add: the element put, the length -/
theorem c_addE {post : Unit → zM → Prop} {k n cap : Nat} {U : Nat → Prop} {M1 : zM} {E' : Nat} {mc : Int32} {f : Nat → Option Nat} (h0 : M0 L = none) (hIL : I L = none) (hL : zB D ≤ L) (hz : zle I M1) (hx : ext U I M I M1) (hUL : U L ∨ M L = none) (hUE : U E' ∨ M E' = none)
    (hl : ∀ (i a : Nat), l[i]? = some a → zis I a (zok 5)) (hM1 : M1 L = some (.inr (26, [.int mc, .ref E', .int (nI l.length)]))) (hE : M1 E' = some (.inl (5, cap, .inr (.inr (.inr (.inr f)))))) (hlen : l.length < cap) (hcap : cap ≤ 10 + 2 * (l.length + 1)) (hc31 : l.length < 1000) (hf : ∀ (i a : Nat), l[i]? = some a → f i = some a) (hE2 : I E' = none ∧ M0 E' = none ∧ zB D ≤ E')
    (ha : zis I a (zok 5)) (hp : ∀ M', ext U I M I M' → zol D M0 I M' L E' (l ++ [a]) → post () M') : wp_J3_add_2_L11 D post L k n (some a) (some E') (nI l.length) M1 := by
  have nLE : E' ≠ L := kn_ne hE hM1 (by simp)
  unfold wp_J3_add_2_L11
  refine czd (csR hE hE2.2.2 (vp_in_nI hlen (by omega)) (fun w hw => by cases hw; exact zis_m hz ha) ?_)
  have hL' : ∀ e, zu M1 E' e L = some (.inr (26, [.int mc, .ref E', .int (nI l.length)])) := fun e => by rw [zu_n nLE.symm]; exact hM1
  refine cp (hL' _) hL (by simp) (hp _ (ext_p (ext_p hx hUE hE2.1) hUL hIL) ?_)
  have el : (l ++ [a]).length = l.length + 1 := by rw [List.length_append]; rfl
  refine ⟨h0, hIL, hL, fun i x hx' => ?_, mc, cap, va_up f l.length (some a), ?_, ?_, by omega, by omega, fun i x hx' => ?_, Or.inr ⟨hE2.1, hE2.2.1, hE2.2.2, by omega⟩⟩
  · rcases Nat.lt_trichotomy i l.length with hi | hi | hi
    · rw [List.getElem?_append_left hi] at hx'; exact hl i x hx'
    · subst hi
      rw [List.getElem?_append_right (Nat.le_refl _), Nat.sub_self] at hx'
      cases hx'; exact ha
    · rw [List.getElem?_eq_none (by omega)] at hx'; cases hx'
  · rw [zu_s, el, nI_1]; rfl
  · rw [zu_n nLE, zu_s, nI_clamp (by omega)]
  · rcases Nat.lt_trichotomy i l.length with hi | hi | hi
    · rw [List.getElem?_append_left hi] at hx'
      rw [va_up_n (by omega)]; exact hf i x hx'
    · subst hi
      rw [List.getElem?_append_right (Nat.le_refl _), Nat.sub_self] at hx'
      cases hx'; exact va_up_s
    · rw [List.getElem?_eq_none (by omega)] at hx'; cases hx'
theorem c_addL {post : Int32 → zM → Prop} {k n : Nat} (h : zol D M0 I M L E l) (hz : zle I M) (hz0 : zle M0 M) (ha : zis I a (zok 5)) (hl : l.length ≤ 125) (hk : 1 ≤ k) (hn : 300 ≤ n)
    (hp : ∀ M' E', ext (fun x => x = L ∨ (x = E ∧ I x = none)) I M I M' → (E' = E ∨ M E' = none) → zol D M0 I M' L E' (l ++ [a]) → post 1 M') : zis M L [26] ∧ wp_J3_add D post k n L (some a) M := by
  obtain ⟨h0, hIL, hL, hel, mc, cap, f, h1, h2, h3, h4, h5, h6⟩ := h
  refine ⟨cis h1 (by decide), ?_⟩
  unfold wp_J3_add
  have nLE : E ≠ L := kn_ne h2 h1 (by simp)
  refine cgI h1 rfl (cp h1 hL (by simp) (cgR (x := some E) zu_s rfl (cgI zu_s rfl ⟨cis zu_s (by decide), k, n, Nat.le_refl _, Nat.le_refl _, ?_⟩)))
  have hx1 : ext (fun x => x = L ∨ (x = E ∧ I x = none)) I M I (zu M L (some (.inr (26, [.int (mc + 1), .ref E, .int (nI l.length)])))) := ext_p (ext_r hz) (Or.inl (Or.inl rfl)) hIL
  have h2' : ∀ e, zu M L e E = some (.inl (5, cap, .inr (.inr (.inr (.inr f))))) := fun e => by rw [zu_n nLE]; exact h2
  have hz1 : zle I (zu M L (some (.inr (26, [.int (mc + 1), .ref E, .int (nI l.length)])))) := zle_put hz hIL
  have hz01 : zle M0 (zu M L (some (.inr (26, [.int (mc + 1), .ref E, .int (nI l.length)])))) := zle_put hz0 h0
  unfold wp_J3_add_2
  refine czd (clen (h2' _) (by decide) ?_)
  rw [nI_eq (by omega) (by omega)]
  refine ⟨fun z => ?_, fun z => ⟨cis zu_s (by decide), k, n, Nat.le_refl _, Nat.le_refl _, ?_⟩⟩
  · rcases h6 with ⟨h6, h7⟩ | h6
    · omega
    · exact c_addE h0 hIL hL hz1 hx1 (Or.inl (Or.inl rfl)) (Or.inl (Or.inr ⟨rfl, h6.1⟩)) hel zu_s (h2' _) (by omega) (by omega) (by omega) h5 ⟨h6.1, h6.2.1, h6.2.2.1⟩ ha fun M' hx' ho => ⟨rfl, hp M' E hx' (Or.inl rfl) ho⟩
  · unfold wp_J3_grow_2 wp_J3_grow
    refine cgI zu_s rfl ⟨cis zu_s (by decide), k, n, Nat.le_refl _, Nat.le_refl _, cgR (x := some E) zu_s rfl (czd (clen (h2' _) (by decide) ?_))⟩
    rw [show (0 : Int32) = nI 0 from rfl, nI_ltI (by decide) (by omega), nI_1]
    refine ⟨fun z2 => ?_, fun z2 => cgR (x := some E) zu_s rfl ⟨fun z3 => ?_, fun z3 => ?_⟩⟩
    · -- a longer array, copied
      unfold wp_J3_grow_L20 wp_J4_newLength
      subst z
      rw [nI_sub (by omega), show l.length + 1 - l.length = 1 by omega, nI_half (by omega)]
      refine c_max (by omega) (by omega) ?_
      rw [nI_add]
      generalize hnc : l.length + max 1 (l.length / 2) = nc
      rw [show (0 : Int32) = nI 0 from rfl, nI_leI (by omega) (by decide), show (2147483639 : Int32) = nI 2147483639 from rfl, nI_ltI (by decide) (by omega)]
      refine ⟨fun z4 => by omega, fun _ => ⟨fun z4 => by omega, fun _ => cgR (x := some E) zu_s rfl ⟨k, n, Nat.le_refl _, Nat.le_refl _, ?_⟩⟩⟩
      have h6' := h6.resolve_left (fun y => by omega)
      unfold wp_J5_copyOf wp_J5_copyOf_2
      refine czd ⟨⟨h6'.2.2.1, _, h2' _⟩, k, n, Nat.le_refl _, Nat.le_refl _, fun y => absurd rfl y, fun _ => znA (by omega) (by omega) (by omega) fun b hb hb0 => czd (clen (kw (h2' _) hb) (by decide) (c_min (by omega) (by omega) ?_))⟩
      rw [Nat.min_eq_left (by omega)]
      have nbL : b ≠ L := fun y => by rw [y, zu_s] at hb; cases hb
      have nbE : b ≠ E := fun y => by rw [y, h2'] at hb; cases hb
      have hMb : M b = none := by rw [zu_n nbL] at hb; exact hb
      refine ⟨l.length, nc, f, fun _ => none, kw (h2' _) hb, zu_s, hb0, by decide, by decide, nI_pos (by omega), ?_, ?_, fun i hi w hw => ?_, ?_⟩
      · rw [nI_clamp (by omega)]; show 0 + l.length ≤ _; omega
      · rw [nI_clamp (by omega)]; show 0 + l.length ≤ _; omega
      · rw [nI_clamp (by omega)] at hi
        obtain ⟨x, hx⟩ : ∃ x, l[i]? = some x := ⟨l[i], List.getElem?_eq_getElem hi⟩
        have e0 : (0 : Int32).toNatClampNeg + i = i := Nat.zero_add i
        rw [e0, h5 i x hx] at hw
        cases hw
        exact zis_m (zle_new hz1 hb) (hel i _ hx)
      · rw [zu_zu, nI_clamp (by omega)]
        have hx2 := ext_m (e := .inl (5, nc, .inr (.inr (.inr (.inr (va_cpy f (fun _ => none) (0 : Int32).toNatClampNeg (0 : Int32).toNatClampNeg l.length)))))) hx1 hb
        refine cp (kw zu_s hb) hL (by simp) ?_
        refine c_addE (cap := nc) (f := va_cpy f (fun _ => none) (0 : Int32).toNatClampNeg (0 : Int32).toNatClampNeg l.length) h0 hIL hL (zle_put (zle_new hz1 hb) hIL) (ext_p hx2 (Or.inl (Or.inl rfl)) hIL) (Or.inl (Or.inl rfl)) (Or.inr hMb) hel zu_s (by rw [zu_n nbL, zu_s]) (by omega) (by omega) (by omega) (fun i x hx => ?_) ⟨none_I hz1 hb, none_0 hz01 hb, hb0⟩ ha fun M' hx' ho => ⟨rfl, hp M' b hx' (Or.inr hMb) ho⟩
        have hi := (List.getElem?_eq_some_iff.mp hx).1
        have e0 : (0 : Int32).toNatClampNeg = 0 := rfl
        unfold va_cpy
        rw [e0, if_pos ⟨Nat.zero_le _, by omega⟩, Nat.sub_zero, Nat.zero_add]
        exact h5 i x hx
    · -- the first ten
      have hl0 : l.length = 0 := by omega
      rw [show (10 : Int32) = nI 10 from rfl]
      refine c_max (by decide) (by omega) ?_
      rw [show max 10 (l.length + 1) = 10 by omega]
      refine znA (m := 10) (by decide) (by omega) (by omega) fun b hb hb0 => ?_
      have nbL : b ≠ L := fun y => by rw [y, zu_s] at hb; cases hb
      have hMb : M b = none := by rw [zu_n nbL] at hb; exact hb
      refine cp (kw zu_s hb) hL (by simp) ?_
      have hx2 := ext_m (e := .inl (5, 10, .inr (.inr (.inr (.inr (fun _ => none)))))) hx1 hb
      have := c_addE (k := k - k) (n := n - n) (cap := 10) (f := fun _ => none) (M1 := zu (zu (zu M L (some (.inr (26, [.int (mc + 1), .ref E, .int (nI l.length)])))) b (some (.inl (5, 10, .inr (.inr (.inr (.inr (fun _ => none)))))))) L (some (.inr (26, [.int (mc + 1), .ref b, .int (nI l.length)])))) h0 hIL hL (zle_put (zle_new hz1 hb) hIL) (ext_p hx2 (Or.inl (Or.inl rfl)) hIL) (Or.inl (Or.inl rfl)) (Or.inr hMb) hel zu_s (by rw [zu_n nbL, zu_s]) (by omega) (by omega) (by omega) (fun i x hx => by have hi := (List.getElem?_eq_some_iff.mp hx).1; omega) ⟨none_I hz1 hb, none_0 hz01 hb, hb0⟩ ha (post := fun _ M => narrow .boolean (.int (1 : Int32)) = .int (1 : Int32) ∧ post 1 M) fun M' hx' ho => ⟨rfl, hp M' b hx' (Or.inr hMb) ho⟩
      exact this
    · exfalso
      rcases h6 with ⟨h6, h7⟩ | h6
      · exact z3 (by rw [h6])
      · omega
end RD1
