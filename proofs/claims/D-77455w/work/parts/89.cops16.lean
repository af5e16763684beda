/-! the component's sheet: letters one by one, numbers -/
def she (D : zD) (M0 : zM) (s b L : Nat) (T h : Option Nat) (txt : List Int32) (M : zM) : Prop := zle M0 M ∧ M0 s = none ∧ M0 b = none ∧ zB D ≤ s ∧ zB D ≤ b ∧ (txt.length ≤ 360 ∧ ∀ c ∈ txt, zb c 128 = true) ∧ M s = some (.inr (25, [.ref b, .int (nI txt.length), .ref L, va_rf T, va_rf h])) ∧
  ∃ f : Nat → Int32, M b = some (.inl (1, 360, .inl f)) ∧ ∀ i c, txt[i]? = some c → f i = c
theorem zbyte {c : Int32} (h : zb c 128 = true) : vp_nar .byte (c.toInt8.toInt32) = c := by
  obtain ⟨q, hq, rfl⟩ := zb_of h (by decide)
  have h1 : ∀ q : Fin 128, vp_nar .byte ((nI q.val).toInt8.toInt32) = nI q.val := by decide +kernel
  exact h1 ⟨q, hq⟩
theorem zb_n {j n : Nat} (h : j < n) (hn : n < 2 ^ 31) : zb (nI j) n = true := zb_iff.mpr (vp_in_nI h hn)
theorem zpt_b (l : Nat) : zb (zpt l) 128 = true := by unfold zpt; split <;> decide
theorem zgs_b (l : Nat) : zb (zgs l) 128 = true := by unfold zgs; split <;> decide
section SH
variable {D : zD} {M0 M : zM} {s b L : Nat} {T h : Option Nat} {txt : List Int32}
theorem she_m {M' : zM} (hs : she D M0 s b L T h txt M) (hz : zle M M') : she D M0 s b L T h txt M' := by
  obtain ⟨h1, h2, h3, h4, h5, h9, h6, f, h7, h8⟩ := hs
  exact ⟨zle_t h1 hz, h2, h3, h4, h5, h9, hz _ _ h6, f, hz _ _ h7, h8⟩
theorem she_i (hs : she D M0 s b L T h txt M) : zis M s [25] := by
  obtain ⟨h1, h2, h3, h4, h5, h9, h6, -⟩ := hs
  exact cis h6 (by decide)
theorem she_l (hs : she D M0 s b L T h txt M) : zle M0 M := hs.1
theorem she_9 (hs : she D M0 s b L T h txt M) : txt.length ≤ 360 ∧ ∀ c ∈ txt, zb c 128 = true := by
  obtain ⟨h1, h2, h3, h4, h5, h9, -⟩ := hs
  exact h9
theorem she_L {Φ : Option Nat → Prop} (hs : she D M0 s b L T h txt M) (hp : Φ (some L)) : zgR M s 25 2 Φ := by
  obtain ⟨h1, h2, h3, h4, h5, h9, h6, -⟩ := hs
  exact cgR (x := some L) h6 rfl hp
theorem she_T {Φ : Option Nat → Prop} (hs : she D M0 s b L T h txt M) (hp : Φ T) : zgR M s 25 3 Φ := by
  obtain ⟨h1, h2, h3, h4, h5, h9, h6, -⟩ := hs
  exact cgR (x := T) h6 rfl hp
theorem she_h {Φ : Option Nat → Prop} (hs : she D M0 s b L T h txt M) (hp : Φ h) : zgR M s 25 4 Φ := by
  obtain ⟨h1, h2, h3, h4, h5, h9, h6, -⟩ := hs
  exact cgR (x := h) h6 rfl hp
theorem she_n {Φ : Int32 → Prop} (hs : she D M0 s b L T h txt M) (hp : Φ (nI txt.length)) : zgI M s 25 1 Φ := by
  obtain ⟨h1, h2, h3, h4, h5, h9, h6, -⟩ := hs
  exact cgI h6 rfl hp
/-- the decimal in the sheet is set -/
theorem she_p {h' : Option Nat} {Φ : zM → Prop} (hs : she D M0 s b L T h txt M) (hp : ∀ M', she D M0 s b L T h' txt M' → (∀ a, a ≠ s → M' a = M a) → Φ M') : zp D M s 25 4 (va_rf h') Φ := by
  obtain ⟨h1, h2, h3, h4, h5, h9, h6, f, h7, h8⟩ := hs
  have nsb : b ≠ s := kn_ne h7 h6 (by simp)
  exact cp h6 h4 (by simp) (hp _ ⟨zle_put h1 h2, h2, h3, h4, h5, h9, zu_s, f, by rw [zu_n nsb]; exact h7, h8⟩ fun a ha => zu_n ha)
theorem c_put {post : Unit → zM → Prop} {c : Int32} (hs : she D M0 s b L T h txt M) (hc : zb c 128 = true) (hl : txt.length < 360) (hp : ∀ M', she D M0 s b L T h (txt ++ [c]) M' → post () M') : zis M s [25] ∧ wp_X28_put D post s c M := by
  refine ⟨she_i hs, ?_⟩
  obtain ⟨h1, h2, h3, h4, h5, h9, h6, f, h7, h8⟩ := hs
  have nsb : s ≠ b := kn_ne h6 h7 (by simp)
  unfold wp_X28_put
  refine cgR (x := some b) h6 rfl (cgI h6 rfl (czd (csB h7 h5 (vp_in_nI hl (by decide)) ?_)))
  have h6' : ∀ e, zu M b e s = some (.inr (25, [.ref b, .int (nI txt.length), .ref L, va_rf T, va_rf h])) := fun e => by rw [zu_n nsb]; exact h6
  refine cgI (h6' _) rfl (cp (h6' _) h4 (by simp) (hp _ ⟨zle_put (zle_put h1 h3) h2, h2, h3, h4, h5, ⟨by rw [List.length_append]; simp only [List.length_cons, List.length_nil]; omega, fun x hx => (List.mem_append.mp hx).elim (h9.2 x) (fun y => by rw [List.mem_singleton.mp y]; exact hc)⟩, ?_, upd f txt.length c, ?_, app_at (fun i x hx => ?_) updS⟩))
  · rw [zu_s, nI_1, List.length_append]; rfl
  · rw [zu_n nsb.symm, zu_s, nI_clamp (by omega), zbyte hc]
  · rw [updN (by have := (List.getElem?_eq_some_iff.mp hx).1; omega)]; exact h8 i x hx
/-- a number's digit -/
theorem zdig {v n : Nat} (hv : v < 2 ^ 63) (hn : n ≤ 18) : ((48 : Int32) + (((lN v / lN (10 ^ n)) - (lN v / lN (10 ^ n)) / (10 : Int64) * (10 : Int64)).toInt32)) = nI (48 + v / 10 ^ n % 10) := by
  have hp := p10_lt hn
  rw [l3_div hv hp, show (10 : Int64) = lN 10 from rfl, l3_mod (Nat.lt_of_le_of_lt (Nat.div_le_self _ _) hv) (by decide)]
  rw [show (lN (v / 10 ^ n % 10)).toInt32 = nI (v / 10 ^ n % 10) by
    have h := lN_i (n := v / 10 ^ n % 10)
    exact h]
  rw [show (48 : Int32) = nI 48 from rfl, nI_add]
theorem zdig_b {v n : Nat} : zb (nI (48 + v / 10 ^ n % 10)) 128 = true := zb_n (by omega) (by decide)
theorem c_numL {post : Unit → zM → Prop} {v : Nat} (hv : v < 2 ^ 63) : ∀ (m f : Nat) (txt : List Int32) (M : zM), m ≤ 18 → m < f → she D M0 s b L T h txt M → txt.length + m ≤ 360 → (∀ M', she D M0 s b L T h (txt ++ zdt m v) M' → post () M') →
    wp_X28_number_L36 D post s f (lN v) (nI m - 1) M := by
  intro m
  induction m with
  | zero =>
    intro f txt M _ hf hs hl hp
    obtain ⟨f, rfl⟩ : ∃ g, f = g + 1 := ⟨f - 1, by omega⟩
    unfold wp_X28_number_L36
    refine ⟨fun _ => hp M (by rw [zdt, List.append_nil]; exact hs), fun z => absurd (by decide) z⟩
  | succ m ih =>
    intro f txt M hm hf hs hl hp
    obtain ⟨f, rfl⟩ : ∃ g, f = g + 1 := ⟨f - 1, by omega⟩
    rw [nI_pred]
    unfold wp_X28_number_L36
    refine ⟨fun z => absurd z (nI_pos (by omega)), fun _ => c_tens (by omega) ⟨l3_ne0 (p10_pos m) (p10_lt (by omega)), ?_⟩⟩
    rw [zdig hv (by omega), ← Int32.sub_eq_add_neg]
    refine c_put hs zdig_b (by omega) fun M' hs' => ?_
    refine ih f _ M' (by omega) (by omega) hs' (by rw [List.length_append]; simp only [List.length_cons, List.length_nil]; omega) fun M'' hs'' => hp M'' ?_
    rw [List.append_assoc] at hs''
    exact hs''
theorem c_number {post : Unit → zM → Prop} {v many : Nat} (hv : v < 10 ^ 18) (hm : many ≤ 18) (hs : she D M0 s b L T h txt M) (hl : txt.length + max many (znd v) ≤ 360) (hp : ∀ M', she D M0 s b L T h (txt ++ zdl many v) M' → post () M') : zis M s [25] ∧ wp_X28_number D post s (lN v) (nI many) M := by
  have hv' : v < 2 ^ 63 := Nat.lt_trans hv (by decide)
  have hz := znd_pos v
  have hz2 : znd v ≤ 18 := znd_le (by decide) hv
  have hzl := znd_lt hv
  have loop : ∀ f i : Nat, 1 ≤ i → i ≤ znd v → znd v - i < f → wp_X28_number_L3 D post s f (lN v) (nI many) (nI i) M := by
    intro f
    induction f with
    | zero => intro i _ _ hf; omega
    | succ f ih =>
      intro i h1 hi hf
      unfold wp_X28_number_L3
      have out : znd v ≤ i → wp_X28_number_L26 D post s (lN v) (nI many) (nI i) M := by
        intro hge
        have : i = znd v := by omega
        subst this
        unfold wp_X28_number_L26
        refine c_max (by omega) (by omega) ⟨max (znd v) many + 1, ?_⟩
        rw [Nat.max_comm]
        exact c_numL hv' _ _ txt M (by omega) (by omega) hs hl hp
      rw [show (19 : Int32) = nI 19 from rfl, nI_leI (by decide) (by omega)]
      refine ⟨fun z => out (by omega), fun z => c_tens (by omega) ?_⟩
      rw [lgc_lt, l3_lt hv' (p10_lt (by omega))]
      refine ⟨fun z2 => out (znd_le h1 z2), fun z2 => ?_⟩
      rw [nI_1]
      have : ¬ znd v ≤ i := fun y => z2 (Nat.lt_of_lt_of_le hzl (Nat.pow_le_pow_right (by decide) y))
      exact ih (i + 1) (by omega) (by omega) (by omega)
  exact ⟨she_i hs, znd v + 1, loop _ 1 (Nat.le_refl _) hz (by omega)⟩
/-- the language's number of an object -/
def zla (D : zD) (M : zM) (a l : Nat) : Prop := l < 7 ∧ ∃ (Q T : Nat), M a = some (.inr (zLc l, .ref Q :: .ref T :: zLj D l))
theorem zla_c {a l : Nat} (hl : zla D M a l) : ((l = 1 ∨ l = 2 ∨ l = 3) ∧ zis M a [2, 4]) ∨ (l = 4 ∧ zis M a [2, 4]) ∨ (l = 5 ∧ zis M a [5]) ∨ ((l = 0 ∨ l = 6) ∧ zis M a [6]) := by
  obtain ⟨h7, Q, T, h1⟩ := hl
  have h9 : l = 0 ∨ l = 1 ∨ l = 2 ∨ l = 3 ∨ l = 4 ∨ l = 5 ∨ l = 6 := by omega
  rcases h9 with e | e | e | e | e | e | e <;> subst e
  · exact Or.inr (Or.inr (Or.inr ⟨Or.inl rfl, cis h1 (by decide)⟩))
  · exact Or.inl ⟨Or.inl rfl, cis h1 (by decide)⟩
  · exact Or.inl ⟨Or.inr (Or.inl rfl), cis h1 (by decide)⟩
  · exact Or.inl ⟨Or.inr (Or.inr rfl), cis h1 (by decide)⟩
  · exact Or.inr (Or.inl ⟨rfl, cis h1 (by decide)⟩)
  · exact Or.inr (Or.inr (Or.inl ⟨rfl, cis h1 (by decide)⟩))
  · exact Or.inr (Or.inr (Or.inr ⟨Or.inr rfl, cis h1 (by decide)⟩))
theorem c_pnt {P : Int32 → zM → Prop} {a l : Nat} (hl : zla D M a l) (h : P (zpt l) M) : (zis M a [2, 4] ∧ wp_X2_point D P a M) ∨ (zis M a [5] ∧ wp_X6_point D P a M) ∨ (zis M a [6] ∧ wp_X7_point D P a M) := by
  unfold zpt at h
  rcases zla_c hl with ⟨e, z⟩ | ⟨e, z⟩ | ⟨e, z⟩ | ⟨e, z⟩
  · rw [if_neg (by omega)] at h; exact Or.inl ⟨z, h⟩
  · rw [if_neg (by omega)] at h; exact Or.inl ⟨z, h⟩
  · rw [if_pos (by omega)] at h; exact Or.inr (Or.inl ⟨z, h⟩)
  · rw [if_pos (by omega)] at h; exact Or.inr (Or.inr ⟨z, h⟩)
theorem c_grp {P : Int32 → zM → Prop} {a l : Nat} (hl : zla D M a l) (h : P (zgs l) M) : (zis M a [2, 4] ∧ wp_X2_group D P a M) ∨ (zis M a [5] ∧ wp_X6_group D P a M) ∨ (zis M a [6] ∧ wp_X7_group D P a M) := by
  unfold zgs at h
  rcases zla_c hl with ⟨e, z⟩ | ⟨e, z⟩ | ⟨e, z⟩ | ⟨e, z⟩
  · rw [if_neg (by omega)] at h; exact Or.inl ⟨z, h⟩
  · rw [if_neg (by omega)] at h; exact Or.inl ⟨z, h⟩
  · rw [if_pos (by omega)] at h; exact Or.inr (Or.inl ⟨z, h⟩)
  · rw [if_pos (by omega)] at h; exact Or.inr (Or.inr ⟨z, h⟩)
theorem zla_m {M' : zM} {a l : Nat} (hl : zla D M a l) (hz : zle M M') : zla D M' a l := by
  obtain ⟨h7, Q, T, h1⟩ := hl
  exact ⟨h7, Q, T, hz _ _ h1⟩
theorem zdt_b : ∀ (n v : Nat), ∀ c ∈ zdt n v, zb c 128 = true
  | 0, _, c, h => by cases h
  | n + 1, v, c, h => by
    rw [zdt] at h
    rcases List.mem_cons.mp h with h | h
    · subst h; exact zdig_b
    · exact zdt_b n v c h
theorem she_new {x : Nat} {e : zV} (hs : she D M0 s b L T h txt M) (hx : M x = none) : she D (zu M0 x (some e)) s b L T h txt (zu M x (some e)) := by
  obtain ⟨h1, h2, h3, h4, h5, h9, h6, f, h7, h8⟩ := hs
  have n1 : s ≠ x := fun z => by rw [z, hx] at h6; cases h6
  have n2 : b ≠ x := fun z => by rw [z, hx] at h7; cases h7
  refine ⟨fun a v hv => ?_, by rw [zu_n n1]; exact h2, by rw [zu_n n2]; exact h3, h4, h5, h9, by rw [zu_n n1]; exact h6, f, by rw [zu_n n2]; exact h7, h8⟩
  by_cases ha : a = x
  · subst ha; rw [zu_s] at hv ⊢; exact hv
  · rw [zu_n ha] at hv ⊢; exact h1 _ _ hv
theorem she_back {x : Nat} {e : zV} {M' : zM} {txt' : List Int32} {h' : Option Nat} (hs : she D M0 s b L T h txt M) (hx : M x = none) (hs' : she D (zu M0 x (some e)) s b L T h' txt' M') : she D M0 s b L T h' txt' M' := by
  obtain ⟨h1, h2, h3, h4, h5, h9, h6, -⟩ := hs
  obtain ⟨k1, k2, k3, k4⟩ := hs'
  refine ⟨fun a v hv => k1 _ _ ?_, h2, h3, k4⟩
  have : a ≠ x := fun z => by rw [z] at hv; rw [h1 _ _ hv] at hx; cases hx
  rw [zu_n this]; exact hv
/-- a decimal written plainly -/
theorem c_plainly {post : Unit → zM → Prop} {a k l : Nat} {d : Int32} (ha : zDe M0 a d k) (hk : k ≤ 6) (hla : zla D M0 L l) (hs : she D M0 s b L T h txt M) (hl : txt.length ≤ 335) (hp : ∀ M', she D M0 s b L T h (txt ++ zpd l d k) M' → post () M') : zis M s [25] ∧ wp_X28_plainly D post s (some a) M := by
  have hd := zab_lt d
  have hp1 := p10_lt (k := k) (by omega)
  have hq := p10_pos k
  have hu : zab d < 10 ^ 18 := Nat.lt_of_le_of_lt hd (by decide)
  have hu1 : zab d / 10 ^ k < 10 ^ 18 := Nat.lt_of_le_of_lt (Nat.div_le_self _ _) hu
  have hu2 : zab d % 10 ^ k < 10 ^ 18 := Nat.lt_of_le_of_lt (Nat.mod_le _ _) hu
  have hz1 : znd (zab d / 10 ^ k) ≤ 10 := znd_le (by decide) (Nat.lt_of_le_of_lt (Nat.le_trans (Nat.div_le_self _ _) hd) (by decide))
  have hz2 : znd (zab d % 10 ^ k) ≤ 10 := znd_le (by decide) (Nat.lt_of_le_of_lt (Nat.le_trans (Nat.mod_le _ _) hd) (by decide))
  refine ⟨she_i hs, ?_⟩
  unfold wp_X28_plainly
  unfold zpd at hp
  have main : ∀ (t : List Int32) (M : zM), t.length ≤ 336 → she D M0 s b L T h t M → (∀ M', she D M0 s b L T h (t ++ (zdl 1 (zab d / 10 ^ k) ++ (if k = 0 then [] else zpt l :: zdl k (zab d % 10 ^ k)))) M' → post () M') → wp_X28_plainly_L13 D post s (some a) M := by
    intro t M ht hs hp
    unfold wp_X28_plainly_L13 wp_X28_plainly_L37 wp_X28_plainly_L52
    refine czd (cgL (she_l hs _ _ ha) rfl (c_number (many := 1) hu1 (by decide) hs (by omega) fun M' hs' => cgI (she_l hs' _ _ ha) rfl ?_))
    rw [show (0 : Int32) = nI 0 from rfl, nI_leI (by omega) (by decide)]
    have hll := zdl_len 1 (zab d / 10 ^ k)
    refine ⟨fun z => hp M' ?_, fun z => she_L hs' (czd (c_pnt (zla_m hla (she_l hs')) ?_))⟩
    · rw [if_pos (by omega), List.append_nil]; exact hs'
    · refine czd (c_put hs' (zpt_b l) (by rw [List.length_append, hll]; omega) fun M2 hs2 => czd (cgL (she_l hs2 _ _ ha) rfl (cgI (she_l hs2 _ _ ha) rfl (c_number hu2 (by omega) hs2 ?_ fun M3 hs3 => hp M3 ?_))))
      · rw [List.length_append, List.length_append, hll]; simp only [List.length_cons, List.length_nil]; omega
      · rw [if_neg (by omega)]
        have e : t ++ (zdl 1 (zab d / 10 ^ k) ++ zpt l :: zdl k (zab d % 10 ^ k)) = t ++ zdl 1 (zab d / 10 ^ k) ++ [zpt l] ++ zdl k (zab d % 10 ^ k) := by simp only [List.append_assoc, List.singleton_append]
        rw [e]; exact hs3
  refine czd (cgI (she_l hs _ _ ha) rfl ?_)
  rw [i0_le]
  refine ⟨fun z => main txt M (by omega) hs fun M' hs' => hp M' ?_, fun z => ?_⟩
  · rw [if_neg z, List.nil_append]; exact hs'
  · have z' : d < 0 := Classical.not_not.mp z
    refine c_put hs (by decide) (by omega) fun M2 hs2 => main _ M2 (by rw [List.length_append]; simp only [List.length_cons, List.length_nil]; omega) hs2 fun M' hs' => hp M' ?_
    rw [if_pos z']
    simp only [List.append_assoc] at hs' ⊢
    exact hs'
end SH
