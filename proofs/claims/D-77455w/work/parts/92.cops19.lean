/-! the component takes a sheet's letters over; shape -/
section SH3
variable {D : zD} {X : zSg} {B : Nat → Nat} {I M0 M : zM} {s b L : Nat} {T h : Option Nat} {txt : List Int32}
theorem csh {n : Nat} {f g : Nat → Int32} : va_cpy f g (0 : Int32).toNatClampNeg (0 : Int32).toNatClampNeg n = fun x => if x < n then f x else g x := by
  funext x
  unfold va_cpy
  have e : (0 : Int32).toNatClampNeg = 0 := rfl
  rw [e]
  by_cases hx : x < n
  · rw [if_pos (by omega), if_pos hx, Nat.sub_zero, Nat.zero_add]
  · rw [if_neg (by omega), if_neg hx]
theorem zfit {c : Int32} (h : zb c 128 = true) : fits .byte (.int c) = true := by
  obtain ⟨q, hq, rfl⟩ := zb_of h (by decide)
  have h1 : ∀ q : Fin 128, fits .byte (.int (nI q.val)) = true := by decide +kernel
  exact h1 ⟨q, hq⟩
theorem c_takes {post : Int32 → zM → Prop} (hR : RC D X B I M0) (hz : zle I M0) (hs : she D M0 s b L T h txt M) (hl : txt.length ≤ 240) (hp : done D X B I M0 (xO X txt) (post (nI txt.length))) : zis M (B 0) [0] ∧ wp_X0_takes D post (B 0) (some s) M := by
  obtain ⟨h1, h2, h3, h4, h5, h9, h6, f, h7, h8⟩ := hs
  have ho := h1 _ _ hR.1
  refine ⟨cis ho (by decide), ?_⟩
  obtain ⟨w1, g, w2, w3⟩ := hR.2.1
  have hw := h1 _ _ w2
  have n01 : B 0 ≠ B 1 := RC_ne hR (mu_i (by decide)) (mu_i (by decide)) (by decide)
  have ns0 : s ≠ B 0 := fun z => by rw [z, hR.1] at h2; cases h2
  have ns1 : s ≠ B 1 := fun z => by rw [z, w2] at h2; cases h2
  have hx0 : ext (muA X B) I M0 I M := ext_le hz h1
  unfold wp_X0_takes
  refine czd (cgR (x := some b) h6 rfl (cgR (x := some (B 1)) ho rfl (cgI h6 rfl (czd (czd ⟨360, 240, f, g, h7, hw, RC_b hR (by decide), by decide, by decide, nI_pos (by omega), ?_, ?_, fun i hi => ?_, ?_⟩)))))
  · rw [nI_clamp (by omega)]; show 0 + txt.length ≤ 360; omega
  · rw [nI_clamp (by omega)]; show 0 + txt.length ≤ 240; omega
  · rw [nI_clamp (by omega)] at hi
    obtain ⟨c, hc1⟩ : ∃ c, txt[i]? = some c := ⟨txt[i], List.getElem?_eq_getElem hi⟩
    have e : f ((0 : Int32).toNatClampNeg + i) = c := by
      rw [show (0 : Int32).toNatClampNeg + i = i from Nat.zero_add i]
      exact h8 i c hc1
    rw [e]
    exact zfit (h9.2 c (List.mem_of_getElem? hc1))
  · rw [nI_clamp (by omega), csh]
    have k6 : ∀ e, zu M (B 1) e s = some (.inr (25, [.ref b, .int (nI txt.length), .ref L, va_rf T, va_rf h])) := fun e => by rw [zu_n ns1]; exact h6
    have ho' : ∀ e, zu M (B 1) e (B 0) = some (.inr (0, [.ref (B 2), .ref (B 1), .int (nI X.2.2.2.2.1.length), .ref (B 3), .int (nI X.2.1.length), .ref (B 5), .ref (B 6), .ref (B 7)])) := fun e => by rw [zu_n n01]; exact ho
    refine cgI (k6 _) rfl (cp (ho' _) (RC_b hR (by decide)) (by simp) (cgI zu_s rfl ?_))
    have hx : ext (muA X B) I M0 I (zu (zu M (B 1) (some (.inl (1, 240, .inl (fun x => if x < txt.length then f x else g x))))) (B 0) (some (.inr (0, [.ref (B 2), .ref (B 1), .int (nI txt.length), .ref (B 3), .int (nI X.2.1.length), .ref (B 5), .ref (B 6), .ref (B 7)])))) :=
      ext_p (ext_p hx0 (Or.inl (mu_a (by decide))) (RC_i hR (by decide))) (Or.inl (mu_a (by decide))) (RC_i hR (by decide))
    obtain ⟨k1, k2, k3, k4, k5, k6, k7⟩ := RC_k hR [0, 1] hx.1 (RC_1 hR hx (J := [0, 1]) (f := fun _ => .inr (0, [])) (by intro j hj; exact mu_i (by revert j; decide)) (fun a e ha hn => by
      rw [zu_n (hn 0 (by decide)), zu_n (hn 1 (by decide))]; exact h1 _ _ ha))
    refine fin hp rfl hx ⟨?_, ⟨hl, fun x => if x < txt.length then f x else g x, ?_, fun i c hc1 => ?_⟩, k3 (by decide), k4 (by decide), k5 (by decide), k6 (by decide), k7 (by decide) (by decide), RC_u (X' := xO X txt) hR hx rfl⟩
    · unfold RCo
      rw [zu_s]; rfl
    · rw [zu_n n01.symm, zu_s]
    · have hc2 : txt[i]? = some c := hc1
      show (if i < txt.length then f i else g i) = c
      rw [if_pos (List.getElem?_eq_some_iff.mp hc2).1]
      exact h8 i c hc2
/-- a sheet is made -/
theorem c_sheet {post : Unit → zM → Prop} {k n : Nat} (h0 : M0 s = none) (hs0 : zB D ≤ s) (hz : zle M0 M) (hM : M s = some (.inr (25, [.null, .int 0, .null, .null, .null]))) (hk : 1 ≤ k) (hn : 360 ≤ n) (hp : ∀ b M', she D M0 s b L T none [] M' → post () M') : wp_X28_init D post k n s (some L) T M := by
  unfold wp_X28_init
  refine znA (m := 360) (by decide) hk hn fun b hb hb0 => cp (kw hM hb) hs0 (by simp) (cp zu_s hs0 (by simp) (cp zu_s hs0 (by simp) (hp b _ ?_)))
  have nsb : b ≠ s := fun z => by rw [z, hM] at hb; cases hb
  have hb' : M0 b = none := by
    cases e : M0 b with
    | none => rfl
    | some v => rw [hz _ _ e] at hb; cases hb
  rw [zu_zu, zu_zu]
  refine ⟨zle_put (zle_new hz hb) h0, h0, hb', hs0, hb0, ⟨by simp, fun c hc => by cases hc⟩, ?_, fun _ => 0, ?_, fun i c hc => by cases hc⟩
  · rw [zu_s]; rfl
  · rw [zu_n nsb, zu_s]; rfl
/-- languages as objects -/
theorem RC_la (hR : RC D X B I M) (hz : zle I M) {l : Nat} (hl : l < 7) : ∃ (f : Nat → Option Nat) (a T : Nat), M (B 2) = some (.inl (6, 7, .inr (.inr (.inr (.inr f))))) ∧ f l = some a ∧ zla D M a l ∧ zLa M a (zLc l) (zof X.1 l) T ∧ zTr M T := by
  obtain ⟨f, T, h1, h2, h3⟩ := RC_le hR hz
  obtain ⟨a, h4, h5⟩ := h3 l hl
  refine ⟨f, a, T, h1, h4, ⟨hl, ?_⟩, h5, h2⟩
  obtain ⟨-, -, -, -, -, -, ⟨f', T', k1, -, k3, ⟨a6, k4, k5⟩, -⟩, -⟩ := hR
  have e := hz _ _ k1
  rw [h1] at e
  simp only [Option.some.injEq, Sum.inl.injEq, Prod.mk.injEq, true_and, Sum.inr.injEq] at e
  subst e
  rcases Nat.lt_or_ge l 6 with hl6 | hl6
  · obtain ⟨a', L, q1, q2, -⟩ := k3 l hl6
    rw [h4] at q1
    cases q1
    exact ⟨L, T', hz _ _ q2⟩
  · have : l = 6 := by omega
    subst this
    rw [h4] at k4
    cases k4
    exact ⟨B 20, T', hz _ _ k5⟩
def zSb (l : List Int32) : Prop := ∀ c ∈ l, zb c 128 = true
def sp_shape (X : zSg) (l d k w e m g : Int32) : Int32 × zSg := if zshok l k w e m g then (nI (zsh l.toNatClampNeg d k.toNatClampNeg (decide (g = 1)) w.toNatClampNeg e.toNatClampNeg (e.toNatClampNeg + m.toNatClampNeg)).length, xO X (zsh l.toNatClampNeg d k.toNatClampNeg (decide (g = 1)) w.toNatClampNeg e.toNatClampNeg (e.toNatClampNeg + m.toNatClampNeg))) else (-1, X)
theorem c_shape {post : Int32 → zM → Prop} {k n : Nat} {l d c w e m g : Int32} (hR : RC D X B I M) (hz : zle I M) (hk : 10 ≤ k) (hn : 500 ≤ n) (h : done D X B I M (sp_shape X l d c w e m g).2 (post (sp_shape X l d c w e m g).1)) : wp_X0_shape D post k n (B 0) l d c w e m g M := by
  unfold sp_shape at h
  have hno : zshok l c w e m g = false → wp_X0_shape_L64 D post (B 0) k n M := by
    intro z
    rw [z] at h
    exact fin0 hR hz h (zle_r _)
  unfold wp_X0_shape
  refine c_isLanguage (ifb' (fun e1 => c_isScale (ifb' (fun e2 => c_in (ifb' (fun e3 => c_in ?_) (fun e3 => hno (by unfold zshok; rw [e1, e2, e3]; rfl)))) (fun e2 => hno (by unfold zshok; rw [e1, e2]; rfl)))) (fun e1 => hno (by unfold zshok; rw [e1]; rfl)))
  rw [zin_b (n := 4) (by decide)]
  refine ifb' (fun e4 => c_in ?_) (fun e4 => hno (by unfold zshok; rw [e1, e2, e3, e4]; rfl))
  rw [zin_b (n := 4) (by decide)]
  refine ifb' (fun e5 => c_in ?_) (fun e5 => hno (by unfold zshok; rw [e1, e2, e3, e4, e5]; rfl))
  rw [zin_b (n := 2) (by decide)]
  refine ifb (fun e6 => ?_) (fun e6 => hno (by unfold zshok; rw [e1, e2, e3, e4, e5, e6]; rfl))
  have eok : zshok l c w e m g = true := by unfold zshok; rw [e1, e2, e3, e4, e5, e6]; rfl
  rw [eok] at h
  obtain ⟨l', hl, rfl⟩ := zb_of e1 (by decide)
  obtain ⟨k', hk', rfl⟩ := zb_of e2 (by decide)
  obtain ⟨e', he, rfl⟩ := zb_of e4 (by decide)
  obtain ⟨m', hm', rfl⟩ := zb_of e5 (by decide)
  obtain ⟨w', hw1, hw2, rfl⟩ : ∃ w' : Nat, 1 ≤ w' ∧ w' ≤ 4 ∧ w = nI w' := by
    unfold zin at e3
    rw [Bool.and_eq_true, decide_eq_true_eq, decide_eq_true_eq, Int64.le_iff_toInt_le, Int64.le_iff_toInt_le, Int32.toInt_toInt64] at e3
    have x1 : (1 : Int64).toInt = 1 := by decide
    have x4 : (4 : Int64).toInt = 4 := by decide
    refine ⟨w.toInt.toNat, by omega, by omega, Int32.toInt_inj.mp ?_⟩
    rw [nI_toInt (by omega)]; omega
  rw [nI_clamp (by omega), nI_clamp (by omega), nI_clamp (by omega), nI_clamp (by omega), nI_clamp (by omega)] at h
  simp only [if_true] at h
  obtain ⟨f, a, T, h1, h2, h3, -, -⟩ := RC_la hR hz hl
  refine ⟨by omega, by omega, fun sa hsa hsa0 => ?_⟩
  have hzs : zle M (zu M sa (some (.inr (25, [.null, .int 0, .null, .null, .null])))) := zle_new (zle_r _) hsa
  refine cgR (x := some (B 2)) (hzs _ _ hR.1) rfl (czd (caR (hzs _ _ h1) (vp_in_nI hl (by decide)) ?_))
  rw [nI_clamp (by omega), h2]
  refine znA (m := 0) (by decide) (by omega) (by omega) fun bt hbt hbt0 => ⟨1, 360, by omega, by show 360 ≤ n - 5 - 0; omega, ?_⟩
  refine c_sheet (M0 := M) hsa hsa0 (zle_t hzs (zle_new (zle_r _) hbt)) (kw zu_s hbt) (Nat.le_refl _) (Nat.le_refl _) fun b M1 hs1 => ⟨by omega, by show 4 ≤ n - 5 - 0 - 360; omega, fun p hp hp0 => ?_⟩
  have key : ∀ y : Bool, decide (g = 1) = y → wp_X0_shape_L100 D post (B 0) (k - 1 - 1 - 1 - 1) (n - 5 - (0 : Int32).toNatClampNeg - 360 - 4) d (nI k') (nI w') (nI e') (nI m') (some sa) (some p) (some p) (b1 y) (zu M1 p (some (.inr (17, [.int 0, .int 0, .int 0, .int 0])))) := by
    intro y hy
    rw [hy] at h
    unfold wp_X0_shape_L100 wp_X19_init
    refine czd ⟨by cases y <;> rfl, by cases y <;> rfl, cp0 hp0 (by simp) (cp0 hp0 (by simp) (cp0 hp0 (by simp) (cp0 hp0 (by simp) ⟨by omega, by show 6 ≤ n - 5 - 0 - 360 - 4; omega, fun q hq hq0 => c_dec2 (by omega) hq0 ?_⟩)))⟩
    rw [nI_add] at hq ⊢
    replace hq : zu M1 p (some (.inr (17, ([.int (b1 y), .int (nI w'), .int (nI e'), .int (nI (e' + m'))] : List Value)))) q = none := hq
    have hs2 := she_new (e := .inr (17, [.int (b1 y), .int (nI w'), .int (nI e'), .int (nI (e' + m'))])) hs1 hp
    have hs3 := she_new (e := .inr (1, zde d k')) hs2 hq
    have hpq : p ≠ q := fun z => by subst z; rw [zu_s] at hq; cases hq
    have hMp : M p = none := by
      cases ee : M p with
      | none => rfl
      | some v => rw [she_l hs1 _ _ ee] at hp; cases hp
    have hMq : zu M p (some (.inr (17, [.int (b1 y), .int (nI w'), .int (nI e'), .int (nI (e' + m'))]))) q = none := by
      cases ee : zu M p (some (.inr (17, [.int (b1 y), .int (nI w'), .int (nI e'), .int (nI (e' + m'))]))) q with
      | none => rfl
      | some v => rw [she_l hs2 _ _ ee] at hq; cases hq
    have hlen := zsh_len (l := l') (d := d) (k := k') (g := y) hw2 (show e' ≤ 3 by omega) (show e' ≤ e' + m' by omega) (by omega)
    refine czd (c_shaped (l := l') (k := k') (g := y) (kw zu_s hMq) zde_new (by omega) hw2 hw1 (by omega) (by omega) (zla_m h3 (zle_new (zle_new (zle_r _) hMp) hMq)) hs3 (by simp) fun M4 hs4 => ?_)
    have hs5 := she_back hs1 hp (she_back hs2 hq hs4)
    exact c_takes hR hz hs5 (by rw [List.nil_append]; omega) (by rw [List.nil_append]; exact h)
  exact ⟨fun z => key false (decide_eq_false z), fun z => key true (decide_eq_true z)⟩
end SH3
