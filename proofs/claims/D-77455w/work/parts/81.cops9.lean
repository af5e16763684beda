/-! the component's lists of ints -/
def zLt (I : zM) (a : Nat) (l : List Int32) : Prop := ∃ (c : Nat) (f : Nat → Int32), I a = some (.inr (24, [.ref c])) ∧ I c = some (.inl (0, l.length, .inl f)) ∧ ∀ i v, l[i]? = some v → f i = v
theorem app_at {α : Type} {f : Nat → α} {l : List α} {v : α} (h : ∀ i x, l[i]? = some x → f i = x) (hv : f l.length = v) : ∀ i x, (l ++ [v])[i]? = some x → f i = x := by
  intro i x hx
  rcases Nat.lt_trichotomy i l.length with hi | hi | hi
  · rw [List.getElem?_append_left hi] at hx; exact h i x hx
  · subst hi
    rw [List.getElem?_append_right (Nat.le_refl _), Nat.sub_self] at hx
    cases hx; exact hv
  · rw [List.getElem?_eq_none (by rw [List.length_append]; simp only [List.length_cons, List.length_nil]; omega)] at hx
    cases hx
section CO9
variable {D : zD} {X : zSg} {B : Nat → Nat} {I M : zM}
theorem znA {kd m k n : Nat} {Φ : Nat → zM → Prop} (hm : m ≤ 1000000) (hk : 1 ≤ k) (hn : m ≤ n) (h : ∀ b, M b = none → zB D ≤ b → Φ b (zu M b (some (.inl (kd, zna kd m))))) : znewA D M kd (nI m) k n Φ := by
  have e : (nI m).toNatClampNeg = m := nI_clamp (by omega)
  refine ⟨?_, by rw [e]; exact hm, hk, by rw [e]; exact hn, fun b hb hb0 => by rw [e]; exact h b hb hb0⟩
  exact nI_pos (by omega)
theorem c_with {I0 M0 : zM} {U : Nat → Prop} {post : Option Nat → zM → Prop} {k n o : Nat} {v : Int32} {l : List Int32} (hx : ext U I0 M0 I M) (ho : zLt I o l) (hl : l.length < 1000) (hk : 2 ≤ k) (hn : l.length + 2 ≤ n)
    (h : ∀ I' M' b, ext U I0 M0 I' M' → zLt I' b (l ++ [v]) → zle M M' → post (some b) M') : wp_X27_with D post k n o v M := by
  have hz := hx.2.1
  obtain ⟨c, f, h1, h2, h3⟩ := ho
  have m1 := hz _ _ h1
  have m2 := hz _ _ h2
  unfold wp_X27_with wp_X27_init
  refine cgR (x := some c) m1 rfl (czd (clen m2 (by decide) ?_))
  rw [nI_1]
  refine znA (by omega) (by omega) (by omega) fun b hb hb0 => ?_
  have k1 : ∀ e, zu M b e o = some (.inr (24, [.ref c])) := fun e => kw m1 hb
  have k2 : ∀ e, zu M b e c = some (.inl (0, l.length, .inl f)) := fun e => kw m2 hb
  refine cgR (x := some c) (k1 _) rfl (cgR (x := some c) (k1 _) rfl (czd (clen (k2 _) (by decide) (czd ?_))))
  have cl : (nI l.length).toNatClampNeg = l.length := nI_clamp (by omega)
  refine ⟨l.length, l.length + 1, f, _, k2 _, zu_s, hb0, by decide, by decide, nI_pos (by omega), by rw [cl]; exact Nat.le_of_eq (Nat.zero_add _), by rw [cl]; show 0 + l.length ≤ _; omega, ?_⟩
  rw [zu_zu, cl]
  refine cgR (x := some c) (k1 _) rfl (czd (clen (k2 _) (by decide) (csI0 hb0 (vp_in_nI (by omega) (by omega)) ?_)))
  rw [cl, show (nI (l.length + 1)).toNatClampNeg = l.length + 1 from nI_clamp (by omega)]
  refine ⟨by omega, by omega, fun b' hb' hb0' => cp0 hb0' (by simp) ?_⟩
  refine h _ _ b' (ext_n (ext_n hx hb) hb') ⟨b, upd (va_cpy f (fun _ => 0) (Int32.toNatClampNeg 0) (Int32.toNatClampNeg 0) l.length) l.length v, zu_s, ?_, ?_⟩ (zle_new (zle_new (zle_r _) hb) hb')
  · have : b ≠ b' := fun z => by subst z; rw [zu_s] at hb'; cases hb'
    rw [zu_n this, zu_s, List.length_append]
    rfl
  · refine app_at (fun i x hx => ?_) updS
    have hi := (List.getElem?_eq_some_iff.mp hx).1
    rw [updN (by omega)]
    unfold va_cpy
    have e0 : (0 : Int32).toNatClampNeg = 0 := rfl
    rw [e0, if_pos ⟨Nat.zero_le _, by omega⟩, Nat.sub_zero, Nat.zero_add]
    exact h3 i x hx
theorem zTg_lt {r : Option Nat} {q : zTh} (h : zTg M r q) (h3 : q.1 = 3) : q.2.2.1 = 0 ∧ q.2.2.2.length ≤ 6 ∧ q.2.1 = nI q.2.2.2.length ∧ ∃ a, r = some a ∧ zLt M a q.2.2.2 := by
  rcases h with ⟨h, -⟩ | ⟨h, -⟩ | ⟨h, -⟩ | ⟨-, h2, h4, h5, a, c, f, h6, h7⟩
  · omega
  · omega
  · omega
  · exact ⟨h2, h4, h5, a, h6, c, f, h7⟩
def sp_more (X : zSg) (a v : Int32) : Int32 × zSg := if zb a 5 then (if (X.2.2.2.1 a.toNatClampNeg).1 = 3 then (if (X.2.2.2.1 a.toNatClampNeg).2.2.2.length = 6 then (-3, X) else
    (nI ((X.2.2.2.1 a.toNatClampNeg).2.2.2.length + 1), xH X a.toNatClampNeg (3, nI ((X.2.2.2.1 a.toNatClampNeg).2.2.2.length + 1), 0, (X.2.2.2.1 a.toNatClampNeg).2.2.2 ++ [v]))) else (-2, X)) else (-1, X)
theorem c_more {post : Int32 → zM → Prop} {k n : Nat} {a v : Int32} (hR : RC D X B I M) (hz : zle I M) (hk : 2 ≤ k) (hn : 20 ≤ n) (h : done D X B I M (sp_more X a v).2 (post (sp_more X a v).1)) : wp_X0_more D post k n (B 0) a v M := by
  unfold wp_X0_more
  unfold sp_more at h
  refine c_isArgument (ifb (fun e1 => ?_) (fun e1 => by rw [e1] at h; exact fin0 hR hz h (zle_r _)))
  obtain ⟨j, hj, rfl⟩ := zb_of e1 (by decide)
  rw [e1, nI_clamp (by omega)] at h
  simp only [if_true] at h
  obtain ⟨f, h1, h2'⟩ := hR.2.2.2.2.1
  have h2 := h2' j hj
  have hv := vp_in_nI hj (by decide : 5 < 2 ^ 31)
  have hcl : (nI j).toNatClampNeg = j := nI_clamp (by omega)
  refine cgR (x := some (B 6)) hR.1 rfl (czd (caR h1 hv ?_))
  rw [hcl]
  by_cases e3 : (X.2.2.2.1 j).1 = 3
  · rw [if_pos e3] at h
    obtain ⟨-, hl6, hl, a, ha, hlt⟩ := zTg_lt h2 e3
    rw [ha]
    obtain ⟨c, g, k1, k2, k3⟩ := hlt
    have m1 := hz _ _ k1
    have m2 := hz _ _ k2
    refine Or.inl ⟨a, _, rfl, m1, fun z => absurd z (by decide), fun _ => ⟨fun w hw => by cases hw; exact cis m1 (by decide), czd (cgR (x := some c) m1 rfl (czd (clen m2 (by decide) ?_)))⟩⟩
    rw [show (6 : Int32) = nI 6 from rfl, nI_eq (by omega) (by decide)]
    refine ⟨fun z => ?_, fun z => by rw [if_pos z] at h; exact fin0 hR hz h (zle_r _)⟩
    rw [if_neg z] at h
    refine cgR (x := some (B 6)) hR.1 rfl ⟨cis m1 (by decide), 2, 20, hk, hn, c_with (I0 := I) (M0 := M) (U := fun _ => False) (ext_r hz) ⟨c, g, k1, k2, k3⟩ (by omega) (Nat.le_refl _) (by omega) fun I' M' b hx hb hle => czd ?_⟩
    refine RC_th1 (post := fun M => zgR M a 24 0 fun g16 => zd g16 fun b17 => zlen M b17 fun n18 => post (n18 + (1 : Int32)) M) hR hx hz (q := (3, nI ((X.2.2.2.1 j).2.2.2.length + 1), 0, (X.2.2.2.1 j).2.2.2 ++ [v])) hj ?_ ?_
    · obtain ⟨c', g', y1, y2, y3⟩ := hb
      refine Or.inr (Or.inr (Or.inr ⟨rfl, rfl, ?_, ?_, b, c', g', rfl, y1, y2, y3⟩))
      · show ((X.2.2.2.1 j).2.2.2 ++ [v]).length ≤ 6
        rw [List.length_append]; simp only [List.length_cons, List.length_nil]; omega
      · show nI ((X.2.2.2.1 j).2.2.2.length + 1) = nI ((X.2.2.2.1 j).2.2.2 ++ [v]).length
        rw [List.length_append]; rfl
    · intro I2 M2 B2 e0 hx2 hR2 hU
      have q1 := hx2.2.1 _ _ (hx2.1 _ _ k1)
      have q2 := hx2.2.1 _ _ (hx2.1 _ _ k2)
      refine cgR (x := some c) q1 rfl (czd (clen q2 (by decide) ?_))
      rw [nI_1]
      exact h I2 M2 B2 e0 hx2 hR2 hU
  · rw [if_neg e3] at h
    refine Or.inr ⟨fun w hw => ?_, fun _ => fin0 hR hz h (zle_r _), fun z => absurd rfl z⟩
    rcases h2 with ⟨-, h5⟩ | ⟨-, -, a, c, h5, h6, -⟩ | ⟨-, -, a, g, h5, h6, -⟩ | ⟨h4, -⟩
    · rw [h5] at hw; cases hw
    · rw [h5] at hw; cases hw; exact cis (hz _ _ h6) (by decide)
    · rw [h5] at hw; cases hw; exact cis (hz _ _ h6) (by decide)
    · exact absurd h4 e3
def sp_list (X : zSg) (a m x y z : Int32) : Int32 × zSg := if zb a 5 && zb m 4 then (m, xH X a.toNatClampNeg (3, m, 0, [x, y, z].take m.toNatClampNeg)) else (-1, X)
theorem c_list {post : Int32 → zM → Prop} {k n : Nat} {a m x y z : Int32} (hR : RC D X B I M) (hz : zle I M) (hk : 20 ≤ k) (hn : 60 ≤ n) (h : done D X B I M (sp_list X a m x y z).2 (post (sp_list X a m x y z).1)) : wp_X0_list D post k n (B 0) a m x y z M := by
  unfold wp_X0_list wp_X0_list_L19
  unfold sp_list at h
  refine c_isArgument (ifb' (fun e1 => c_in ?_) (fun e1 => by rw [e1] at h; exact fin0 hR hz h (zle_r _)))
  rw [zin_b (n := 4) (by decide)]
  refine ifb (fun e2 => ?_) (fun e2 => by rw [e1, e2] at h; exact fin0 hR hz h (zle_r _))
  obtain ⟨j, hj, rfl⟩ := zb_of e1 (by decide)
  obtain ⟨i, hi, rfl⟩ := zb_of e2 (by decide)
  rw [e1, e2, nI_clamp (by omega), nI_clamp (by omega)] at h
  simp only [Bool.and_true, if_true] at h
  refine cgR (x := some (B 6)) hR.1 rfl (znA (m := 3) (by decide) (by omega) (by omega) fun b hb hb0 => ?_)
  refine csI0 hb0 (vp_in_nI (show 0 < 3 by decide) (by decide)) (csI0 hb0 (vp_in_nI (show 1 < 3 by decide) (by decide)) (csI0 hb0 (vp_in_nI (show 2 < 3 by decide) (by decide)) ⟨17, 40, by omega, by show 40 ≤ n - 3; omega, ?_⟩))
  have hg : ∀ r, r < 3 → ([x, y, z])[r]? = some (upd (upd (upd (fun _ => 0) (0 : Int32).toNatClampNeg x) (1 : Int32).toNatClampNeg y) (2 : Int32).toNatClampNeg z r) := by
    intro r hr
    match r, hr with
    | 0, _ => rfl
    | 1, _ => rfl
    | 2, _ => rfl
  generalize upd (upd (upd (fun _ => 0) (0 : Int32).toNatClampNeg x) (1 : Int32).toNatClampNeg y) (2 : Int32).toNatClampNeg z = g at hg ⊢
  have hx1 : ext (fun _ => False) I M (zu I b (some (.inl (0, 3, .inl g)))) (zu M b (some (.inl (0, 3, .inl g)))) := ext_n (ext_r hz) hb
  unfold wp_X0_listed
  refine ⟨by omega, by omega, fun b1 hb1 hb10 => znA (m := 0) (by decide) (by omega) (by omega) fun b2 hb2 hb20 => ?_⟩
  unfold wp_X27_init
  have n12 : b1 ≠ b2 := fun z => by subst z; rw [zu_s] at hb2; cases hb2
  refine cp (kw zu_s hb2) hb10 (by simp) ⟨4, ?_⟩
  have hb2' : zu M b (some (.inl (0, 3, .inl g))) b2 = none := by rw [zu_n n12.symm] at hb2; exact hb2
  have e9 : zu (zu (zu (zu M b (some (.inl (0, 3, .inl g)))) b1 (some (.inr (24, [.null])))) b2 (some (.inl (0, zna 0 0)))) b1 (some (.inr (24, [va_rf (some b2)]))) = zu (zu (zu M b (some (.inl (0, 3, .inl g)))) b2 (some (.inl (0, zna 0 0)))) b1 (some (.inr (24, [.ref b2]))) := by
    rw [zu_c n12, zu_zu]; rfl
  show wp_X0_listed_L13 D _ 4 _ _ (nI i) (some b) (some b1) (0 : Int32) (zu (zu (zu (zu M b (some (.inl (0, 3, .inl g)))) b1 (some (.inr (24, [.null])))) b2 (some (.inl (0, zna 0 0)))) b1 (some (.inr (24, [va_rf (some b2)]))))
  rw [e9]
  have hx2 : ext (fun _ => False) I M (zu (zu (zu I b (some (.inl (0, 3, .inl g)))) b2 (some (.inl (0, zna 0 0)))) b1 (some (.inr (24, [.ref b2])))) (zu (zu (zu M b (some (.inl (0, 3, .inl g)))) b2 (some (.inl (0, zna 0 0)))) b1 (some (.inr (24, [.ref b2])))) :=
    ext_n (ext_n hx1 hb2') (by rw [zu_n n12]; exact hb1)
  have hbb2 : b ≠ b2 := fun z => by subst z; rw [zu_s] at hb2'; cases hb2'
  have hbb1 : b ≠ b1 := fun z => by subst z; rw [zu_s] at hb1; cases hb1
  have loop : ∀ f r : Nat, r ≤ i → i - r < f → ∀ (I1 M1 : zM) (c kk nn : Nat), ext (fun _ => False) I M I1 M1 → M1 b = some (.inl (0, 3, .inl g)) → zLt I1 c ([x, y, z].take r) → 2 * (i - r) ≤ kk → 10 * (i - r) ≤ nn →
      wp_X0_listed_L13 D (fun r9 M => ((zd (some (B 6)) fun b12 => zsR D M b12 9 (nI j) r9 fun M => post (nI i) M))) f kk nn (nI i) (some b) (some c) (nI r) M1 := by
    intro f
    induction f with
    | zero => intro r _ hf; omega
    | succ f ih =>
      intro r hr hf I1 M1 c kk nn hx3 hb3 hc hkk hnn
      unfold wp_X0_listed_L13
      rw [nI_leI (by omega) (by omega)]
      have hlen : ([x, y, z].take r).length = r := by rw [List.length_take]; simp only [List.length_cons, List.length_nil]; omega
      refine ⟨fun y1 => ?_, fun y1 => ?_⟩
      · have : r = i := by omega
        subst this
        refine czd (RC_th1 (post := fun M => post (nI r) M) hR hx3 hz hj ?_ h)
        obtain ⟨c', g', y1, y2, y3⟩ := hc
        exact Or.inr (Or.inr (Or.inr ⟨rfl, rfl, by show ([x, y, z].take r).length ≤ 6; omega, by show nI r = nI ([x, y, z].take r).length; rw [hlen], c, c', g', rfl, y1, y2, y3⟩))
      · refine czd (caI hb3 (vp_in_nI (by omega) (by decide)) (czd ⟨by obtain ⟨c', g', y1, -⟩ := hc; exact cis (hx3.2.1 _ _ y1) (by decide), 2, 10, by omega, by omega, ?_⟩))
        rw [nI_clamp (by omega)]
        refine c_with hx3 hc (by omega) (Nat.le_refl _) (by omega) fun I' M' c' hx4 hc' hle => ?_
        rw [nI_1]
        refine ih (r + 1) (by omega) (by omega) I' M' c' _ _ hx4 (hle _ _ hb3) ?_ (by omega) (by omega)
        rw [List.take_add_one, hg r (by omega)]
        exact hc'
  refine loop 4 0 (Nat.zero_le _) (by omega) _ _ b1 _ _ hx2 (by rw [zu_n hbb1, zu_n hbb2, zu_s]) ⟨b2, fun _ => 0, zu_s, by rw [zu_n n12.symm, zu_s]; rfl, fun i v hi => by cases hi⟩ (by omega) ?_
  show 10 * (i - 0) ≤ 40 - 1 - 0
  omega
end CO9
