/-! the component: a condition more, none any more -/
section CO10
variable {D : zD} {X : zSg} {B : Nat → Nat} {I M : zM}
def sp_cond (X : zSg) (c p m lo hi nt : Int32) : Int32 × zSg := if zcok c p m nt then (if X.1.length = 12 then (-3, X) else (nI (X.1.length + 1), xC X (X.1 ++ [((c, 0, p, m, lo, hi), decide (nt = 1))]))) else (-1, X)
def sp_plain (X : zSg) : Int32 × zSg := (nI X.1.length, xC X [])
theorem RC_own (hR : RC D X B I M) (hz : zle I M) : ∃ (f : Nat → Option Nat) (a T : Nat) (mc : Int32) (g : Nat → Option Nat), M (B 2) = some (.inl (6, 7, .inr (.inr (.inr (.inr f))))) ∧ f 6 = some a ∧ M a = some (.inr (6, [.ref (B 20), .ref T])) ∧
    M (B 20) = some (.inr (26, [.int mc, .ref (B 21), .int (nI X.1.length)])) ∧ M (B 21) = some (.inl (5, 12, .inr (.inr (.inr (.inr g))))) ∧ X.1.length ≤ 12 ∧ (∀ q ∈ X.1, q.1.2.1 = 0) ∧ ∀ i q, X.1[i]? = some q → ∃ c, g i = some c ∧ I c = some (.inr (3, zcf q)) := by
  obtain ⟨-, -, -, -, -, -, ⟨f, T, h1, h2, h3, ⟨a6, h4, h5⟩, h6, h6', mc, g, h7, h8, h9⟩, -⟩ := hR
  exact ⟨f, a6, T, mc, g, hz _ _ h1, h4, hz _ _ h5, h7, h8, h6, h6', h9⟩
theorem RC_own1 {I1 M1 : zM} (hR : RC D X B I M) (hx : ext (muA X B) I M I1 M1) (hk : ∀ a e, M a = some e → a ≠ B 20 → a ≠ B 21 → M1 a = some e) {l : List zCo} (hl : l.length ≤ 12) (h0 : ∀ q ∈ l, q.1.2.1 = 0) {mc : Int32} {g : Nat → Option Nat}
    (h20 : M1 (B 20) = some (.inr (26, [.int mc, .ref (B 21), .int (nI l.length)]))) (h21 : M1 (B 21) = some (.inl (5, 12, .inr (.inr (.inr (.inr g)))))) (hq : ∀ i q, l[i]? = some q → ∃ c, g i = some c ∧ I1 c = some (.inr (3, zcf q))) : RC D (xC X l) B I1 M1 := by
  obtain ⟨k1, k2, k3, k4, k5, k6, k7⟩ := RC_k hR [20, 21] hx.1 (RC_1 hR hx (J := [20, 21]) (f := fun _ => .inr (0, [])) (by intro j hj; exact mu_i (by revert j; decide)) (fun a e ha hn => hk a e ha (hn 20 (by decide)) (hn 21 (by decide))))
  obtain ⟨f, T, h1, h2, h3, ⟨a6, h4, h5⟩, -⟩ := hR.2.2.2.2.2.2.1
  exact ⟨k1 (by decide), k2 (by decide), k3 (by decide), k4 (by decide), k5 (by decide), k6 (by decide), ⟨f, T, hx.1 _ _ h1, zTr_m hx.1 h2, fun l hl => by
    obtain ⟨a, L, q1, q2, q3⟩ := h3 l hl
    exact ⟨a, L, q1, hx.1 _ _ q2, zCs_m hx.1 q3⟩, ⟨a6, h4, hx.1 _ _ h5⟩, hl, h0, mc, g, h20, h21, hq⟩, RC_u (X' := xC X l) hR hx rfl⟩
theorem c_condition {post : Int32 → zM → Prop} {k n : Nat} {c p m lo hi nt : Int32} (hR : RC D X B I M) (hz : zle I M) (hk : 4 ≤ k) (hn : 20 ≤ n) (h : done D X B I M (sp_cond X c p m lo hi nt).2 (post (sp_cond X c p m lo hi nt).1)) : wp_X0_condition D post k n (B 0) c p m lo hi nt M := by
  unfold sp_cond at h
  have hm1 : zcok c p m nt = false → wp_X0_condition_L47 D post (B 0) k n M := by
    intro z
    unfold wp_X0_condition_L47
    rw [z] at h
    exact fin0 hR hz h (zle_r _)
  unfold wp_X0_condition
  unfold zcok at hm1
  refine c_in ?_
  rw [zin_b (n := 5) (by decide)]
  refine ifb' (fun e1 => c_in ?_) (fun e1 => hm1 (by rw [e1]; rfl))
  rw [zin_b (n := 5) (by decide)]
  refine ifb' (fun e2 => c_in ?_) (fun e2 => hm1 (by rw [e1, e2]; rfl))
  rw [zin_b (n := 1001) (by decide)]
  refine ifb' (fun e3 => c_in ?_) (fun e3 => hm1 (by rw [e1, e2, e3]; rfl))
  rw [zin_b (n := 2) (by decide)]
  refine ifb (fun e4 => ?_) (fun e4 => hm1 (by rw [e1, e2, e3, e4]; rfl))
  have e5 : zcok c p m nt = true := by unfold zcok; rw [e1, e2, e3, e4]; rfl
  rw [e5] at h
  simp only [if_true] at h
  obtain ⟨f, a6, T, mc, g, h1, h2, h3, h4, h5, h6, h7, h8⟩ := RC_own hR hz
  have m6 : (6, 0) ∈ ([(2, 0), (4, 0), (5, 0), (6, 0)] : List (Nat × Nat)) := by decide
  have hv : vp_in (6 : Int32) 7 := vp_in_nI (show 6 < 7 by decide) (by decide)
  have hcl : (6 : Int32).toNatClampNeg = 6 := rfl
  refine cgR (x := some (B 2)) hR.1 rfl (czd (caR h1 hv ?_))
  rw [hcl, h2]
  refine czd (cgRm (k := 0) (x := some (B 20)) h3 m6 rfl (czd ⟨cis h4 (by decide), cgI h4 rfl ?_⟩))
  dsimp only
  rw [show (12 : Int32) = nI 12 from rfl, nI_eq (by omega) (by decide)]
  refine ⟨fun z => ?_, fun z => by rw [if_pos z] at h; exact fin0 hR hz h (zle_r _)⟩
  rw [if_neg z] at h
  refine cgR (x := some (B 2)) hR.1 rfl (czd (caR h1 hv ?_))
  rw [hcl, h2]
  have key : ∀ y : Bool, decide (nt = 1) = y → wp_X0_condition_L92 D post (B 0) k n c p m lo hi (some (B 20)) (some a6) (b1 y) M := by
    intro y hy
    unfold wp_X0_condition_L92
    refine znA (m := 6) (by decide) (by omega) (by omega) fun b hb hb0 => ?_
    refine csI0 hb0 (vp_in_nI (show 0 < 6 by decide) (by decide)) (csI0 hb0 (vp_in_nI (show 1 < 6 by decide) (by decide)) (csI0 hb0 (vp_in_nI (show 2 < 6 by decide) (by decide)) (csI0 hb0 (vp_in_nI (show 3 < 6 by decide) (by decide)) (csI0 hb0 (vp_in_nI (show 4 < 6 by decide) (by decide)) (csI0 hb0 (vp_in_nI (show 5 < 6 by decide) (by decide)) ?_)))))
    have g0 : upd (upd (upd (upd (upd (upd (fun _ => 0) (0 : Int32).toNatClampNeg c) (1 : Int32).toNatClampNeg 0) (2 : Int32).toNatClampNeg p) (3 : Int32).toNatClampNeg m) (4 : Int32).toNatClampNeg lo) (5 : Int32).toNatClampNeg hi (0 : Int32).toNatClampNeg = c := rfl
    have g1 : upd (upd (upd (upd (upd (upd (fun _ => 0) (0 : Int32).toNatClampNeg c) (1 : Int32).toNatClampNeg 0) (2 : Int32).toNatClampNeg p) (3 : Int32).toNatClampNeg m) (4 : Int32).toNatClampNeg lo) (5 : Int32).toNatClampNeg hi (1 : Int32).toNatClampNeg = 0 := rfl
    have g2 : upd (upd (upd (upd (upd (upd (fun _ => 0) (0 : Int32).toNatClampNeg c) (1 : Int32).toNatClampNeg 0) (2 : Int32).toNatClampNeg p) (3 : Int32).toNatClampNeg m) (4 : Int32).toNatClampNeg lo) (5 : Int32).toNatClampNeg hi (2 : Int32).toNatClampNeg = p := rfl
    have g3 : upd (upd (upd (upd (upd (upd (fun _ => 0) (0 : Int32).toNatClampNeg c) (1 : Int32).toNatClampNeg 0) (2 : Int32).toNatClampNeg p) (3 : Int32).toNatClampNeg m) (4 : Int32).toNatClampNeg lo) (5 : Int32).toNatClampNeg hi (3 : Int32).toNatClampNeg = m := rfl
    have g4 : upd (upd (upd (upd (upd (upd (fun _ => 0) (0 : Int32).toNatClampNeg c) (1 : Int32).toNatClampNeg 0) (2 : Int32).toNatClampNeg p) (3 : Int32).toNatClampNeg m) (4 : Int32).toNatClampNeg lo) (5 : Int32).toNatClampNeg hi (4 : Int32).toNatClampNeg = lo := rfl
    have g5 : upd (upd (upd (upd (upd (upd (fun _ => 0) (0 : Int32).toNatClampNeg c) (1 : Int32).toNatClampNeg 0) (2 : Int32).toNatClampNeg p) (3 : Int32).toNatClampNeg m) (4 : Int32).toNatClampNeg lo) (5 : Int32).toNatClampNeg hi (5 : Int32).toNatClampNeg = hi := rfl
    generalize upd (upd (upd (upd (upd (upd (fun _ => 0) (0 : Int32).toNatClampNeg c) (1 : Int32).toNatClampNeg 0) (2 : Int32).toNatClampNeg p) (3 : Int32).toNatClampNeg m) (4 : Int32).toNatClampNeg lo) (5 : Int32).toNatClampNeg hi = ar at g0 g1 g2 g3 g4 g5 ⊢
    have hx1 : ext (muA X B) I M (zu I b (some (.inl (0, 6, .inl ar)))) (zu M b (some (.inl (0, 6, .inl ar)))) := ext_n (ext_r hz) hb
    have hk1 : ∀ a e, M a = some e → zu M b (some (.inl (0, 6, .inl ar))) a = some e := fun a e ha => kw ha hb
    refine czd ⟨cis (hk1 _ _ h3) (by decide), k - 1, n - 6, Nat.le_refl _, Nat.le_refl _, ?_⟩
    unfold wp_X2_with
    refine cgRm (k := 0) (x := some (B 20)) (hk1 _ _ h3) m6 rfl ⟨by omega, by omega, fun b2 hb2 hb20 => ?_⟩
    unfold wp_X4_init
    have hr : ∀ e, zu (zu M b (some (.inl (0, 6, .inl ar)))) b2 e b = some (.inl (0, 6, .inl ar)) := fun e => kw zu_s hb2
    have hv6 : ∀ r, r < 6 → vp_in (nI r) 6 := fun r hr => vp_in_nI hr (by decide)
    refine ⟨by cases y <;> rfl, by cases y <;> rfl, cp0 hb20 (by simp) (czd (caI (hr _) (hv6 0 (by decide)) (cp0 hb20 (by simp) (caI (hr _) (hv6 1 (by decide)) (cp0 hb20 (by simp) (caI (hr _) (hv6 2 (by decide)) (cp0 hb20 (by simp) (caI (hr _) (hv6 3 (by decide)) (cp0 hb20 (by simp) (caI (hr _) (hv6 4 (by decide)) (cp0 hb20 (by simp) (caI (hr _) (hv6 5 (by decide)) (cp0 hb20 (by simp) ?_)))))))))))))⟩
    rw [g0, g1, g2, g3, g4, g5]
    have hx2 : ext (muA X B) I M (zu (zu I b (some (.inl (0, 6, .inl ar)))) b2 (some (.inr (3, zcf ((c, 0, p, m, lo, hi), y))))) (zu (zu M b (some (.inl (0, 6, .inl ar)))) b2 (some (.inr (3, zcf ((c, 0, p, m, lo, hi), y))))) := ext_n hx1 hb2
    have hk2 : ∀ a e, M a = some e → zu (zu M b (some (.inl (0, 6, .inl ar)))) b2 (some (.inr (3, zcf ((c, 0, p, m, lo, hi), y)))) a = some e := fun a e ha => kw (hk1 a e ha) hb2
    have hb2s : zu (zu I b (some (.inl (0, 6, .inl ar)))) b2 (some (.inr (3, zcf ((c, 0, p, m, lo, hi), y)))) b2 = some (.inr (3, zcf ((c, 0, p, m, lo, hi), y))) := zu_s
    show zd _ fun b6 => zis (zu (zu M b (some (.inl (0, 6, .inl ar)))) b2 (some (.inr (3, zcf ((c, 0, p, m, lo, hi), y))))) b6 [26] ∧ ∃ k8 n9, k8 ≤ k - 1 - 1 ∧ n9 ≤ n - 6 - 7 ∧ wp_J3_add D _ k8 n9 b6 (some b2) (zu (zu M b (some (.inl (0, 6, .inl ar)))) b2 (some (.inr (3, zcf ((c, 0, p, m, lo, hi), y)))))
    generalize zu (zu I b (some (.inl (0, 6, .inl ar)))) b2 (some (.inr (3, zcf ((c, 0, p, m, lo, hi), y)))) = I2 at hx2 hb2s
    generalize zu (zu M b (some (.inl (0, 6, .inl ar)))) b2 (some (.inr (3, zcf ((c, 0, p, m, lo, hi), y)))) = M2 at hx2 hk2 ⊢
    refine czd ⟨cis (hk2 _ _ h4) (by decide), 0, 0, by omega, by omega, ?_⟩
    have n21 : B 21 ≠ B 20 := RC_ne hR (mu_i (by decide)) (mu_i (by decide)) (by decide)
    have hv12 : vp_in (nI X.1.length) 12 := vp_in_nI (by omega) (by decide)
    unfold wp_J3_add
    refine cgI (hk2 _ _ h4) rfl (cp (hk2 _ _ h4) (RC_b hR (by decide)) (by simp) (cgR (x := some (B 21)) zu_s rfl (cgI zu_s rfl ⟨cis zu_s (by decide), 0, 0, by omega, by omega, ?_⟩)))
    unfold wp_J3_add_2 wp_J3_add_2_L11
    have h5' : ∀ e, zu M2 (B 20) e (B 21) = some (.inl (5, 12, .inr (.inr (.inr (.inr g))))) := fun e => by rw [zu_n n21]; exact hk2 _ _ h5
    refine czd (clen (h5' _) (by decide) ?_)
    rw [nI_eq (by omega) (by decide)]
    have hb2M : M2 b2 = some (.inr (3, zcf ((c, 0, p, m, lo, hi), y))) := hx2.2.1 _ _ hb2s
    have n2b : b2 ≠ B 20 := kn_ne hb2M (hk2 _ _ h4) (by simp)
    refine ⟨fun _ => czd (csR (h5' _) (RC_b hR (by decide)) hv12 (fun w hw => ?_) ?_), fun z2 => absurd z2 z⟩
    · cases hw
      exact cis (by rw [zu_n n2b]; exact hb2M) (by decide)
    · have h4' : ∀ e, zu (zu M2 (B 20) (some (.inr (26, [.int (mc + 1), .ref (B 21), .int (nI X.1.length)])))) (B 21) e (B 20) = some (.inr (26, [.int (mc + 1), .ref (B 21), .int (nI X.1.length)])) := fun e => by rw [zu_n n21.symm, zu_s]
      refine cp (h4' _) (RC_b hR (by decide)) (by simp) ⟨rfl, ?_⟩
      rw [nI_clamp (by omega), nI_1]
      refine czd ⟨cis zu_s (by decide), cgI zu_s rfl ?_⟩
      have hx5 : ext (muA X B) I M I2 (zu (zu (zu M2 (B 20) (some (.inr (26, [.int (mc + 1), .ref (B 21), .int (nI X.1.length)])))) (B 21) (some (.inl (5, 12, .inr (.inr (.inr (.inr (va_up g X.1.length (some b2))))))))) (B 20) (some (.inr (26, [.int (mc + 1), .ref (B 21), .int (nI (X.1.length + 1))])))) :=
        ext_p (ext_p (ext_p hx2 (Or.inl (mu_a (by decide))) (ext_0 hx2 h4 (RC_i hR (by decide)))) (Or.inl (mu_a (by decide))) (ext_0 hx2 h5 (RC_i hR (by decide)))) (Or.inl (mu_a (by decide))) (ext_0 hx2 h4 (RC_i hR (by decide)))
      have el : (X.1 ++ [((c, 0, p, m, lo, hi), y)]).length = X.1.length + 1 := by rw [List.length_append]; rfl
      rw [hy] at h
      refine fin h rfl hx5 (RC_own1 (g := va_up g X.1.length (some b2)) (mc := mc + 1) hR hx5 (fun a e ha na nb => by rw [zu_n na, zu_n nb, zu_n na]; exact hk2 a e ha) (by omega) (fun q hq => ?_) ?_ ?_ fun i q hq => ?_)
      · rcases List.mem_append.mp hq with hq | hq
        · exact h7 q hq
        · rw [List.mem_singleton.mp hq]
      · rw [zu_s, el]
      · rw [zu_n n21, zu_s]
      · rcases Nat.lt_trichotomy i X.1.length with hi | hi | hi
        · rw [List.getElem?_append_left hi] at hq
          rw [va_up_n (by omega)]
          obtain ⟨c', y1, y2⟩ := h8 i q hq
          exact ⟨c', y1, hx2.1 _ _ y2⟩
        · subst hi
          rw [List.getElem?_append_right (Nat.le_refl _), Nat.sub_self] at hq
          cases hq
          exact ⟨b2, va_up_s, hb2s⟩
        · rw [List.getElem?_eq_none (by omega)] at hq
          cases hq
  exact ⟨fun z1 => key false (decide_eq_false z1), fun z1 => key true (decide_eq_true z1)⟩
theorem c_plain {post : Int32 → zM → Prop} (hR : RC D X B I M) (hz : zle I M) (h : done D X B I M (sp_plain X).2 (post (sp_plain X).1)) : wp_X0_plain D post (B 0) M := by
  unfold sp_plain at h
  unfold wp_X0_plain
  obtain ⟨f, a6, T, mc, g, h1, h2, h3, h4, h5, h6, h7, h8⟩ := RC_own hR hz
  have m6 : (6, 0) ∈ ([(2, 0), (4, 0), (5, 0), (6, 0)] : List (Nat × Nat)) := by decide
  have hv : vp_in (6 : Int32) 7 := vp_in_nI (show 6 < 7 by decide) (by decide)
  have hcl : (6 : Int32).toNatClampNeg = 6 := rfl
  refine cgR (x := some (B 2)) hR.1 rfl (czd (caR h1 hv ?_))
  rw [hcl, h2]
  refine czd (cgRm (k := 0) (x := some (B 20)) h3 m6 rfl (czd ⟨cis h4 (by decide), cgI h4 rfl (cgR (x := some (B 2)) hR.1 rfl (czd (caR h1 hv ?_)))⟩))
  rw [hcl, h2]
  refine czd (cgRm (k := 0) (x := some (B 20)) h3 m6 rfl (czd ⟨cis h4 (by decide), ?_⟩))
  unfold wp_J3_clear
  refine cgI h4 rfl (cp h4 (RC_b hR (by decide)) (by simp) (cgR (x := some (B 21)) zu_s rfl (cgI zu_s rfl (cp zu_s (RC_b hR (by decide)) (by simp) ⟨13, ?_⟩))))
  rw [zu_zu]
  have n21 : B 21 ≠ B 20 := RC_ne hR (mu_i (by decide)) (mu_i (by decide)) (by decide)
  have loop : ∀ fu i : Nat, i ≤ X.1.length → X.1.length - i < fu → ∀ (M1 : zM) (g1 : Nat → Option Nat), ext (muA X B) I M I M1 → (∀ a e, M a = some e → a ≠ B 20 → a ≠ B 21 → M1 a = some e) → M1 (B 20) = some (.inr (26, [.int (mc + 1), .ref (B 21), .int (nI 0)])) → M1 (B 21) = some (.inl (5, 12, .inr (.inr (.inr (.inr g1))))) →
      wp_J3_clear_L27 D (fun _ M => post (nI X.1.length) M) (B 20) fu (some (B 21)) (nI X.1.length) (nI i) M1 := by
    intro fu
    induction fu with
    | zero => intro i _ hf; omega
    | succ fu ih =>
      intro i hi hf M1 g1 hx hk1 e20 e21
      unfold wp_J3_clear_L27
      rw [nI_leI (by omega) (by omega)]
      refine ⟨fun z => ?_, fun z => czd (csR e21 (RC_b hR (by decide)) (vp_in_nI (by omega) (by decide)) (fun w hw => by cases hw) ?_)⟩
      · exact fin h rfl hx (RC_own1 hR hx hk1 (Nat.zero_le _) (fun q hq => by cases hq) e20 e21 fun i q hq => by cases hq)
      · rw [nI_1]
        exact ih (i + 1) (by omega) (by omega) _ _ (ext_p hx (Or.inl (mu_a (by decide))) (RC_i hR (by decide))) (fun a e ha na nb => by rw [zu_n nb]; exact hk1 a e ha na nb) (by rw [zu_n n21.symm]; exact e20) zu_s
  exact loop 13 0 (Nat.zero_le _) (by omega) _ g (ext_p (ext_r hz) (Or.inl (mu_a (by decide))) (RC_i hR (by decide))) (fun a e ha na nb => by rw [zu_n na]; exact ha) zu_s (by rw [zu_n n21]; exact h5)
end CO10
