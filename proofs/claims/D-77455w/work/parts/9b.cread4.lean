/-! the component's reader: patterns, keys -/
section RD4
variable {D : zD} {X : zSg} {B : Nat → Nat} {I0 M0 I M : zM} {q : Nat × Nat × Nat × Nat} {E : Nat} {r : zRh} {cnt nest pld : Nat} {ca : List Nat}
theorem pos_n {p : Nat} {c : Int32} (h : zhr (ztp X) X.2.1.length p = c) (hc : c ≠ -1) : p + 1 ≤ X.2.1.length := (zhr_t h hc).1
theorem r_pattern {post : Option Nat → zM → Prop} {xp : Nat → zM → Prop} {k n : Nat} (hR : RC D X B I0 M0) (h : zrs D (B 0) I0 M0 q I M E r cnt nest pld ca) (hr : r.1 ≤ X.2.1.length) (hk : 4 ≤ k) (hn : 30 ≤ n) (hf : ∀ e, zpat (ztp X) X.2.1.length r.1 = .inl e → zxr D M0 (-1000 - nI e) xp)
    (hp : ∀ p g w l m, zpat (ztp X) X.2.1.length r.1 = .inr (p, g, w, l, m) → ∀ b I' M', zrs D (B 0) I0 M0 q I' M' E (p, r.2) cnt nest pld ca → zsx q E I M E I' M' → I' b = some (.inr (17, [.int (b1 g), .int (nI w), .int (nI l), .int (nI (l + m))])) → post (some b) M') : zis M q.1 [9] ∧ wp_X10_pattern D post xp k n q.1 M := by
  refine ⟨r_is h, ?_⟩
  unfold zpat at hf hp
  simp only at hf hp
  unfold wp_X10_pattern
  have main : ∀ (g : Bool) (M1 : zM) (a1 : Nat), g = decide (zhr (ztp X) X.2.1.length r.1 = 44) → a1 = (if g then r.1 + 1 else r.1) → a1 ≤ X.2.1.length → zrs D (B 0) I0 M0 q I M1 E (a1, r.2) cnt nest pld ca → zsx q E I M E I M1 →
      (zis M1 q.1 [9] ∧ wp_X10_some D (fun r68 M => ((r68 ≤ 0 → wp_X10_pattern_L25 D post xp q.1 k n (b1 g) r68 (some q.1) (0 : Int32) M) ∧ (¬ r68 ≤ 0 → wp_X10_pattern_L25 D post xp q.1 k n (b1 g) r68 (some q.1) (1 : Int32) M))) q.1 (48 : Int32) (4 : Int32) M1) := by
    intro g M1 a1 hg ha1 hle h1 hx1
    rw [← hg] at hf hp
    have ha1' : (if g = true then r.1 + 1 else r.1) = a1 := ha1.symm
    rw [ha1'] at hf hp
    refine r_some hR (c := 48) (mx := 4) (by decide) (by decide) h1 hle fun M2 h2 hx2 => ?_
    have hW := zcnt_at (tp := ztp X) (n := X.2.1.length) (c := 48) (by decide) 4 a1 hle
    have hw4 := zcnt_le (tp := ztp X) (n := X.2.1.length) (c := 48) 4 a1
    have h2' : zrs D (B 0) I0 M0 q I M2 E (a1 + zcnt (ztp X) X.2.1.length 48 4 a1, r.2) cnt nest pld ca := h2
    show ((nI (zcnt (ztp X) X.2.1.length 48 4 a1) ≤ 0 → wp_X10_pattern_L25 D post xp q.1 k n (b1 g) (nI (zcnt (ztp X) X.2.1.length 48 4 a1)) (some q.1) (0 : Int32) M2) ∧ (¬ nI (zcnt (ztp X) X.2.1.length 48 4 a1) ≤ 0 → wp_X10_pattern_L25 D post xp q.1 k n (b1 g) (nI (zcnt (ztp X) X.2.1.length 48 4 a1)) (some q.1) (1 : Int32) M2))
    generalize zcnt (ztp X) X.2.1.length 48 4 a1 = w at hf hp hW hw4 h2' ⊢
    have hl1 : (zrp w 48).length = w := by unfold zrp; exact List.length_replicate
    have hwn : a1 + w ≤ X.2.1.length := by have := hW.1; rw [hl1] at this; exact this
    have hx2' := zsx_t hx1 hx2
    -- the end: } and the object
    have fin : ∀ (l m a4 : Nat) (M3 : zM), l ≤ 3 → m ≤ 3 → a4 ≤ X.2.1.length → w ≠ 0 → zrs D (B 0) I0 M0 q I M3 E (a4, r.2) cnt nest pld ca → zsx q E I M E I M3 → (zhr (ztp X) X.2.1.length a4 ≠ 125 → zxr D M0 (-1000 - nI a4) xp) →
        (zhr (ztp X) X.2.1.length a4 = 125 → ∀ b I' M', zrs D (B 0) I0 M0 q I' M' E (a4 + 1, r.2) cnt nest pld ca → zsx q E I M E I' M' → I' b = some (.inr (17, [.int (b1 g), .int (nI w), .int (nI l), .int (nI (l + m))])) → post (some b) M') → ∀ k' n', 2 ≤ k' → 15 ≤ n' → wp_X10_pattern_L75 D post xp q.1 k' n' (b1 g) (nI w) (nI l) (nI m) M3 := by
      intro l m a4 M3 hl3 hm3 ha4 hw0 h3 hx3 hno hyes k' n' hk' hn'
      unfold wp_X10_pattern_L75 wp_X10_pattern_L92 wp_X10_pattern_L115
      refine ⟨r_is h3, 1, 7, by omega, by omega, (r_wants hR h3 ha4 (Nat.le_refl _) (Nat.le_refl _) (fun z M4 h4 hx4 => ?_) (fun z => hno z)).2⟩
      have hx4' := zsx_t hx3 hx4
      have one : ∀ (y : Bool), y = g → (znew D M4 17 4 [.int 0, .int 0, .int 0, .int 0] (k' - 1) (n' - 7) fun b1' M => (wp_X19_init D (fun _ M => post (some b1') M) b1' (b1 y) (nI w) (nI l) (nI m) M)) := by
        intro y hy
        subst hy
        refine ⟨by omega, by omega, fun b hb hb0 => ?_⟩
        unfold wp_X19_init
        refine ⟨by cases y <;> rfl, by cases y <;> rfl, cp0 hb0 (by simp) (cp0 hb0 (by simp) (cp0 hb0 (by simp) (cp0 hb0 (by simp) ?_)))⟩
        rw [nI_add]
        exact hyes z b _ _ (zrs_n h4 hb) (zsx_n hx4' hb) zu_s
      refine ⟨fun _ => one g rfl, fun z0 => ⟨fun z1 => ?_, fun _ => one g rfl⟩⟩
      have hg0 : g = false := by cases g; rfl; exact absurd z0 (by decide)
      rw [nI_add, show (0 : Int32) = nI 0 from rfl, nI_leI (by omega) (by decide)] at z1
      have hl0 : l = 0 := by omega
      have hm0 : m = 0 := by omega
      subst hl0 hm0
      have := one false hg0.symm
      unfold wp_X19_init_2
      exact this
    have mid : w ≠ 0 → wp_X10_pattern_L25 D post xp q.1 k n (b1 g) (nI w) (some q.1) (b1 true) M2 := by
      intro hw0
      unfold wp_X10_pattern_L25
      rw [if_neg hw0] at hf hp
      refine czd ⟨r_is h2', 1, 7, by omega, by omega, (r_must (c := true) h2' (Nat.le_refl _) (Nat.le_refl _) (fun _ => ?_) (fun y => (nomatch y))).2⟩
      refine r_takes hR h2' hwn (fun z M3 h3 hx3 => ⟨fun y => absurd y (by decide), fun _ => ?_⟩) (fun z M3 h3 hx3 => ⟨fun _ => ?_, fun y => absurd rfl y⟩)
      · rw [if_pos z] at hf hp
        have hb := zhr_t z (by decide)
        refine r_some hR (c := 48) (mx := 3) (by decide) (by decide) h3 (by show a1 + w + 1 ≤ _; omega) fun M4 h4 hx4 => ?_
        have h4' : zrs D (B 0) I0 M0 q I M4 E (a1 + w + 1 + zcnt (ztp X) X.2.1.length 48 3 (a1 + w + 1), r.2) cnt nest pld ca := h4
        have hL := zcnt_at (tp := ztp X) (n := X.2.1.length) (c := 48) (by decide) 3 (a1 + w + 1) (by omega)
        have hl3 := zcnt_le (tp := ztp X) (n := X.2.1.length) (c := 48) 3 (a1 + w + 1)
        show zis M4 q.1 [9] ∧ wp_X10_some D (fun r45 M => (((nI (zcnt (ztp X) X.2.1.length 48 3 (a1 + w + 1)) + r45) ≤ 0 → wp_X10_pattern_L72 D post xp q.1 (k - 1) (n - 7) (b1 g) (nI w) (nI (zcnt (ztp X) X.2.1.length 48 3 (a1 + w + 1))) r45 (some q.1) (0 : Int32) M) ∧ (¬ (nI (zcnt (ztp X) X.2.1.length 48 3 (a1 + w + 1)) + r45) ≤ 0 → wp_X10_pattern_L72 D post xp q.1 (k - 1) (n - 7) (b1 g) (nI w) (nI (zcnt (ztp X) X.2.1.length 48 3 (a1 + w + 1))) r45 (some q.1) (1 : Int32) M))) q.1 (35 : Int32) (3 : Int32) M4
        generalize zcnt (ztp X) X.2.1.length 48 3 (a1 + w + 1) = l at hf hp hL hl3 h4' ⊢
        have hll : (zrp l 48).length = l := by unfold zrp; exact List.length_replicate
        have hln : a1 + w + 1 + l ≤ X.2.1.length := by have := hL.1; rw [hll] at this; exact this
        refine r_some hR (c := 35) (mx := 3) (by decide) (by decide) h4' hln fun M5 h5 hx5 => ?_
        have h5' : zrs D (B 0) I0 M0 q I M5 E (a1 + w + 1 + l + zcnt (ztp X) X.2.1.length 35 3 (a1 + w + 1 + l), r.2) cnt nest pld ca := h5
        have hK := zcnt_at (tp := ztp X) (n := X.2.1.length) (c := 35) (by decide) 3 (a1 + w + 1 + l) hln
        have hm3 := zcnt_le (tp := ztp X) (n := X.2.1.length) (c := 35) 3 (a1 + w + 1 + l)
        show (((nI l + nI (zcnt (ztp X) X.2.1.length 35 3 (a1 + w + 1 + l))) ≤ 0 → wp_X10_pattern_L72 D post xp q.1 (k - 1) (n - 7) (b1 g) (nI w) (nI l) (nI (zcnt (ztp X) X.2.1.length 35 3 (a1 + w + 1 + l))) (some q.1) (0 : Int32) M5) ∧ (¬ (nI l + nI (zcnt (ztp X) X.2.1.length 35 3 (a1 + w + 1 + l))) ≤ 0 → wp_X10_pattern_L72 D post xp q.1 (k - 1) (n - 7) (b1 g) (nI w) (nI l) (nI (zcnt (ztp X) X.2.1.length 35 3 (a1 + w + 1 + l))) (some q.1) (1 : Int32) M5))
        generalize zcnt (ztp X) X.2.1.length 35 3 (a1 + w + 1 + l) = m at hf hp hK hm3 h5' ⊢
        have hmm : (zrp m 35).length = m := by unfold zrp; exact List.length_replicate
        have hmn : a1 + w + 1 + l + m ≤ X.2.1.length := by have := hK.1; rw [hmm] at this; exact this
        have hx5' := zsx_t hx2' (zsx_t hx3 (zsx_t hx4 hx5))
        rw [nI_add, show (0 : Int32) = nI 0 from rfl, nI_leI (by omega) (by decide)]
        unfold wp_X10_pattern_L72
        refine ⟨fun z0 => czd ⟨r_is h5', 1, 7, by omega, by omega, (r_must (c := false) h5' (Nat.le_refl _) (Nat.le_refl _) (fun y => (nomatch y)) (fun _ => ?_)).2⟩, fun z0 => czd ⟨r_is h5', 1, 7, by omega, by omega, (r_must (c := true) h5' (Nat.le_refl _) (Nat.le_refl _) (fun _ => ?_) (fun y => (nomatch y))).2⟩⟩
        · rw [if_pos (by omega)] at hf
          exact hf _ rfl
        · rw [if_neg (by omega)] at hf hp
          refine fin l m _ M5 hl3 hm3 hmn hw0 h5' hx5' (fun z2 => ?_) (fun z2 => ?_) _ _ (by omega) (by omega)
          · rw [if_neg z2] at hf
            exact hf _ rfl
          · rw [if_pos z2] at hp
            exact hp _ g w l m rfl
      · rw [if_neg z] at hf hp
        have h3' : zrs D (B 0) I0 M0 q I M3 E (a1 + w, r.2) cnt nest pld ca := h3
        refine fin 0 0 (a1 + w) M3 (by decide) (by decide) hwn hw0 h3' (zsx_t hx2' hx3) (fun z2 => ?_) (fun z2 => ?_) _ _ (by omega) (by omega)
        · rw [if_neg z2] at hf
          exact hf _ rfl
        · rw [if_pos z2] at hp
          exact hp _ g w 0 0 rfl
    rw [show (0 : Int32) = nI 0 from rfl, nI_leI (by omega) (by decide)]
    refine ⟨fun z => ?_, fun z => mid (by omega)⟩
    have hw0 : w = 0 := by omega
    rw [if_pos hw0] at hf
    unfold wp_X10_pattern_L25
    refine czd ⟨r_is h2', 1, 7, by omega, by omega, (r_must (c := false) h2' (Nat.le_refl _) (Nat.le_refl _) (fun y => (nomatch y)) (fun _ => hf _ rfl)).2⟩
  refine r_takes hR h hr (fun z M1 h1 hx1 => main true M1 (r.1 + 1) (by rw [decide_eq_true z]) rfl (pos_n z (by decide)) h1 hx1) (fun z M1 h1 hx1 => main false M1 r.1 (by rw [decide_eq_false z]) rfl hr h1 hx1)
theorem r_number {post : Int32 → zM → Prop} {xp : Nat → zM → Prop} {k n : Nat} (hR : RC D X B I0 M0) (h : zrs D (B 0) I0 M0 q I M E r cnt nest pld ca) (hr : r.1 ≤ X.2.1.length) (hk : 1 ≤ k) (hn : 7 ≤ n) (h1 : zdgt (zhr (ztp X) X.2.1.length r.1) = false → zxr D M0 (-1000 - nI r.1) xp)
    (h2 : zdgt (zhr (ztp X) X.2.1.length r.1) = true → ∀ M', zrs D (B 0) I0 M0 q I M' E (r.1 + (zdgs (ztp X) X.2.1.length 3 r.1).length, r.2) cnt nest pld ca → zsx q E I M E I M' → post (nI (zdv 0 (zdgs (ztp X) X.2.1.length 3 r.1))) M') : zis M q.1 [9] ∧ wp_X10_number D post xp k n q.1 M := by
  refine ⟨r_is h, ?_⟩
  unfold wp_X10_number
  have loop : ∀ (f i v : Nat) (r : zRh) (M1 : zM) (kk nn : Nat), i ≤ 3 → 3 - i < f → v < 10 ^ i → r.1 ≤ X.2.1.length → zrs D (B 0) I0 M0 q I M1 E r cnt nest pld ca → zsx q E I M E I M1 → (∀ M', zrs D (B 0) I0 M0 q I M' E (r.1 + (zdgs (ztp X) X.2.1.length (3 - i) r.1).length, r.2) cnt nest pld ca → zsx q E I M E I M' → post (nI (zdv v (zdgs (ztp X) X.2.1.length (3 - i) r.1))) M') →
      wp_X10_number_L22 D post xp q.1 f kk nn (nI v) (nI i) M1 := by
    intro f
    induction f with
    | zero => intro i v r M1 kk nn _ hf; omega
    | succ f ih =>
      intro i v r M1 kk nn hi hf hv hr h1 hx hp
      have hv3 : v < 1000 := Nat.lt_of_lt_of_le hv (Nat.le_trans (Nat.pow_le_pow_right (by decide) hi) (by decide))
      unfold wp_X10_number_L22 wp_X10_number_L73
      rw [show (3 : Int32) = nI 3 from rfl, nI_leI (by decide) (by omega)]
      refine ⟨fun z => ?_, fun z => r_here hR h1 hr (c_in ?_)⟩
      · rw [show 3 - i = 0 by omega, zdgs, List.length_nil, Nat.add_zero] at hp
        exact hp M1 h1 hx
      · obtain ⟨w, hw⟩ : ∃ w, 3 - i = w + 1 := ⟨3 - i - 1, by omega⟩
        have hzd : zin (zhr (ztp X) X.2.1.length r.1).toInt64 48 57 = zdgt (zhr (ztp X) X.2.1.length r.1) := rfl
        rw [hzd]
        rw [hw, zdgs] at hp
        refine ifb' (fun e => r_here hR h1 hr (cgI h1.2.2.2.2.1 rfl (cp h1.2.2.2.2.1 h1.2.2.2.1.1 (by simp) ?_))) (fun e => ?_)
        · rw [if_pos e] at hp
          obtain ⟨d, hd, hc, hcl⟩ := zdgt_n e
          have hne : zhr (ztp X) X.2.1.length r.1 ≠ -1 := fun y => by rw [y] at e; exact absurd e (by decide)
          obtain ⟨k1, k2⟩ := zrs_R (r1 := (r.1 + 1, r.2)) (nest1 := nest) (pld1 := pld) h1 rfl rfl h1.2.2.2.2.2.2.2.2.2
          have ev : ((10 : Int32) * nI v + zhr (ztp X) X.2.1.length r.1) - 48 = nI (10 * v + d) := by
            rw [hc, show (10 : Int32) = nI 10 from rfl, nI_mu, nI_add, show (48 : Int32) = nI 48 from rfl, nI_sub (by omega)]
            congr 1; omega
          rw [ev, nI_1, nI_1]
          refine ih (i + 1) (10 * v + d) (r.1 + 1, r.2) _ kk nn (by omega) (by omega) (by rw [Nat.pow_succ]; omega) (pos_n rfl hne) k1 (zsx_t hx k2) fun M' h3 hx3 => ?_
          rw [show 3 - (i + 1) = w by omega] at h3 ⊢
          have h3' : zrs D (B 0) I0 M0 q I M' E (r.1 + 1 + (zdgs (ztp X) X.2.1.length w (r.1 + 1)).length, r.2) cnt nest pld ca := h3
          rw [show r.1 + 1 + (zdgs (ztp X) X.2.1.length w (r.1 + 1)).length = r.1 + (zhr (ztp X) X.2.1.length r.1 :: zdgs (ztp X) X.2.1.length w (r.1 + 1)).length by rw [List.length_cons]; omega] at h3'
          have := hp M' h3' hx3
          unfold zdv at this ⊢
          rw [List.foldl_cons, hcl] at this
          exact this
        · rw [if_neg (by rw [e]; decide), List.length_nil, Nat.add_zero] at hp
          exact hp M1 h1 hx
  refine r_here hR h hr (c_in ?_)
  have hzd : zin (zhr (ztp X) X.2.1.length r.1).toInt64 48 57 = zdgt (zhr (ztp X) X.2.1.length r.1) := rfl
  rw [hzd]
  refine ⟨r_is h, 1, 7, hk, hn, (r_must h (Nat.le_refl _) (Nat.le_refl _) (fun e => ⟨4, loop 4 0 0 r M _ _ (by decide) (by decide) (by decide) hr h (zsx_r (zrs_z h)) ?_⟩) (fun e => h1 e)).2⟩
  rw [Nat.sub_zero]
  exact h2 e
end RD4
