/-! the twin reads: patterns, keys -/
section TR2
variable {D : zD} {o : Nat} {A : Nat → Nat} {S S0 : zTS} {I : zM} {E : Nat → Nat → Int32} {n m dp : Nat} {r : zRh}
theorem t_pat {F G : zM → Prop} (hT : tok D o A) (h : zrd9 S0 E n S r m dp) (hf : ∀ S' e, zpat (E 7) n r.1 = .inl e → zrd9 S0 E n S' (e, r.2) m dp → F (tm o A S' I)) (hg : ∀ S' p g w l k, zpat (E 7) n r.1 = .inr (p, g, w, l, k) → zrd9 S0 E n S' (p, r.2) m dp → G (tm o A S' I)) :
    wp_X9_readsPattern D (fun r93 M => (r93 = 0 → F M) ∧ (¬ r93 = 0 → (zis M o [8] ∧ wp_X9_takes D (fun r96 M => (r96 = 0 → F M) ∧ (¬ r96 = 0 → G M)) o (125 : Int32) M))) o (tm o A S I) := by
  -- from behind the sign
  have key : ∀ (g : Bool) (a1 : Nat) (S1 : zTS), decide (zhr (E 7) n r.1 = 44) = g → (if g then r.1 + 1 else r.1) = a1 → zrd9 S0 E n S1 (a1, r.2) m dp →
      wp_X9_readsPattern_L15 D (fun r93 M => (r93 = 0 → F M) ∧ (¬ r93 = 0 → (zis M o [8] ∧ wp_X9_takes D (fun r96 M => (r96 = 0 → F M) ∧ (¬ r96 = 0 → G M)) o (125 : Int32) M))) o (some o) (b1 g) (tm o A S1 I) := by
    intro g a1 S1 hgd ha1 h1
    unfold zpat at hf hg
    simp only [hgd, ha1] at hf hg
    generalize hw : zcnt (E 7) n 48 4 a1 = w at hf hg
    unfold wp_X9_readsPattern_L15 wp_X9_readsPattern_L96
    rw [tzd, tp hT (by decide) rfl]
    refine ⟨tis _ (by decide), t_zero (mx := 4) hT (by decide) (by decide) (zrd9_p (v := b1 g) (k := 37) h1 (by decide)) fun S2 h2 h2k h2n => ?_⟩
    have hw4 : w ≤ 4 := by rw [← hw]; exact zcnt_le 4 a1
    simp only [hw] at h2 h2n ⊢
    rw [tp hT (by decide) rfl, tp hT (by decide) rfl, tp hT (by decide) rfl, tgI (by decide) rfl, tF_n (by decide), tF_n (by decide), tF_s]
    have h3 := zrd9_p (v := (0 : Int32)) (k := 40) (zrd9_p (v := (0 : Int32)) (k := 39) (zrd9_p (v := nI w) (k := 38) h2 (by decide)) (by decide)) (by decide)
    rw [show nI w = 0 ↔ w = 0 by rw [show (0 : Int32) = nI 0 from rfl, nI_eq (by omega) (by decide)]]
    refine ifn (fun z => ⟨rfl, fun _ => hf _ (a1 + w) (by rw [if_pos z]) h3, fun y => absurd trivial y⟩) (fun z => ?_)
    rw [if_neg z] at hf hg
    refine ⟨tis _ (by decide), t_takes hT h3 (fun z2 => ?_) (fun z2 => ?_)⟩
    · -- a point
      replace z2 : zhr (E 7) n (a1 + w) = 46 := z2
      rw [if_pos z2] at hf hg
      have hlt : a1 + w < n := zhr_n (tp := E 7) (by rw [z2]; decide)
      refine ⟨fun y => absurd y (by decide), fun _ => ⟨tis _ (by decide), t_zero (mx := 3) hT (by decide) (by decide) (zrd9_at (p := a1 + w + 1) h3 hlt) fun S4 h4 h4k h4n => ?_⟩⟩
      generalize hl : zcnt (E 7) n 48 3 (a1 + w + 1) = l at hf hg
      have hl3 : l ≤ 3 := by rw [← hl]; exact zcnt_le 3 _
      simp only [hl] at h4 h4n ⊢
      rw [tp hT (by decide) rfl, tgI (by decide) rfl, tF_s]
      refine ⟨tis _ (by decide), t_zero (mx := 3) hT (by decide) (by decide) (zrd9_p (v := nI l) (k := 39) h4 (by decide)) fun S5 h5 h5k h5n => ?_⟩
      generalize hk : zcnt (E 7) n 35 3 (a1 + w + 1 + l) = k at hf hg
      have hk3 : k ≤ 3 := by rw [← hk]; exact zcnt_le 3 _
      simp only [hk] at h5 h5n ⊢
      rw [tp hT (by decide) rfl, tgI (by decide) rfl, tF_s, nI_add]
      have h6 := zrd9_p (v := nI (l + k)) (k := 40) h5 (by decide)
      rw [show (0 : Int32) = nI 0 from rfl, nI_leI (by omega) (by decide)]
      refine ⟨fun z3 => ⟨rfl, fun _ => hf _ (a1 + w + 1 + l + k) (by rw [if_pos (by omega)]) h6, fun y => absurd trivial y⟩, fun z3 => ⟨rfl, fun y => absurd y (by decide), fun _ => ⟨tis _ (by decide), ?_⟩⟩⟩
      rw [if_neg (by omega)] at hf hg
      refine t_takes hT h6 (fun z4 => ⟨fun y => absurd y (by decide), fun _ => ?_⟩) (fun z4 => ⟨fun _ => ?_, fun y => absurd rfl y⟩)
      · replace z4 : zhr (E 7) n (a1 + w + 1 + l + k) = 125 := z4
        rw [if_pos z4] at hg
        exact hg _ _ _ _ _ _ rfl (zrd9_at (r := (a1 + w + 1 + l + k, r.2)) h6 (zhr_n (tp := E 7) (by rw [z4]; decide)))
      · replace z4 : zhr (E 7) n (a1 + w + 1 + l + k) ≠ 125 := z4
        rw [if_neg z4] at hf
        exact hf _ _ rfl h6
    · replace z2 : zhr (E 7) n (a1 + w) ≠ 46 := z2
      rw [if_neg z2] at hf hg
      refine ⟨fun _ => ⟨rfl, fun y => absurd y (by decide), fun _ => ⟨tis _ (by decide), ?_⟩⟩, fun y => absurd rfl y⟩
      refine t_takes hT h3 (fun z4 => ⟨fun y => absurd y (by decide), fun _ => ?_⟩) (fun z4 => ⟨fun _ => ?_, fun y => absurd rfl y⟩)
      · replace z4 : zhr (E 7) n (a1 + w) = 125 := z4
        rw [if_pos z4] at hg
        exact hg _ _ _ _ _ _ rfl (zrd9_at (r := (a1 + w, r.2)) h3 (zhr_n (tp := E 7) (by rw [z4]; decide)))
      · replace z4 : zhr (E 7) n (a1 + w) ≠ 125 := z4
        rw [if_neg z4] at hf
        exact hf _ _ rfl h3
  unfold wp_X9_readsPattern
  refine ⟨tis _ (by decide), t_takes hT h (fun z => ⟨fun y => absurd y (by decide), fun _ => ?_⟩) (fun z => ⟨fun _ => ?_, fun y => absurd rfl y⟩)⟩
  · exact key true (r.1 + 1) _ (decide_eq_true z) rfl (zrd9_at h (zhr_n (tp := E 7) (by rw [z]; decide)))
  · exact key false r.1 S (decide_eq_false z) rfl h
theorem t_keyOf {post : Int32 → zM → Prop} {pl : Bool} {c : Int32} {M : zM} (h1 : zkl pl c = true → post (nI (zkv pl [c])) M) (h2 : zkl pl c = false → post (-1) M) : wp_X9_keyOf D post (if pl then 1 else 2) c M := by
  unfold wp_X9_keyOf wp_X9_keyOf_L108 wp_X9_keyOf_L66
  unfold zkl zkv at h1
  unfold zkl at h2
  cases pl
  · refine ⟨fun _ => ifn (fun z => ?_) (fun z => ifn (fun z2 => ?_) (fun z2 => ifn (fun z3 => ?_) (fun z3 => ifn (fun z4 => ?_) (fun z4 => ?_)))), fun z => absurd z (by decide)⟩
    · subst z; exact h1 rfl
    · subst z2; exact h1 rfl
    · subst z3; exact h1 rfl
    · subst z4; exact h1 rfl
    · exact h2 (by rw [if_neg (by decide)]; exact decide_eq_false (by simp [z, z2, z3, z4]))
  · refine ⟨fun z => absurd rfl z, fun _ => ifn (fun z => ?_) (fun z => ifn (fun z2 => ?_) (fun z2 => ifn (fun z3 => ?_) (fun z3 => ifn (fun z4 => ?_) (fun z4 => ifn (fun z5 => ?_) (fun z5 => ifn (fun z6 => ?_) (fun z6 => ?_))))))⟩
    · subst z; exact h1 rfl
    · subst z2; exact h1 rfl
    · subst z3; exact h1 rfl
    · subst z4; exact h1 rfl
    · subst z5; exact h1 rfl
    · subst z6; exact h1 rfl
    · exact h2 (by rw [if_pos rfl]; exact decide_eq_false (by simp [z, z2, z3, z4, z5, z6]))
/-- digits' value from v on -/
def zdv (v : Nat) (l : List Int32) : Nat := l.foldl (fun v c => 10 * v + (c - 48).toNatClampNeg) v
theorem zdgt_n {c : Int32} (h : zdgt c = true) : ∃ q, q ≤ 9 ∧ c = nI (48 + q) ∧ (c - 48).toNatClampNeg = q := by
  unfold zdgt zin at h
  rw [Bool.and_eq_true, decide_eq_true_eq, decide_eq_true_eq, Int64.le_iff_toInt_le, Int64.le_iff_toInt_le, Int32.toInt_toInt64] at h
  have x1 : (48 : Int64).toInt = 48 := by decide
  have x4 : (57 : Int64).toInt = 57 := by decide
  obtain ⟨q, hq, hcq⟩ : ∃ q : Nat, q ≤ 9 ∧ c.toInt = 48 + q := ⟨c.toInt.toNat - 48, by omega, by omega⟩
  have e : c = nI (48 + q) := Int32.toInt_inj.mp (by rw [nI_toInt (by omega)]; omega)
  refine ⟨q, hq, e, ?_⟩
  rw [e, show (48 : Int32) = nI 48 from rfl, nI_sub (by omega), Nat.add_sub_cancel_left, nI_clamp (by omega)]
theorem nI_m1 {k : Nat} (h : k < 2 ^ 31) : nI k ≠ -1 := fun y => by
  have := congrArg Int32.toInt y
  rw [nI_toInt h] at this
  have h9 : ((-1 : Int32)).toInt = -1 := by decide
  omega
theorem t_keyL {post : Int32 → zM → Prop} (hT : tok D o A) : ∀ (mx i v : Nat) (S : zTS) (r : zRh), i + mx = 3 → v < 10 ^ i → zrd9 S0 E n S r m dp → (∀ S', zrd9 S0 E n S' (r.1 + (zdgs (E 7) n mx r.1).length, r.2) m dp → post (nI (10 + zdv v (zdgs (E 7) n mx r.1))) (tm o A S' I)) →
    wp_X9_readsKey_L63 D post o (mx + 1) (nI v) (nI i) (tm o A S I) := by
  intro mx
  induction mx with
  | zero =>
    intro i v S r hi hv h hq
    unfold wp_X9_readsKey_L63 wp_X9_readsKey_L115
    rw [show (3 : Int32) = nI 3 from rfl, nI_leI (by decide) (by omega)]
    refine ⟨fun _ => ?_, fun z => by omega⟩
    have := hq S h
    rw [show (10 : Int32) = nI 10 from rfl, nI_add]
    exact this
  | succ mx ih =>
    intro i v S r hi hv h hq
    unfold wp_X9_readsKey_L63 wp_X9_readsKey_L115
    rw [show (3 : Int32) = nI 3 from rfl, nI_leI (by decide) (by omega)]
    have hi2 : i ≤ 2 := by omega
    have hv2 : v < 100 := Nat.lt_of_lt_of_le hv (Nat.le_trans (Nat.pow_le_pow_right (by decide) hi2) (by decide))
    refine ⟨fun z => by omega, fun _ => ⟨tis _ (by decide), t_here hT h (t_in (ifb' (fun e => ?_) (fun e => ?_)))⟩⟩
    · replace e : zdgt (zhr (E 7) n r.1) = true := e
      rw [zdgs, if_pos e] at hq
      obtain ⟨q, hq9, hc, hcl⟩ := zdgt_n e
      have hlt : r.1 < n := zhr_n (tp := E 7) (by rw [hc]; exact nI_m1 (by omega))
      have a4 := h.2.2.2.1
      refine ⟨tis _ (by decide), t_here hT h ?_⟩
      simp (disch := first | decide | omega) only [tgI, tgR, tzd, taI hT, tsI hT, tp hT, tF_s, tF_n, tA_F, tF_A, tA_s, tA_n, tA_R, tsz, m8, m5, m6, m10, m30, m120, nI_1, nI_add, clT, vinT, true_and, updS, updN, if_true, a4]
      have e2 : (10 : Int32) * nI v + zhr (E 7) n r.1 - 48 = nI (10 * v + q) := by
        rw [hc, m10, show (48 : Int32) = nI 48 from rfl, nI_sub (by omega)]
        congr 1; omega
      rw [e2]
      refine ih (i + 1) (10 * v + q) (tF S 23 (nI (r.1 + 1))) (r.1 + 1, r.2) (by omega) (by rw [Nat.pow_succ]; omega) (zrd9_at h hlt) fun S' h1 => ?_
      have := hq S' (by rw [List.length_cons, show r.1 + ((zdgs (E 7) n mx (r.1 + 1)).length + 1) = r.1 + 1 + (zdgs (E 7) n mx (r.1 + 1)).length by omega]; exact h1)
      unfold zdv at this ⊢
      rw [List.foldl_cons, hcl] at this
      exact this
    · replace e : zdgt (zhr (E 7) n r.1) = false := e
      rw [zdgs, if_neg (by rw [e]; decide)] at hq
      have := hq S h
      rw [show (10 : Int32) = nI 10 from rfl, nI_add]
      exact this
theorem zdv_b : ∀ (mx p v : Nat) (tp : Nat → Int32) (n : Nat), zdv v (zdgs tp n mx p) < (v + 1) * 10 ^ mx
  | 0, p, v, tp, n => by show v < _; omega
  | mx + 1, p, v, tp, n => by
    unfold zdgs
    split
    · rename_i e
      obtain ⟨q, hq, -, hc⟩ := zdgt_n e
      have h1 := zdv_b mx (p + 1) (10 * v + q) tp n
      unfold zdv at h1 ⊢
      rw [List.foldl_cons, hc]
      refine Nat.lt_of_lt_of_le h1 ?_
      rw [Nat.pow_succ]
      calc (10 * v + q + 1) * 10 ^ mx ≤ ((v + 1) * 10) * 10 ^ mx := Nat.mul_le_mul_right _ (by omega)
        _ = (v + 1) * (10 ^ mx * 10) := by rw [Nat.mul_assoc, Nat.mul_comm 10]
    · show v < _
      have : 1 ≤ 10 ^ (mx + 1) := p10_pos _
      calc v < (v + 1) * 1 := by omega
        _ ≤ (v + 1) * 10 ^ (mx + 1) := Nat.mul_le_mul_left _ this
theorem zkey_ok {pl : Bool} {tp : Nat → Int32} {n p : Nat} {kt : List Int32} (h : zkey tp n pl p = .inr kt) : kt ≠ [] ∧ zkv pl kt ≤ 1009 ∧ (∀ c ∈ kt, c ≠ 123 ∧ c ≠ 125) := by
  unfold zkey at h
  split at h
  · rename_i e
    cases h
    refine ⟨by simp, ?_, fun c hc => ?_⟩
    · unfold zkv
      have : zdg [] = 0 := rfl
      cases pl
      · simp only [if_neg (show ¬ false = true by decide)]; repeat' split
        all_goals omega
      · simp only [if_pos (show true = true from rfl), this]; repeat' split
        all_goals omega
    · rw [List.mem_singleton] at hc
      subst hc
      refine ⟨fun z => ?_, fun z => ?_⟩ <;> (rw [z] at e; cases pl <;> exact absurd e (by decide))
  · split at h
    · rename_i e1 e2
      rw [Bool.and_eq_true, decide_eq_true_eq] at e2
      split at h
      · cases h
        have hpl : pl = true := e2.1
        subst hpl
        refine ⟨by simp, ?_, fun c hc => ?_⟩
        · have h1 : zkv true (61 :: zdgs tp n 3 (p + 1)) = 10 + zdv 0 (zdgs tp n 3 (p + 1)) := rfl
          have := zdv_b 3 (p + 1) 0 tp n
          rw [h1]; omega
        · rcases List.mem_cons.mp hc with hc | hc
          · subst hc; exact ⟨by decide, by decide⟩
          · have : ∀ (mx p : Nat), c ∈ zdgs tp n mx p → zdgt c = true := by
              intro mx
              induction mx with
              | zero => intro p hc; cases hc
              | succ mx ih =>
                intro p hc
                unfold zdgs at hc
                split at hc
                · rename_i e
                  rcases List.mem_cons.mp hc with hc | hc
                  · rw [hc]; exact e
                  · exact ih _ hc
                · cases hc
            have := this _ _ hc
            refine ⟨fun z => ?_, fun z => ?_⟩ <;> (subst z; exact absurd this (by decide))
      · cases h
    · cases h
theorem t_readsKey {post : Int32 → zM → Prop} {pl : Bool} (hT : tok D o A) (h : zrd9 S0 E n S r m dp) (h1 : ∀ S' e, zkey (E 7) n pl r.1 = .inl e → zrd9 S0 E n S' (e, r.2) m dp → post (-1) (tm o A S' I)) (h2 : ∀ S' kt, zkey (E 7) n pl r.1 = .inr kt → zrd9 S0 E n S' (r.1 + kt.length, r.2) m dp → post (nI (zkv pl kt)) (tm o A S' I)) :
    wp_X9_readsKey D post o (if pl then 1 else 2) (tm o A S I) := by
  have a4 := h.2.2.2.1
  unfold wp_X9_readsKey wp_X9_readsKey_L56
  refine ⟨tis _ (by decide), t_here hT h (t_keyOf (fun e => ?_) (fun e => ?_))⟩
  · have hk : zkey (E 7) n pl r.1 = .inr [zhr (E 7) n r.1] := by unfold zkey; rw [if_pos e]
    have hlt : r.1 < n := zhr_n (tp := E 7) (fun z => by rw [z] at e; cases pl <;> exact absurd e (by decide))
    have hb := (zkey_ok hk).2.1
    refine ⟨fun z => absurd z (nI_pos (by omega)), fun _ => ?_⟩
    simp (disch := first | decide | omega) only [tgI, tgR, tzd, taI hT, tsI hT, tp hT, tF_s, tF_n, tA_F, tF_A, tA_s, tA_n, tA_R, tsz, m8, m5, m6, m10, m30, m120, nI_1, nI_add, clT, vinT, true_and, updS, updN, if_true, a4]
    exact h2 _ _ hk (zrd9_at h hlt)
  · refine ⟨fun _ => ?_, fun z => absurd (by decide) z⟩
    cases pl
    · refine ⟨fun _ => h1 S r.1 (by unfold zkey; rw [if_neg (by rw [e]; decide), Bool.false_and, if_neg (by decide)]) h, fun z => absurd z (by decide)⟩
    · refine ⟨fun z => absurd rfl z, fun _ => ⟨tis _ (by decide), t_takes hT h (fun z => ⟨fun y => absurd y (by decide), fun _ => ?_⟩) (fun z => ⟨fun _ => ?_, fun y => absurd rfl y⟩)⟩⟩
      · have hlt : r.1 < n := zhr_n (tp := E 7) (by rw [z]; decide)
        have h' := zrd9_at h (p := r.1 + 1) hlt
        refine ⟨tis _ (by decide), t_here hT h' (t_in (ifb (fun e2 => ?_) (fun e2 => ?_)))⟩
        · replace e2 : zdgt (zhr (E 7) n (r.1 + 1)) = true := e2
          have hk : zkey (E 7) n true r.1 = .inr (61 :: zdgs (E 7) n 3 (r.1 + 1)) := by
            unfold zkey; rw [if_neg (by rw [e]; decide), if_pos (by rw [z]; rfl), if_pos e2]
          refine ⟨4, t_keyL hT 3 0 0 _ (r.1 + 1, r.2) rfl (by decide) h' fun S' h3 => ?_⟩
          have := h2 S' _ hk (by rw [List.length_cons, show r.1 + ((zdgs (E 7) n 3 (r.1 + 1)).length + 1) = r.1 + 1 + (zdgs (E 7) n 3 (r.1 + 1)).length by omega]; exact h3)
          exact this
        · replace e2 : zdgt (zhr (E 7) n (r.1 + 1)) = false := e2
          exact h1 _ (r.1 + 1) (by unfold zkey; rw [if_neg (by rw [e]; decide), if_pos (by rw [z]; rfl), if_neg (by rw [e2]; decide)]) h'
      · exact h1 S r.1 (by unfold zkey; rw [if_neg (by rw [e]; decide), if_neg (by rw [decide_eq_false z]; decide)]) h
end TR2
