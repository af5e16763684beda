/-! the twin writes shaped numbers; puts; shape -/
/-- of two equally near ones the even one -/
def zr1 (u c : Nat) : Nat := u / c + (if c < 2 * (u % c) ∨ (2 * (u % c) = c ∧ u / c % 2 = 1) then 1 else 0)
/-- a value at so many places: cut, lengthened, stripped -/
def zs0 (u k most : Nat) : Nat × Nat := if k ≤ most then (u, k) else (zr1 u (10 ^ (k - most)), most)
def zs1 (q : Nat × Nat) (least : Nat) : Nat × Nat := if q.2 < least then (q.1 * 10 ^ (least - q.2), least) else q
def zs2 (q : Nat × Nat) (least : Nat) : Nat × Nat := ((zst (q.2 - least) q.1).1, least + (zst (q.2 - least) q.1).2)
def zsv (u k least most : Nat) : Nat × Nat := zs2 (zs1 (zs0 u k most) least) least
/-- the letters of a shaped number, its value V at G places -/
def zwh (l : Nat) (g : Bool) (w V G : Nat) : List Int32 := (if g then zgt (zgs l) (max w (znd (V / 10 ^ G))) (V / 10 ^ G) else zdl w (V / 10 ^ G)) ++ (if G = 0 then [] else zpt l :: zdl G (V % 10 ^ G))
def zsh (l : Nat) (d : Int32) (k : Nat) (g : Bool) (w least most : Nat) : List Int32 :=
  (if d < 0 ∧ (zsv (zab d) k least most).1 ≠ 0 then [45] else []) ++ zwh l g w (zsv (zab d) k least most).1 (zsv (zab d) k least most).2
theorem zr1_le (u c : Nat) : zr1 u c ≤ u + 1 := by
  have := Nat.div_le_self u c
  unfold zr1; split <;> omega
theorem zs0_b {u k most : Nat} (h : u ≤ 2 ^ 31) : (zs0 u k most).1 ≤ 2 ^ 31 + 1 ∧ (zs0 u k most).2 ≤ k ∧ (zs0 u k most).2 ≤ max k most := by
  unfold zs0
  split
  · exact ⟨by show u ≤ _; omega, Nat.le_refl _, by show k ≤ _; omega⟩
  · have := zr1_le u (10 ^ (k - most))
    exact ⟨by show zr1 _ _ ≤ _; omega, by show most ≤ _; omega, by show most ≤ _; omega⟩
theorem zs0_m {u k most : Nat} : (zs0 u k most).2 ≤ most := by
  unfold zs0
  split
  · assumption
  · exact Nat.le_refl _
theorem zs1_b {q : Nat × Nat} {least most : Nat} (h : q.1 ≤ 2 ^ 31 + 1) (hl : least ≤ 3) (hm : q.2 ≤ most) (hlm : least ≤ most) : (zs1 q least).1 ≤ (2 ^ 31 + 1) * 1000 ∧ least ≤ (zs1 q least).2 ∧ (zs1 q least).2 ≤ most := by
  unfold zs1
  split
  · have : 10 ^ (least - q.2) ≤ 1000 := Nat.le_trans (Nat.pow_le_pow_right (by decide) (by omega)) (by decide : 10 ^ 3 ≤ 1000)
    exact ⟨Nat.mul_le_mul h this, Nat.le_refl _, hlm⟩
  · exact ⟨by omega, by omega, hm⟩
theorem zs2_b {q : Nat × Nat} {least : Nat} (h : least ≤ q.2) : (zs2 q least).1 ≤ q.1 ∧ (zs2 q least).2 ≤ q.2 ∧ least ≤ (zs2 q least).2 := by
  unfold zs2
  have := zst_le (q.2 - least) q.1
  exact ⟨this.1, by show least + _ ≤ _; omega, by show least ≤ least + _; omega⟩
theorem zsv_b {u k least most : Nat} (h : u ≤ 2 ^ 31) (hl : least ≤ 3) (hlm : least ≤ most) : (zsv u k least most).1 ≤ (2 ^ 31 + 1) * 1000 ∧ (zsv u k least most).2 ≤ most := by
  have h0 := zs0_b (k := k) (most := most) h
  have hm := zs0_m (u := u) (k := k) (most := most)
  have h1 := zs1_b h0.1 hl hm hlm
  have h2 := zs2_b h1.2.1
  unfold zsv
  exact ⟨Nat.le_trans h2.1 h1.1, Nat.le_trans h2.2.1 h1.2.2⟩
theorem zwh_len {l : Nat} {g : Bool} {w V G : Nat} (hV : V < 10 ^ 16) (hw : w ≤ 4) (hG : G ≤ 6) : (zwh l g w V G).length ≤ 40 := by
  have h1 : V / 10 ^ G < 10 ^ 16 := Nat.lt_of_le_of_lt (Nat.div_le_self _ _) hV
  have h2 : znd (V / 10 ^ G) ≤ 16 := znd_le (by decide) h1
  have h3 : V % 10 ^ G < 10 ^ G := Nat.mod_lt _ (p10_pos G)
  unfold zwh
  rw [List.length_append]
  have h4 : (if G = 0 then ([] : List Int32) else zpt l :: zdl G (V % 10 ^ G)).length ≤ 7 := by
    split
    · simp
    · have : znd (V % 10 ^ G) ≤ G := znd_le (by omega) h3
      simp only [List.length_cons, zdl_len]; omega
  have h5 : (if g then zgt (zgs l) (max w (znd (V / 10 ^ G))) (V / 10 ^ G) else zdl w (V / 10 ^ G)).length ≤ 32 := by
    split
    · rw [zgt_len]; omega
    · rw [zdl_len]; omega
  omega
section TW4
variable {D : zD} {o : Nat} {A : Nat → Nat} {S : zTS} {I : zM}
theorem t_ws162 {post : Unit → zM → Prop} {n l w V G : Nat} {g : Bool} (hT : tok D o A) (hn : S.1 48 = nI n) (hn2 : n ≤ 500) (hl : S.1 49 = nI l) (hl2 : l < 7) (hg : S.1 37 = b1 g) (hw : S.1 38 = nI w) (hw2 : w ≤ 4) (hV : V < 10 ^ 16) (hG : G ≤ 6)
    (h : post () (tm o A (tw S n (zwh l g w V G)) I)) : wp_X9_writesShaped_L162 D post o (lN V) (nI G) (tm o A S I) := by
  have hp := p10_lt (k := G) (by omega)
  have hq := p10_pos G
  have hV63 : V < 2 ^ 63 := Nat.lt_trans hV (by decide)
  have h1 : V / 10 ^ G < 10 ^ 17 := Nat.lt_of_le_of_lt (Nat.div_le_self _ _) (Nat.lt_trans hV (by decide))
  have h1' : V / 10 ^ G < 10 ^ 16 := Nat.lt_of_le_of_lt (Nat.div_le_self _ _) hV
  have h2 : znd (V / 10 ^ G) ≤ 16 := znd_le (by decide) h1'
  have hz := znd_pos (V / 10 ^ G)
  have h3 : V % 10 ^ G < 10 ^ 17 := Nat.lt_of_le_of_lt (Nat.mod_le _ _) (Nat.lt_trans hV (by decide))
  have h4 : znd (V % 10 ^ G) ≤ 17 := znd_le (by decide) h3
  unfold wp_X9_writesShaped_L162
  rw [tgI (by decide) rfl, hn]
  refine t_tens (by omega) ⟨l3_ne0 hq hp, ?_⟩
  rw [tgI (by decide) rfl, hw, l3_div hV63 hp]
  refine ⟨tis _ (by decide), t_writesDigits hT hn h1 (by omega) (by omega) ?_⟩
  -- the fraction
  have hfr : ∀ t : List Int32, t.length ≤ 30 → post () (tm o A (tw S n (t ++ (if G = 0 then [] else zpt l :: zdl G (V % 10 ^ G)))) I) → wp_X9_writesShaped_L208 D post o (lN V) (nI G) (tm o A (tw S n t) I) := by
    intro t ht h5
    unfold wp_X9_writesShaped_L208 wp_X9_writesShaped_L230
    rw [show (0 : Int32) = nI 0 from rfl, nI_leI (by omega) (by decide)]
    refine ifc (fun z => ?_) (fun z => ⟨tis _ (by decide), t_writesPoint (n := n + t.length) hT tw_48 (by omega) (by rw [tw_F (by decide)]; exact hl) hl2 (t_tens (by omega) ⟨l3_ne0 hq hp, tis _ (by decide), ?_⟩)⟩)
    · rw [if_pos (by omega), List.append_nil] at h5; exact h5
    · rw [l3_mod hV63 hp]
      refine t_writesDigits (n := n + t.length + 1) hT tw_48 h3 (by omega) (by omega) ?_
      rw [if_neg (by omega), ← tw_app] at h5
      have e := tw_app (S := tw S n t) (n := n + t.length) (a := [zpt l]) (b := zdl G (V % 10 ^ G))
      rw [show n + t.length + [zpt l].length = n + t.length + 1 from rfl] at e
      rw [e]
      exact h5
  rw [tgI (by decide) rfl, tw_48, tgI (by decide) rfl, tw_F (by decide), hg, zdl_len]
  unfold zwh at h
  refine ⟨fun z => ?_, fun z => ⟨tis _ (by decide), ?_⟩⟩
  · have hg0 : g = false := by cases g; rfl; exact absurd rfl z
    rw [hg0, if_neg (by decide)] at h
    exact hfr _ (by rw [zdl_len]; omega) h
  · rw [b1_1.mp z, if_pos rfl] at h
    rw [show nI (n + max w (znd (V / 10 ^ G))) - nI n = nI (max w (znd (V / 10 ^ G))) by rw [nI_sub (by omega), Nat.add_sub_cancel_left]]
    refine t_groups hT (by omega) (by omega) (by omega) hl hl2 ?_
    exact hfr _ (by rw [zgt_len]; omega) h
theorem t_ws146 {post : Unit → zM → Prop} {n l w V G : Nat} {g : Bool} {d : Int32} (hT : tok D o A) (hn : S.1 48 = nI n) (hn2 : n ≤ 490) (hl : S.1 49 = nI l) (hl2 : l < 7) (hg : S.1 37 = b1 g) (hw : S.1 38 = nI w) (hw2 : w ≤ 4) (hV : V < 10 ^ 16) (hG : G ≤ 6)
    (h : post () (tm o A (tw S n ((if d < 0 ∧ V ≠ 0 then [45] else []) ++ zwh l g w V G)) I)) : wp_X9_writesShaped_L146 D post o d (lN V) (nI G) (tm o A S I) := by
  unfold wp_X9_writesShaped_L146
  rw [i0_le, lgc_eq, show (0 : Int64) = lN 0 from rfl, l3_eq (Nat.lt_trans hV (by decide)) (by decide)]
  refine ⟨fun z => ?_, fun z => ifc (fun z2 => ?_) (fun z2 => ⟨tis _ (by decide), t_writes hT hn (by omega) ?_⟩)⟩
  · rw [if_neg (fun y => z y.1), List.nil_append] at h
    exact t_ws162 hT hn (by omega) hl hl2 hg hw hw2 hV hG h
  · rw [if_neg (fun y => y.2 z2), List.nil_append] at h
    exact t_ws162 hT hn (by omega) hl hl2 hg hw hw2 hV hG h
  · rw [if_pos ⟨Classical.not_not.mp z, z2⟩, ← tw_app] at h
    exact t_ws162 (n := n + 1) hT tw_48 (by omega) (by rw [tw_F (by decide)]; exact hl) hl2 (by rw [tw_F (by decide)]; exact hg) (by rw [tw_F (by decide)]; exact hw) hw2 hV hG h
theorem t_writesShaped {post : Unit → zM → Prop} {n l w k least most : Nat} {g : Bool} {d : Int32} (hT : tok D o A) (hn : S.1 48 = nI n) (hn2 : n ≤ 490) (hl : S.1 49 = nI l) (hl2 : l < 7) (hg : S.1 37 = b1 g) (hw : S.1 38 = nI w) (hw2 : w ≤ 4)
    (hle : S.1 39 = nI least) (hmo : S.1 40 = nI most) (hle2 : least ≤ 3) (hlm : least ≤ most) (hmo2 : most ≤ 6) (hk : k ≤ 6)
    (h : post () (tm o A (tw S n (zsh l d k g w least most)) I)) : wp_X9_writesShaped D post o d (nI k) (tm o A S I) := by
  have hd := zab_lt d
  have hb := zsv_b (k := k) hd hle2 hlm
  unfold zsh at h
  generalize hu : zab d = u at *
  have h146 : wp_X9_writesShaped_L146 D post o d (lN (zsv u k least most).1) (nI (zsv u k least most).2) (tm o A S I) := t_ws146 hT hn hn2 hl hl2 hg hw hw2 (Nat.lt_of_le_of_lt hb.1 (by decide)) (by omega) h
  -- stripping
  have hstrip : ∀ f V w' : Nat, V ≤ (2 ^ 31 + 1) * 1000 → w' < f → w' ≤ 6 → ((zst w' V).1, least + (zst w' V).2) = zsv u k least most → wp_X9_writesShaped_L115 D post o f d (lN V) (nI (least + w')) (tm o A S I) := by
    intro f
    induction f with
    | zero => intro V w' _ hf; omega
    | succ f ih =>
      intro V w' hV hf hw6 he
      unfold wp_X9_writesShaped_L115
      rw [tgI (by decide) rfl, hle, nI_leI (by omega) (by omega), lgc_eq, show (10 : Int64) = lN 10 from rfl, l3_mod (by omega) (by decide), show (0 : Int64) = lN 0 from rfl, l3_eq (by omega) (by decide), l3_div (by omega) (by decide)]
      rw [← he] at h146
      refine ifc (fun z => ?_) (fun z => ?_)
      · have : w' = 0 := by omega
        subst this
        exact h146
      · obtain ⟨x, rfl⟩ : ∃ x, w' = x + 1 := ⟨w' - 1, by omega⟩
        refine ⟨fun z2 => ?_, fun z2 => ?_⟩
        · rw [show zst (x + 1) V = (V, x + 1) by simp [zst, z2]] at h146
          exact h146
        · have e : zst (x + 1) V = zst x (V / 10) := by simp [zst, z2]
          rw [← Int32.sub_eq_add_neg, show least + (x + 1) = (least + x) + 1 by omega, nI_pred]
          exact ih (V / 10) x (by omega) (by omega) (by omega) (by rw [← e]; exact he)
  -- lengthening
  have hlong : ∀ V G : Nat, V ≤ 2 ^ 31 + 1 → G ≤ most → zs2 (zs1 (V, G) least) least = zsv u k least most → ∃ f, wp_X9_writesShaped_L94 D post o f d (lN V) (nI G) (tm o A S I) := by
    intro V0 G0 hV0 hG0 he
    have hfin : ∀ V G, V ≤ (2 ^ 31 + 1) * 1000 → least ≤ G → G ≤ most → zs2 (V, G) least = zsv u k least most → ∃ f, wp_X9_writesShaped_L115 D post o f d (lN V) (nI G) (tm o A S I) := by
      intro V G hV hG hG2 he2
      refine ⟨G - least + 1, ?_⟩
      have := hstrip (G - least + 1) V (G - least) hV (by omega) (by omega) he2
      rw [show least + (G - least) = G by omega] at this
      exact this
    have loop : ∀ f i : Nat, (least - G0) - i < f → i ≤ least - G0 → wp_X9_writesShaped_L94 D post o f d (lN (V0 * 10 ^ i)) (nI (G0 + i)) (tm o A S I) := by
      intro f
      induction f with
      | zero => intro i hf; omega
      | succ f ih =>
        intro i hf hi
        have h10 : 10 ^ i ≤ 1000 := Nat.le_trans (Nat.pow_le_pow_right (by decide) (by omega)) (by decide : 10 ^ 3 ≤ 1000)
        have hVi : V0 * 10 ^ i ≤ (2 ^ 31 + 1) * 1000 := Nat.mul_le_mul hV0 h10
        unfold wp_X9_writesShaped_L94
        rw [tgI (by decide) rfl, hle, nI_leI (by omega) (by omega)]
        refine ifc (fun z => hfin _ _ hVi z (by omega) ?_) (fun z => ?_)
        · rw [← he]
          have hi2 : i = least - G0 := by omega
          subst hi2
          unfold zs1
          by_cases hc : G0 < least
          · rw [if_pos hc, show G0 + (least - G0) = least by omega]
          · rw [if_neg hc, show least - G0 = 0 by omega, Nat.pow_zero, Nat.mul_one, Nat.add_zero]
        · rw [show (10 : Int64) = lN 10 from rfl, lN_mul, Nat.mul_assoc, ← Nat.pow_succ, nI_1, Nat.add_assoc]
          exact ih (i + 1) (by omega) (by omega)
    have := loop (least - G0 + 1) 0 (by omega) (Nat.zero_le _)
    rw [Nat.pow_zero, Nat.mul_one, Nat.add_zero] at this
    exact ⟨_, this⟩
  have h12 : wp_X9_writesShaped_L12 D post o d (nI k) (lN u) (tm o A S I) := by
    unfold wp_X9_writesShaped_L12 wp_X9_writesShaped_L81 wp_X9_writesShaped_L85 wp_X9_writesShaped_L86
    rw [tgI (by decide) rfl, hmo, nI_leI (by omega) (by omega), tgI (by decide) rfl, hmo]
    refine ifc (fun z => hlong u k (by omega) z ?_) (fun z => ?_)
    · unfold zsv zs0; rw [if_pos z]
    · rw [nI_sub (by omega)]
      have hp := p10_lt (k := k - most) (by omega)
      have hq := p10_pos (k - most)
      refine t_tens (by omega) ⟨l3_ne0 hq hp, l3_ne0 hq hp, ?_⟩
      simp (disch := decide) only [tgI, hmo]
      have hr := hlong (zr1 u (10 ^ (k - most))) most (by have := zr1_le u (10 ^ (k - most)); omega) (Nat.le_refl _) (by unfold zsv zs0; rw [if_neg z])
      have hmr : u % 10 ^ (k - most) ≤ u := Nat.mod_le _ _
      have hdr : u / 10 ^ (k - most) ≤ u := Nat.div_le_self _ _
      unfold zr1 at hr
      generalize hc : 10 ^ (k - most) = c at *
      rw [l3_mod (by omega) hp, l3_div (by omega) hp, show (2 : Int64) = lN 2 from rfl, lN_mul, lgc_gt, lgc_eq, lgc_eq, l3_lt hp (by omega), l3_eq (by omega) hp, l3_mod (by omega) (by decide), show (1 : Int64) = lN 1 from rfl, l3_eq (by omega) (by decide), show (0 : Int64) = lN 0 from rfl, lN_add, lN_add]
      refine ifc (fun z1 => ?_) (fun z1 => ⟨fun z2 => ?_, fun z2 => ⟨fun z3 => ?_, fun z3 => ?_⟩⟩)
      · rw [if_pos (Or.inl z1)] at hr; exact hr
      · rw [if_neg (fun y => y.elim z1 (fun y => z2 y.1))] at hr; exact hr
      · rw [if_neg (fun y => y.elim z1 (fun y => z3 y.2))] at hr; exact hr
      · rw [if_pos (Or.inr ⟨z2, z3⟩)] at hr; exact hr
  unfold wp_X9_writesShaped
  rw [i0_le]
  refine ⟨fun z => ?_, fun z => ?_⟩
  · rw [zab_nn z, hu]; exact h12
  · rw [zab_ng (Classical.not_not.mp z), hu]; exact h12
end TW4
