/-! the twin's categories, its own conditions, its tape: the small acts -/
section TC
variable {D : zD} {o : Nat} {A : Nat → Nat} {S : zTS} {I : zM}
theorem t_categoryOf {post : Int32 → zM → Prop} {n l : Nat} {d : Int32} {k : Nat} (hT : tok D o A) (hn : S.1 0 = nI n) (hn2 : n ≤ 12) (hl : l < 7) (hk : k ≤ 18) (h : post (nI (zca (zof (zown S n) l) d k)) (tm o A S I)) : wp_X9_categoryOf D post o (nI l) d (nI k) (tm o A S I) := by
  have loop : ∀ m, m ≤ 5 → zcaN (zof (zown S n) l) d k m = zca (zof (zown S n) l) d k → wp_X9_categoryOf_L3 D post o (m + 1) (nI l) d (nI k) (nI (5 - m)) (tm o A S I) := by
    intro m
    induction m with
    | zero =>
      intro _ he
      unfold wp_X9_categoryOf_L3 wp_X9_categoryOf_L27
      refine ⟨fun _ => ?_, fun z => absurd (nI_le (Nat.le_refl 5) (by decide)) z⟩
      rw [← he] at h; exact h
    | succ m ih =>
      intro hm he
      unfold wp_X9_categoryOf_L3
      have e5 : 5 - (m + 1) = 4 - m := by omega
      rw [e5]
      refine ⟨fun z => absurd z (nI_ge (a := 4 - m) (b := 5) (by omega) (by decide)), fun _ => ⟨tis _ (by decide), t_holds hT hn hn2 hl (by omega) hk ⟨fun z => ?_, fun z => ?_⟩⟩⟩
      · unfold wp_X9_categoryOf_L27
        rw [← he, zcaN, if_pos (b1_n z)] at h
        exact h
      · rw [nI_1, show 4 - m + 1 = 5 - m by omega]
        refine ih (by omega) ?_
        rw [← he, zcaN, if_neg (by rw [b1_0.mp z]; decide)]
  exact ⟨6, loop 5 (Nat.le_refl 5) rfl⟩
theorem t_usedBy {post : Int32 → zM → Prop} {n l : Nat} (hT : tok D o A) (hn : S.1 0 = nI n) (hn2 : n ≤ 12) (hl : l < 7) (h : post (zused (zof (zown S n) l)) (tm o A S I)) : wp_X9_usedBy D post o (nI l) (tm o A S I) := by
  have loop : ∀ f i : Nat, i ≤ 211 → 211 - i < f → wp_X9_usedBy_L4 D post o f (nI l) (zus (zof (zown S n) l) i) (nI i) (tm o A S I) := by
    intro f
    induction f with
    | zero => intro i _ hf; omega
    | succ f ih =>
      intro i hi hf
      unfold wp_X9_usedBy_L4
      rw [show (210 : Int32) = nI 210 from rfl, nI_ltI (by decide) (by omega)]
      refine ⟨fun z => ?_, fun z => ⟨tis _ (by decide), t_categoryOf (k := 0) hT hn hn2 hl (by decide) ⟨tis _ (by decide), t_categoryOf (k := 1) hT hn hn2 hl (by decide) ?_⟩⟩⟩
      · have : i = 211 := by omega
        subst this; exact h
      · rw [nI_1]
        exact ih (i + 1) (by omega) (by omega)
  exact ⟨212, loop 212 0 (by omega) (by omega)⟩
theorem t_category {post : Int32 → zM → Prop} {n : Nat} {l d k : Int32} (hT : tok D o A) (hn : S.1 0 = nI n) (hn2 : n ≤ 12) (h : post (if zb l 7 && zb k 7 then nI (zca (zof (zown S n) l.toNatClampNeg) d k.toNatClampNeg) else -1) (tm o A S I)) : wp_X9_category D post o l d k (tm o A S I) := by
  unfold wp_X9_category wp_X9_category_L29 wp_X9_category_L30
  refine t_isLanguage (ifb' (fun h1 => t_in ?_) (fun h1 => ?_))
  · rw [zin_b (n := 7) (by decide)]
    refine ifb' (fun h2 => ?_) (fun h2 => ?_)
    · rw [h1, h2] at h
      obtain ⟨j, hj, rfl⟩ := zb_of h1 (by decide)
      obtain ⟨i, hi, rfl⟩ := zb_of h2 (by decide)
      rw [nI_clamp (by omega), nI_clamp (by omega)] at h
      exact ⟨tis _ (by decide), t_categoryOf hT hn hn2 hj (by omega) h⟩
    · rw [h1, h2] at h; exact h
  · rw [h1] at h; exact h
theorem t_used {post : Int32 → zM → Prop} {n : Nat} {l : Int32} (hT : tok D o A) (hn : S.1 0 = nI n) (hn2 : n ≤ 12) (h : post (if zb l 7 then zused (zof (zown S n) l.toNatClampNeg) else -1) (tm o A S I)) : wp_X9_used D post o l (tm o A S I) := by
  unfold wp_X9_used wp_X9_used_L16
  refine t_isLanguage (ifb' (fun h1 => ?_) (fun h1 => ?_))
  · rw [h1] at h
    obtain ⟨j, hj, rfl⟩ := zb_of h1 (by decide)
    rw [nI_clamp (by omega)] at h
    exact ⟨tis _ (by decide), t_usedBy hT hn hn2 hj h⟩
  · rw [h1] at h; exact h
def zcok (c p m nt : Int32) : Bool := zb c 5 && (zb p 5 && (zb m 1001 && zb nt 2))
def tcond (S : zTS) (n : Nat) (c p m lo hi nt : Int32) : zTS := tF (tA (tA (tA (tA (tA (tA S 1 n c) 2 n p) 3 n m) 4 n lo) 5 n hi) 6 n nt) 0 (nI (n + 1))
theorem t_condition {post : Int32 → zM → Prop} {n : Nat} {c p m lo hi nt : Int32} (hT : tok D o A) (hn : S.1 0 = nI n) (hn2 : n ≤ 12) (h1 : zcok c p m nt = false → post (-1) (tm o A S I)) (h2 : zcok c p m nt = true → n = 12 → post (-3) (tm o A S I)) (h3 : zcok c p m nt = true → n < 12 → post (nI (n + 1)) (tm o A (tcond S n c p m lo hi nt) I)) : wp_X9_condition D post o c p m lo hi nt (tm o A S I) := by
  unfold wp_X9_condition wp_X9_condition_L47
  unfold zcok at h1 h2 h3
  have hm1 : zb c 5 = false ∨ zb p 5 = false ∨ zb m 1001 = false ∨ zb nt 2 = false → post (-1) (tm o A S I) := fun z => h1 (by rcases z with z | z | z | z <;> simp [z])
  refine t_in ?_
  rw [zin_b (n := 5) (by decide)]
  refine ifb' (fun e1 => t_in ?_) (fun e1 => hm1 (Or.inl e1))
  rw [zin_b (n := 5) (by decide)]
  refine ifb' (fun e2 => t_in ?_) (fun e2 => hm1 (Or.inr (Or.inl e2)))
  rw [zin_b (n := 1001) (by decide)]
  refine ifb' (fun e3 => t_in ?_) (fun e3 => hm1 (Or.inr (Or.inr (Or.inl e3))))
  rw [zin_b (n := 2) (by decide)]
  refine ifb (fun e4 => ?_) (fun e4 => hm1 (Or.inr (Or.inr (Or.inr e4))))
  rw [e1, e2, e3, e4] at h2 h3
  have h12 : nI n = 12 ↔ n = 12 := by rw [show (12 : Int32) = nI 12 from rfl, nI_eq (by omega) (by decide)]
  simp (disch := decide) only [tgI, tgR, tzd, tsI hT, tp hT, tF_F, tA_F, hn, h12, nI_1, tsz, if_true]
  refine ⟨fun z => ?_, fun z => h2 rfl z⟩
  have hv : vp_in (nI n) 12 := vin (by omega) (by decide)
  have hcl : (nI n).toNatClampNeg = n := nI_clamp (by omega)
  rw [hcl]
  exact ⟨hv, hv, hv, hv, hv, hv, h3 rfl (by omega)⟩
theorem t_plain {post : Int32 → zM → Prop} (hT : tok D o A) (h : post (S.1 0) (tm o A (tF S 0 0) I)) : wp_X9_plain D post o (tm o A S I) := by
  unfold wp_X9_plain
  simp (disch := decide) only [tgI, tp hT]
  exact h
theorem t_feed {post : Int32 → zM → Prop} {n : Nat} {c : Int32} (hT : tok D o A) (hn : S.1 8 = nI n) (hn2 : n ≤ 120) (h1 : zb c 256 = false → post (-1) (tm o A S I)) (h2 : zb c 256 = true → n = 120 → post (-3) (tm o A S I)) (h3 : zb c 256 = true → n < 120 → post (nI (n + 1)) (tm o A (tF (tA S 7 n c) 8 (nI (n + 1))) I)) : wp_X9_feed D post o c (tm o A S I) := by
  unfold wp_X9_feed
  refine t_in ?_
  rw [zin_b (n := 256) (by decide)]
  refine ifb (fun e1 => ?_) (fun e1 => h1 e1)
  have h12 : nI n = 120 ↔ n = 120 := by rw [show (120 : Int32) = nI 120 from rfl, nI_eq (by omega) (by decide)]
  have hcl : (nI n).toNatClampNeg = n := nI_clamp (by omega)
  simp (disch := decide) only [tgI, tgR, tzd, tsI hT, tp hT, tF_F, tA_F, hn, h12, nI_1, tsz, if_true, hcl]
  refine ⟨fun z => ⟨vin (by omega) (by decide), h3 e1 (by omega)⟩, fun z => h2 e1 z⟩
theorem t_wipe {post : Int32 → zM → Prop} (hT : tok D o A) (h : post (S.1 8) (tm o A (tF S 8 0) I)) : wp_X9_wipe D post o (tm o A S I) := by
  unfold wp_X9_wipe
  simp (disch := decide) only [tgI, tp hT]
  exact h
end TC
