/-! the twin: dead branches, which branch a decimal comes to -/
section TK2
variable {D : zD} {o : Nat} {A : Nat → Nat} {S : zTS} {I : zM}
theorem t_deadOf {post : Int32 → zM → Prop} {j c l n : Nat} {ks : List Nat} {pl : Bool} (hT : tok D o A) (hn : S.1 0 = nI n) (hn2 : n ≤ 12) (hj : j < 4) (hc : c < 8) (hl : l < 7) (hK : zks S j c ks) (hp : S.2.1 17 (8 * j + c) = if pl then 1 else 2)
    (h : post (zdead ks pl (zused (zof (zown S n) l))) (tm o A S I)) : wp_X9_deadOf D post o (nI j) (nI l) (nI c) (tm o A S I) := by
  generalize hu : zused (zof (zown S n) l) = u at h
  have hend : ∀ x : Int32, x = (if pl then zdd ks u 5 else 0) → wp_X9_deadOf_L118 D post o (nI j) (nI l) (nI c) (b1 pl) (if pl then u else 7) (zoi (-1) (zix (if pl then 5 else 3) 0 ks)) x (tm o A S I) := by
    rintro x rfl
    have h132 : (!pl || decide (((u >>> ((5 : Int32) &&& 31)) &&& 1) = 0)) = true → wp_X9_deadOf_L132 D post o (nI j) (nI l) (nI c) (zoi (-1) (zix (if pl then 5 else 3) 0 ks)) (if pl then zdd ks u 5 else 0) (tm o A S I) := by
      intro e
      unfold wp_X9_deadOf_L132
      refine ⟨tis _ (by decide), t_lacksOf hT hn hn2 hj hc hl hK hp ?_⟩
      rw [hu]
      unfold wp_X9_deadOf_L146 wp_X9_deadOf_L147 wp_X9_deadOf_L166
      unfold zdead at h
      rw [e] at h
      refine ifn (fun z => ⟨fun y => absurd y (by decide), fun _ => ?_⟩) (fun z => ⟨fun _ => ?_, fun y => absurd rfl y⟩)
      · rw [decide_eq_true z] at h; exact h
      · rw [decide_eq_false z] at h; exact h
    unfold wp_X9_deadOf_L118
    cases pl
    · exact ⟨fun _ => h132 rfl, fun z => absurd rfl z⟩
    · refine ⟨fun z => absurd z (by decide), fun _ => ifn (fun z => h132 ?_) (fun z => ?_)⟩
      · rw [Bool.not_true, Bool.false_or, decide_eq_true_eq]; exact z
      · unfold wp_X9_deadOf_L146 wp_X9_deadOf_L147 wp_X9_deadOf_L166
        refine ⟨fun _ => ?_, fun y => absurd rfl y⟩
        have z' : ¬ ((u >>> ((5 : Int32) &&& 31)) &&& 1) = 0 := z
        unfold zdead at h
        rw [Bool.not_true, Bool.false_or, decide_eq_false z'] at h
        exact h
  have hmid : wp_X9_deadOf_L37 D post o (nI j) (nI l) (nI c) (b1 pl) (if pl then u else 7) (tm o A S I) := by
    have h52 : ∀ q : Nat, q = (if pl then 5 else 3) → wp_X9_deadOf_L52 D post o (nI j) (nI l) (nI c) (b1 pl) (if pl then u else 7) (some o) (nI j) (nI c) (nI q) (tm o A S I) := by
      rintro q rfl
      unfold wp_X9_deadOf_L52
      refine tzd.mpr ⟨tis _ (by decide), t_bw hT hj hc hK (by split <;> decide) ?_⟩
      have loop : ∀ f k : Nat, k ≤ 5 → 5 - k < f → (pl = false → k = 0) → wp_X9_deadOf_L63 D post o f (nI j) (nI l) (nI c) (b1 pl) (if pl then u else 7) (zoi (-1) (zix (if pl then 5 else 3) 0 ks)) (if pl then zdd ks u k else 0) (nI k) (tm o A S I) := by
        intro f
        induction f with
        | zero => intro k _ hf; omega
        | succ f ih =>
          intro k hk hf hp0
          unfold wp_X9_deadOf_L63
          rw [show (5 : Int32) = nI 5 from rfl, nI_leI (by decide) (by omega)]
          refine ifc (fun z => hend _ ?_) (fun z => ?_)
          · have : k = 5 := by omega
            subst this; rfl
          · cases pl
            · exact ⟨fun _ => hend _ rfl, fun y => absurd rfl y⟩
            · refine ⟨fun y => absurd y (by decide), fun _ => ⟨tis _ (by decide), t_bw hT hj hc hK (by omega) ?_⟩⟩
              rw [zoi_neg (zix_sm hK.2.1)]
              unfold wp_X9_deadOf_L108 wp_X9_deadOf_L109
              rw [nI_1]
              have hr := ih (k + 1) (by omega) (by omega) (fun y => by cases y)
              simp only [if_true] at hr ⊢
              rw [zdd] at hr
              unfold zhas at hr
              refine ifc (fun z2 => ?_) (fun z2 => ifn (fun z3 => ?_) (fun z3 => ?_))
              · rw [z2] at hr; exact hr
              · cases e : zix k 0 ks with
                | none => exact absurd e z2
                | some r => rw [e, decide_eq_true z3] at hr; exact hr
              · rw [decide_eq_false z3, Bool.and_false] at hr; exact hr
      exact ⟨6, by have := loop 6 0 (by omega) (by omega) (fun _ => rfl); cases pl <;> exact this⟩
    unfold wp_X9_deadOf_L37
    cases pl
    · exact ⟨fun _ => h52 3 rfl, fun y => absurd rfl y⟩
    · exact ⟨fun y => absurd y (by decide), fun _ => h52 5 rfl⟩
  unfold wp_X9_deadOf wp_X9_deadOf_L20
  simp (disch := first | decide | omega) only [tgI, tgR, tzd, taI hT, tsI hT, tp hT, tF_s, tF_n, tA_F, tF_A, tA_s, tA_n, tA_R, tsz, m8, m5, m6, m10, m30, m120, nI_1, nI_add, clT, vinT, true_and, updS, updN, if_true, hp]
  cases pl
  · exact ⟨fun _ => ⟨fun _ => hmid, fun z => absurd trivial z⟩, fun z => absurd z (by decide)⟩
  · refine ⟨fun z => absurd (if_pos rfl) z, fun _ => ⟨fun z => absurd z (by decide), fun _ => ⟨tis _ (by decide), t_usedBy hT hn hn2 hl ?_⟩⟩⟩
    rw [hu]; exact hmid
theorem t_branchOf {post : Int32 → zM → Prop} {j c l n k : Nat} {d : Int32} {ks : List Nat} (hT : tok D o A) (hn : S.1 0 = nI n) (hn2 : n ≤ 12) (hj : j < 4) (hc : c < 8) (hl : l < 7) (hk : k ≤ 6) (hK : zks S j c ks)
    (h : post (zoi (-1) (zbo d k (zoth ks (zca (zof (zown S n) l) d k) 5) 0 ks)) (tm o A S I)) : wp_X9_branchOf D post o (nI j) (nI l) (nI c) d (nI k) (tm o A S I) := by
  generalize ho : zoth ks (zca (zof (zown S n) l) d k) 5 = oth at h
  have loop : ∀ f b : Nat, ks.length - b < f → b ≤ ks.length → zbo d k oth b (ks.drop b) = zbo d k oth 0 ks → wp_X9_branchOf_L3 D post o f (nI j) (nI l) (nI c) d (nI k) (nI b) (tm o A S I) := by
    intro f
    induction f with
    | zero => intro b hf; omega
    | succ f ih =>
      intro b hf hb e
      have hk1 := hK.1
      have hk2 := hK.2.1
      unfold wp_X9_branchOf_L3 wp_X9_branchOf_L58 wp_X9_branchOf_L98
      simp (disch := first | decide | omega) only [tgI, tgR, tzd, taI hT, tsI hT, tp hT, tF_s, tF_n, tA_F, tF_A, tA_s, tA_n, tA_R, tsz, m8, m5, m6, m10, m30, m120, nI_1, nI_add, clT, vinT, true_and, updS, updN, if_true, hk1]
      rw [nI_leI (by omega) (by omega)]
      refine ifc (fun z => ⟨tis _ (by decide), t_categoryOf hT hn hn2 hl (by omega) ⟨tis _ (by decide), t_bw hT hj hc hK (by have := zca_le (zof (zown S n) l) d k; omega) ?_⟩⟩) (fun z => ?_)
      · have : b = ks.length := by omega
        subst this
        rw [List.drop_length, zbo] at e
        rw [← e, ← ho] at h
        rw [zoi_neg (zix_sm hk2)]
        unfold zoth at h
        refine ifc (fun z2 => ⟨tis _ (by decide), t_bw (q := 5) hT hj hc hK (by decide) ?_⟩) (fun z2 => ?_)
        · rw [z2] at h; exact h
        · cases e2 : zix (zca (zof (zown S n) l) d k) 0 ks with
          | none => exact absurd e2 z2
          | some r => rw [e2] at h; exact h
      · obtain ⟨x, hx⟩ : ∃ x, ks[b]? = some x := ⟨ks[b]'(by omega), List.getElem?_eq_getElem (by omega)⟩
        have hx2 := hK.2.2 b x hx
        refine ⟨tis _ (by decide), t_keyAt hT hj hc (by omega) ?_⟩
        have hdr : ks.drop b = x :: ks.drop (b + 1) := by
          rw [List.drop_eq_getElem_cons (by omega)]
          congr 1
          exact Option.some.inj ((List.getElem?_eq_getElem (by omega)).symm.trans hx)
        rw [hdr, zbo] at e
        rw [hx2.1, show (10 : Int32) = nI 10 from rfl, nI_ltI (by omega) (by decide)]
        have step : zbo d k oth (b + 1) (ks.drop (b + 1)) = zbo d k oth 0 ks → wp_X9_branchOf_L3 D post o f (nI j) (nI l) (nI c) d (nI k) (nI (b + 1)) (tm o A S I) := fun e2 => ih (b + 1) (by omega) (by omega) e2
        refine ifc (fun z2 => step ?_) (fun z2 => t_tens (by omega) ?_)
        · rw [if_neg (fun y => by omega)] at e; exact e
        · have e9 : (nI x - nI 10).toInt64 = lN (x - 10) := by
            obtain ⟨y, rfl⟩ : ∃ y, x = y + 10 := ⟨x - 10, by omega⟩
            rw [← nI_add, Int32.add_sub_cancel, Nat.add_sub_cancel, nI_l (by omega)]
          rw [e9, lgc_eq, ziz_64 hk (by omega)]
          refine ifn (fun z3 => ?_) (fun z3 => step ?_)
          · rw [if_pos ⟨by omega, z3⟩] at e
            rw [← e] at h; exact h
          · rw [if_neg (fun y => z3 y.2)] at e; exact e
  exact ⟨ks.length + 1, loop _ 0 (by omega) (Nat.zero_le _) rfl⟩
end TK2
