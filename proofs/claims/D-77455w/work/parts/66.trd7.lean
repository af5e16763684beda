/-! the twin reads: choices, whole messages -/
section TR7
variable {D : zD} {o : Nat} {A : Nat → Nat} {S0 : zTS} {I : zM} {n d u a c0 p0 m0 dp1 : Nat} {k pl : Bool} {tq : Nat → Int32} {E00 : Nat → Nat → Int32}
theorem t_brL {dd : Nat} {post : Int32 → zM → Prop} (hT : tok D o A) (hM : zRM D o A S0 I n d) (hu : u + 1 + d = 3) (hdd : d < dd) : ∀ (f : Nat) (acc : List (List Int32 × List (zN d))) (r : zRh) (m dp : Nat) (S : zTS) (E : Nat → Nat → Int32), n - r.1 < f → zBI S0 n d u a c0 p0 m0 dp1 k tq E00 acc r m dp S E → (acc = [] ∨ zhr tq n r.1 ≠ 125) →
    (∀ e S', zrB tq n (zrd tq n d (pl || k)) k f acc r = .inl e → S'.1 23 = nI e → e ≤ n → zfr S0 S' → post 0 (tm o A S' I)) →
    (∀ bs r2 S2 E2 m2 dp2, zrB tq n (zrd tq n d (pl || k)) k f acc r = .inr (bs, r2) → zBI S0 n d u a c0 p0 m0 dp1 k tq E00 bs r2 m2 dp2 S2 E2 → zhr tq n r2.1 = 125 → bs ≠ [] → ∀ S3, zrd9 S0 E2 n S3 (r2.1 + 1, r2.2.1, (if bs.any (fun b => zkv k b.1 == (if k then 5 else 3)) then r2.2.2.1 else zlie r2.2.2.1 r2.1), r2.2.2.2) m2 dp2 → post 1 (tm o A S3 I)) →
    wp_X9_readsBranches_L3 D (wp_X9_readsMessage D dd) post o (f + 1) (nI c0) (nI (u + 1)) (b1 (pl || k)) (b1 (acc.any (fun b => zkv k b.1 == (if k then 5 else 3)))) (tm o A S I) := by
  intro f
  induction f with
  | zero => intro acc r m dp S E hf; omega
  | succ f ih =>
    intro acc r m dp S E hn h hne hf hx
    have h0 := h
    obtain ⟨i1, i2, i3, i4, i5, i6, -, i8, i9, -, i11, -⟩ := h
    have hr8 := i1.2.2.2.2.2.2.2.2.2.2.2.2.2.1
    have hn120 := i1.2.2.2.2.2.2.2.2.2.2.2.1
    have e33 : S.2.1 33 = E 33 := i1.2.1 33 (by decide)
    rw [zrB] at hf hx
    have h21 : wp_X9_readsBranches_L21 D (wp_X9_readsMessage D dd) post o (wp_X9_readsBranches_L3 D (wp_X9_readsMessage D dd) post o (f + 1)) (nI c0) (nI (u + 1)) (b1 (pl || k)) (b1 (acc.any (fun b => zkv k b.1 == (if k then 5 else 3)))) (tm o A S I) := by
      refine t_br1 hT hM hu hdd h0 (fun e S' j1 j2 j3 j4 => hf e S' ?_ j1 j2 j3) (fun kt t r2 S' E' j1 j2 j3 j4 j5 j6 => ?_)
      · rcases j4 with ⟨j4, rfl⟩ | ⟨j4, j5 | ⟨kt, j5, ⟨j6, rfl⟩ | ⟨j6, j7 | ⟨t, r2, j7, j8, rfl⟩⟩⟩⟩
        · rw [if_pos j4]
        · rw [if_neg j4]; simp only [j5]
        · rw [if_neg j4]; simp only [j5]; rw [if_pos j6]
        · rw [if_neg j4]; simp only [j5]; rw [if_neg (fun y => y j6)]; simp only [j7]
        · rw [if_neg j4]; simp only [j5]; rw [if_neg (fun y => y j6)]; simp only [j7]; rw [if_pos j8]
      · rw [if_neg j1] at hf hx
        simp only [j2] at hf hx
        rw [if_neg (fun y => y j3)] at hf hx
        simp only [j4] at hf hx
        rw [if_neg (fun y => y j5)] at hf hx
        have hany : (acc.any (fun b => zkv k b.1 == (if k then 5 else 3)) || zkv k kt == (if k then 5 else 3)) = (acc ++ [(kt, t)]).any (fun b => zkv k b.1 == (if k then 5 else 3)) := by
          rw [List.any_append, List.any_cons, List.any_nil, Bool.or_false]
        rw [hany]
        by_cases z : zhr tq n (r2.1 + 1) = 125
        · rw [if_pos z] at hx
          have k8 := j6.2.2.2.2.2.2.2.1
          have k1 := j6.1
          have k3 := j6.2.2.1
          have k9 := j6.2.2.2.2.2.2.2.2.1
          have f33 : S'.2.1 33 = E' 33 := k1.2.1 33 (by decide)
          have b23 := k1.2.2.2.1
          have b13 := k1.2.2.2.2.2.2.2.2.2.2.2.2.1
          have hl : (acc ++ [(kt, t)]).length = acc.length + 1 := by simp
          unfold wp_X9_readsBranches_L3 wp_X9_readsBranches_L227
          have hc8 : c0 < 8 := by have := j6.2.2.2.2.2.1; have h14 := k1.2.2.2.2.2.2.2.2.2.2.2.2.2.1; omega
          simp (disch := first | decide | omega) only [tgI, tgR, tzd, taI hT, tsI hT, tp hT, tF_s, tF_n, tA_F, tF_A, tA_s, tA_n, tA_R, tsz, m8, m5, m6, m10, m30, m120, nI_1, nI_add, clT, vinT, true_and, updS, updN, if_true, f33, k8]
          have hz : ¬ nI (acc ++ [(kt, t)]).length = 0 := nI_ne0 (by rw [hl]; omega) (by rw [hl]; omega)
          refine ⟨fun y => absurd y hz, fun _ => ⟨tis _ (by decide), t_here hT k1 ⟨fun _ => ?_, fun y => absurd (by rw [k3]; exact z) y⟩⟩⟩
          have hlt : r2.1 + 1 < n := zhr_n (tp := tq) (by rw [z]; decide)
          have fin := hx (acc ++ [(kt, t)]) (r2.1 + 1, r2.2) S' E' _ _ rfl j6 z (by simp)
          refine ifb (fun y => ?_) (fun y => ?_)
          · rw [if_pos y] at fin
            rw [tgI (by decide) rfl, tp hT (by decide) rfl, b23, nI_1]
            exact ⟨rfl, fin _ (zrd9_at (r := (r2.1 + 1, r2.2)) k1 (p := r2.1 + 1 + 1) hlt)⟩
          · rw [if_neg (by rw [y]; decide)] at fin
            rw [tgI (by decide) rfl, b23]
            refine ⟨tis _ (by decide), t_isWrong hT k1 (by show r2.1 + 1 ≤ 120; omega) ?_⟩
            have k1w := zrd9_w (w := zlie (r2.1 + 1, r2.2).2.2.1 (r2.1 + 1, r2.2).1) k1 (zlie_b k1.2.2.2.2.2.2.2.2.2.2.2.2.2.2 (by show r2.1 + 1 ≤ 120; omega))
            rw [tgI (by decide) rfl, tp hT (by decide) rfl, tF_n (by decide), b23, nI_1]
            exact ⟨rfl, fin _ (zrd9_at k1w (p := r2.1 + 1 + 1) hlt)⟩
        · rw [if_neg z] at hf hx
          have hr1 : r.1 < r2.1 + 1 := by
            have := j6.2.2.2.2.2.2.2.2.2.2.1
            rw [List.map_append, List.sum_append, List.map_cons, List.map_nil, List.sum_cons, List.sum_nil] at this
            have hb : (zbL d (kt, t)).length = kt.length + 1 + (ztL d t).length + 1 := by
              show (kt ++ 40 :: (ztL d t ++ [41])).length = _
              simp only [List.length_append, List.length_cons, List.length_nil]; omega
            rw [hb] at this
            replace this : r2.1 + 1 = _ := this
            omega
          have hb13 : r2.1 + 1 ≤ n := j6.1.2.2.2.2.2.2.2.2.2.2.2.2.1
          exact ih (acc ++ [(kt, t)]) (r2.1 + 1, r2.2) _ _ S' E' (by show n - (r2.1 + 1) < f; omega) j6 (Or.inr z) hf hx
    unfold wp_X9_readsBranches_L3
    simp (disch := first | decide | omega) only [tgI, tgR, tzd, taI hT, tsI hT, tp hT, tF_s, tF_n, tA_F, tF_A, tA_s, tA_n, tA_R, tsz, m8, m5, m6, m10, m30, m120, nI_1, nI_add, clT, vinT, true_and, updS, updN, if_true, e33, i8]
    rw [show nI acc.length = 0 ↔ acc = [] by rw [show (0 : Int32) = nI 0 from rfl, nI_eq (by omega) (by decide)]; exact List.length_eq_zero_iff]
    refine ifc (fun _ => h21) (fun z => ⟨tis _ (by decide), t_here hT i1 ⟨fun y => ?_, fun _ => h21⟩⟩)
    rw [i3] at y
    exact absurd y (hne.elim (fun w => absurd w z) id)
end TR7
