/-! the twin reads: choices out of branches -/
theorem zrd9_5 {S0 S : zTS} {E : Nat → Nat → Int32} {n m dp k i : Nat} {v : Int32} {r : zRh} {E1 : Nat → Nat → Int32} (h : zrd9 S0 E n S r m dp) (hk : k ≠ 29) (hE : E1 = fun j => if j = k then upd (E k) i v else E j) : zrd9 S0 E1 n (tA S k i v) r m dp := by rw [hE]; exact zrd9_A h hk
theorem zdx_c {dp u z : Nat} : zdx (max dp (u + 1)) (u + 1) z = zdx dp u (1 + z) := by unfold zdx; split <;> split <;> omega
section TR8
variable {D : zD} {o : Nat} {A : Nat → Nat} {S0 : zTS} {I : zM} {n : Nat}
theorem zRB_s {d : Nat} (hT : tok D o A) (hM : zRM D o A S0 I n d) : zRB D o A S0 I n (d + 1) := by
  intro pl u r m dp S E dd post hu hdd h hE hm hdp hlt hf hok
  have hn120 := h.2.2.2.2.2.2.2.2.2.2.2.1
  have hr8 := h.2.2.2.2.2.2.2.2.2.2.2.2.2.1
  refine t_br0 hT h hE hlt (fun e S' k1 => hf e S' (by unfold zon; simp only [k1])) (fun q r' S' k1 k2 k3 k4 => hok (.inl q) r' S' E (by unfold zon; simp only [k1]) k2 (by show m + 1 ≤ r'.1; have := zlL_pos q; omega) zEn_nil k3 k4 hdp (Nat.le_refl 1)) fun a c S' k1 k2 ha hlt1 k5 => ?_
  have hzon : zon (E 7) n (d + 1) pl r = zrC (E 7) n (zrd (E 7) n d) pl r a c := by unfold zon; simp only [k1]
  rw [hzon] at hf hok
  have hbad : ¬ ((c = 112 ∨ c = 103) ∧ r.2.1 < 8) → ∀ x : Int32, wp_X9_readsBrace_L202 D (wp_X9_readsMessage D dd) post o (tm o A S' I) := fun hb _ => by
    unfold wp_X9_readsBrace_L202
    refine ⟨rfl, hf (r.1 + 2) S' ?_ k2.2.2.2.1 (by omega) (zfr_of k2 hE)⟩
    unfold zrC; rw [if_neg hb]
  have main : ∀ k : Bool, c = (if k then 112 else 103) → wp_X9_readsBrace_L188 D (wp_X9_readsMessage D dd) post o (nI u) (b1 pl) (nI r.1) (nI a) (nI (r.1 + 1)) c (tm o A S' I) := by
    intro k hc
    have hdk : decide (c = 112) = k := by cases k <;> rw [hc] <;> decide
    have hcc : c = 112 ∨ c = 103 := by cases k; exact Or.inr hc; exact Or.inl hc
    have a25 := k2.2.2.2.2.1
    unfold wp_X9_readsBrace_L188
    simp (disch := first | decide | omega) only [tgI, tgR, tzd, taI hT, tsI hT, tp hT, tF_s, tF_n, tA_F, tF_A, tA_s, tA_n, tA_R, tsz, m8, m5, m6, m10, m30, m120, nI_1, nI_add, clT, vinT, true_and, updS, updN, if_true, a25]
    rw [show (3 : Int32) = nI 3 from rfl, nI_eq (by omega) (by decide), show (8 : Int32) = nI 8 from rfl, nI_eq (by omega) (by decide)]
    refine ⟨fun z => by omega, fun _ => ⟨fun z8 => ?_, fun z8 => hbad (fun y => by have : r.2.1 = 8 := z8; omega) 0⟩⟩
    replace z8 : ¬ r.2.1 = 8 := z8
    have hc0 : r.2.1 < 8 := by omega
    have hlt2 : r.1 + 2 < n := zhr_n (tp := E 7) (by rw [k5]; rcases hcc with h | h <;> rw [h] <;> decide)
    have h221 : wp_X9_readsBrace_L221 D (wp_X9_readsMessage D dd) post o (nI u) (b1 pl) (nI r.1) (nI a) c (some o) (nI a) (nI (r.1 + 1)) (nI (if k then 1 else 2)) (tm o A S' I) := by
      unfold wp_X9_readsBrace_L221
      refine tzd.mpr ⟨tis _ (by decide), t_uses (ty := if k then 1 else 2) hT k2 ha (by cases k <;> decide) (by omega) fun S3 h3 => ?_⟩
      have c23 := h3.2.2.2.1
      have c25 : S3.1 25 = nI r.2.1 := h3.2.2.2.2.1
      have c26 := h3.2.2.2.2.2.2.2.2.2.1
      generalize hrb : zuse (r.1 + 2, r.2) a (if k then 1 else 2) (r.1 + 1) = ru at h3 c23
      have hru1 : ru.1 = r.1 + 2 := by rw [← hrb]; rfl
      have hru2 : ru.2.1 = r.2.1 := by rw [← hrb]; rfl
      rw [hru1] at c23
      have h4 := zrd9_c (zrd9_at h3 (p := r.1 + 3) (by omega)) (c := r.2.1 + 1) (by omega)
      have h5 := zrd9_d (dp' := max dp (u + 1)) h4
      simp (disch := first | decide | omega) only [tgI, tgR, tzd, taI hT, tsI hT, tp hT, tF_s, tF_n, tA_F, tF_A, tA_s, tA_n, tA_R, tsz, m8, m5, m6, m10, m30, m120, nI_1, nI_add, clT, vinT, true_and, updS, updN, if_true, c23, c25, c26]
      rw [nI_leI (by omega) (by omega)]
      -- the choice's entries
      have h271 : ∀ y1 : Int32, y1 = nI (max dp (u + 1)) → wp_X9_readsBrace_L271 D (wp_X9_readsMessage D dd) post o (nI u) (b1 pl) (nI r.1) (nI a) c (nI r.2.1) (some o) y1 (tm o A (tF (tF S3 23 (nI (r.1 + 3))) 25 (nI (r.2.1 + 1))) I) := by
        rintro y1 rfl
        have h6 := zrd9_5 (k := 36) (i := r.2.1) (v := nI r.1) (zrd9_5 (k := 33) (i := r.2.1) (v := 0) (zrd9_5 (k := 32) (i := r.2.1) (v := nI u) (zrd9_5 (k := 31) (i := r.2.1) (v := if k then 1 else 2) (zrd9_5 (k := 30) (i := r.2.1) (v := nI a) h5 (by decide) rfl) (by decide) rfl) (by decide) rfl) (by decide) rfl) (by decide) rfl
        generalize hS6 : tA (tA (tA (tA (tA (tF (tF (tF S3 23 (nI (r.1 + 3))) 25 (nI (r.2.1 + 1))) 26 (nI (max dp (u + 1)))) 30 r.2.1 (nI a)) 31 r.2.1 (if k then 1 else 2)) 32 r.2.1 (nI u)) 33 r.2.1 0) 36 r.2.1 (nI r.1) = S6 at h6
        obtain ⟨E1, hE1⟩ : ∃ E1 : Nat → Nat → Int32, E1 = (fun j => if j = 36 then upd (E 36) r.2.1 (nI r.1) else if j = 33 then upd (E 33) r.2.1 0 else if j = 32 then upd (E 32) r.2.1 (nI u) else if j = 31 then upd (E 31) r.2.1 (if k then 1 else 2) else if j = 30 then upd (E 30) r.2.1 (nI a) else E j) := ⟨_, rfl⟩
        have h7 : zrd9 S0 E1 n S6 (r.1 + 3, r.2.1 + 1, ru.2.2) m (max dp (u + 1)) := by
          rw [hE1]; exact h6
        have g36 : E1 36 = upd (E 36) r.2.1 (nI r.1) := by rw [hE1]; simp
        have g33 : E1 33 = upd (E 33) r.2.1 0 := by rw [hE1]; simp
        have g32 : E1 32 = upd (E 32) r.2.1 (nI u) := by rw [hE1]; simp
        have g31 : E1 31 = upd (E 31) r.2.1 (if k then 1 else 2) := by rw [hE1]; simp
        have g30 : E1 30 = upd (E 30) r.2.1 (nI a) := by rw [hE1]; simp
        have gn : ∀ j, j ≠ 36 → j ≠ 33 → j ≠ 32 → j ≠ 31 → j ≠ 30 → E1 j = E j := fun j x y z w v => by rw [hE1]; simp [x, y, z, w, v]
        have gE0 : zE0 S0 E1 := fun j hj => by rw [gn j (by omega) (by omega) (by omega) (by omega) (by omega)]; exact hE j hj
        have hBI : zBI S0 n d u a r.2.1 (r.1 + 3) m (max dp (u + 1)) k (E 7) E [] (r.1 + 3, r.2.1 + 1, ru.2.2) m (max dp (u + 1)) S6 E1 := by
          refine ⟨h7, gE0, gn 7 (by decide) (by decide) (by decide) (by decide) (by decide), by show m ≤ r.1 + 3; omega, by omega, Nat.lt_succ_self _, ⟨by rw [g30, updS], by rw [g31, updS], by rw [g32, updS], by rw [g36, updS, Nat.add_sub_cancel]⟩, by rw [g33, updS]; rfl, Nat.zero_le _, fun b y hy => by simp [zbr] at hy, rfl, ⟨fun j hj => gn j (by omega) (by omega) (by omega) (by omega) (by omega), fun j x y i hi => ?_, fun j x i hi => by rw [gn j (by omega) (by omega) (by omega) (by omega) (by omega)]⟩, fun i x hx => by simp [zalg] at hx, rfl, rfl, rfl⟩
          by_cases e36 : j = 36
          · subst e36; rw [g36, updN (by omega)]
          by_cases e33 : j = 33
          · subst e33; rw [g33, updN (by omega)]
          by_cases e32 : j = 32
          · subst e32; rw [g32, updN (by omega)]
          by_cases e31 : j = 31
          · subst e31; rw [g31, updN (by omega)]
          by_cases e30 : j = 30
          · subst e30; rw [g30, updN (by omega)]
          rw [gn j e36 e33 e32 e31 e30]
        -- the spec's own words
        have hsp : zrC (E 7) n (zrd (E 7) n d) pl r a c = (match zrB (E 7) n (zrd (E 7) n d (pl || k)) k (n + 1) [] (r.1 + 3, r.2.1 + 1, ru.2.2) with
            | .inl e => .inl e
            | .inr (bs, r2) => .inr (.inr (k, a, bs), (r2.1 + 1, r2.2.1, (if bs.any (fun b => zkv k b.1 == (if k then 5 else 3)) then r2.2.2.1 else zlie r2.2.2.1 r2.1), r2.2.2.2))) := by
          unfold zrC
          rw [if_pos ⟨hcc, hc0⟩]
          simp only [hdk]
          rw [← hrb]
          rfl
        rw [hsp] at hf hok
        have hbr : wp_X9_readsBranches D (wp_X9_readsMessage D dd) (fun r2 M => narrow .boolean (.int r2) = .int r2 ∧ post r2 M) o (nI r.2.1) (nI (u + 1)) (b1 (pl || k)) (tm o A S6 I) := by
          unfold wp_X9_readsBranches
          refine ⟨n + 2, t_brL (k := k) (pl := pl) hT hM (show u + 1 + d = 3 by omega) (show d < dd by omega) (n + 1) [] _ _ _ S6 E1 (by show n - (r.1 + 3) < n + 1; omega) hBI (Or.inl rfl) (fun e S8 j1 j2 j3 j4 => ⟨rfl, hf e S8 (by rw [j1]) j2 j3 j4⟩) fun bs r2 S2 E2 m2 dp2 j1 j2 j3 j4 S9 j5 => ⟨rfl, ?_⟩⟩
          obtain ⟨i1, i2, i3, i4, i5, i6, ⟨i7a, i7b, i7c, i7d⟩, i8, i9, i10, i11, i12, i13, i14, i15, i16⟩ := j2
          have eM : znM (d + 1) (.inr (k, a, bs)) = 1 + (bs.map fun b => ztM d b.2).sum := rfl
          have eD : znD (d + 1) (.inr (k, a, bs)) = 1 + zmx (bs.map fun b => ztD d b.2) := rfl
          have eC : zcN (d + 1) u r.1 (.inr (k, a, bs)) = (a, (if k then 1 else 2), u, r.1, zbr k d (r.1 + 3) bs) :: zalg (zG d u) (fun b => (zbL d b).length) (r.1 + 3) bs := rfl
          have eL : (znL (d + 1) (.inr (k, a, bs))).length = 4 + (bs.map fun b => (zbL d b).length).sum := by
            show (123 :: nI (65 + a) :: (if k then 112 else 103) :: (bs.flatMap (zbL d) ++ [125])).length = _
            rw [← zflat_len]
            simp only [List.length_cons, List.length_append, List.length_nil]; omega
          have e16 : dp2 = zdx dp u (1 + zmx (bs.map fun b => ztD d b.2)) := by rw [i16, zdx_c]
          refine hok (.inr (k, a, bs)) _ S9 E2 (by rw [j1]) ?_ ?_ ?_ ?_ ?_ ?_ ?_
          · rw [eM, eD, ← e16, show m + (1 + (bs.map fun b => ztM d b.2).sum) - 1 = m2 by omega]; exact j5
          · rw [eM]; show m + (1 + _) ≤ r2.1 + 1; omega
          · rw [eC]
            refine ⟨i12, fun i x hx => ?_⟩
            cases i with
            | zero =>
              cases hx
              show zEe E2 r.2.1 (a, (if k then 1 else 2), u, r.1, zbr k d (r.1 + 3) bs)
              refine ⟨i7a, ?_, i7c, by rw [i7d, Nat.add_sub_cancel], by rw [i8]; show _ = nI (zbr k d (r.1 + 3) bs).length; rw [zbr_len], by show (zbr k d (r.1 + 3) bs).length ≤ 10; rw [zbr_len]; exact i9, fun b y hy => ⟨(i10 b y hy).1, (i10 b y hy).2.2⟩⟩
              show E2 31 r.2.1 = nI (if k then 1 else 2)
              rw [i7b]; cases k <;> rfl
            | succ i =>
              have := i13 i x (by simpa using hx)
              rw [show r.2.1 + 1 + i = r.2.1 + (i + 1) by omega] at this
              exact this
          · rw [eL]; show r2.1 + 1 = _; omega
          · rw [eC, List.length_cons]; show r2.2.1 = _; omega
          · rw [eD, ← e16]; exact i5
          · rw [eM]; omega
        unfold wp_X9_readsBrace_L271 wp_X9_readsBrace_L301
        have fin : ∀ S7, S7 = S6 → (¬ b1 pl = 0 → wp_X9_readsBrace_L343 D (wp_X9_readsMessage D dd) post o (some o) (nI r.2.1) (nI (u + 1)) (tm o A S7 I)) ∧ (b1 pl = 0 → (¬ c = 112 → wp_X9_readsBrace_L348 D (wp_X9_readsMessage D dd) post o (some o) (nI r.2.1) (nI (u + 1)) 0 (tm o A S7 I)) ∧ (c = 112 → wp_X9_readsBrace_L343 D (wp_X9_readsMessage D dd) post o (some o) (nI r.2.1) (nI (u + 1)) (tm o A S7 I))) := by
          rintro S7 rfl
          unfold wp_X9_readsBrace_L343 wp_X9_readsBrace_L348
          have h343 : (pl || k) = true → zd (some o) (fun b1_1 => zis (tm o A S7 I) b1_1 [8] ∧ wp_X9_readsBranches D (wp_X9_readsMessage D dd) (fun r2 M => narrow .boolean (.int r2) = .int r2 ∧ post r2 M) b1_1 (nI r.2.1) (nI (u + 1)) 1 (tm o A S7 I)) := fun e => by
            rw [e] at hbr
            exact tzd.mpr ⟨tis _ (by decide), hbr⟩
          refine ifb (fun y => h343 (by rw [y]; rfl)) (fun y => ⟨fun z => ?_, fun z => h343 ?_⟩)
          · have hk : k = false := by cases k; rfl; exact absurd hc z
            rw [y, hk] at hbr
            exact tzd.mpr ⟨tis _ (by decide), hbr⟩
          · have hk : k = true := by rw [← hdk, decide_eq_true z]
            rw [hk, Bool.or_true]
        simp (disch := first | decide | omega) only [tgI, tgR, tzd, taI hT, tsI hT, tp hT, tF_s, tF_n, tA_F, tF_A, tA_s, tA_n, tA_R, tsz, m8, m5, m6, m10, m30, m120, nI_1, nI_add, clT, vinT, true_and, updS, updN, if_true]
        cases k
        · exact ⟨fun _ => fin _ hS6, fun y => absurd (hc.symm.trans y) (by decide)⟩
        · exact ⟨fun y => absurd hc y, fun _ => fin _ hS6⟩
      refine ifc (fun z => h271 _ ?_) (fun z => h271 _ ?_)
      · rw [Nat.max_eq_left z]
      · rw [Nat.max_eq_right (by omega)]
    cases k
    · refine ⟨fun _ => h221, fun y => absurd (hc.symm.trans y) (by decide)⟩
    · refine ⟨fun y => absurd hc y, fun _ => h221⟩
  refine ⟨fun z => main true z, fun z => ⟨fun z2 => hbad (fun y => y.1.elim z z2) 0, fun z2 => main false z2⟩⟩
end TR8
