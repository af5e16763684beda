/-! the twin reads: the loop over branches -/
def zG (d u : Nat) : Nat → List Int32 × List (zN d) → List zCh := fun r b => zalg (zcN d (u + 1)) (fun x => (znL d x).length) (r + b.1.length + 1) b.2
theorem zbr_app (pl : Bool) (d : Nat) (b : List Int32 × List (zN d)) : ∀ (bs : List (List Int32 × List (zN d))) (p : Nat), zbr pl d p (bs ++ [b]) = zbr pl d p bs ++ [(zkv pl b.1, p + (bs.map fun b => (zbL d b).length).sum + b.1.length + 1)]
  | [], p => rfl
  | x :: bs, p => by rw [List.cons_append, zbr, zbr_app pl d b bs, zbr, List.cons_append, List.map_cons, List.sum_cons, ← Nat.add_assoc]
theorem zbr_len (pl : Bool) (d : Nat) : ∀ (bs : List (List Int32 × List (zN d))) (p : Nat), (zbr pl d p bs).length = bs.length
  | [], _ => rfl
  | x :: bs, p => by rw [zbr, List.length_cons, List.length_cons, zbr_len pl d bs]
theorem zmx_app (l : List Nat) (x : Nat) : zmx (l ++ [x]) = max (zmx l) x := by
  unfold zmx
  induction l with
  | nil => simp
  | cons y l ih => rw [List.cons_append, List.foldr_cons, List.foldr_cons, ih]; omega
/-- as branches are read: acc so far; c0 the choice's number; p0 where they began; E00, m0, dp1 as they stood -/
def zBI (S0 : zTS) (n d u a c0 p0 m0 dp1 : Nat) (k : Bool) (tq : Nat → Int32) (E00 : Nat → Nat → Int32) (acc : List (List Int32 × List (zN d))) (r : zRh) (m dp : Nat) (S : zTS) (E : Nat → Nat → Int32) : Prop :=
  zrd9 S0 E n S r m dp ∧ zE0 S0 E ∧ E 7 = tq ∧ m ≤ r.1 ∧ dp ≤ 3 ∧ c0 < r.2.1 ∧ (E 30 c0 = nI a ∧ E 31 c0 = (if k then 1 else 2) ∧ E 32 c0 = nI u ∧ E 36 c0 = nI (p0 - 3)) ∧ E 33 c0 = nI acc.length ∧ acc.length ≤ 10 ∧
  (∀ b y, (zbr k d p0 acc)[b]? = some y → E 34 (10 * c0 + b) = nI y.1 ∧ y.1 ≤ 1009 ∧ E 35 (10 * c0 + b) = nI y.2) ∧ r.1 = p0 + (acc.map fun b => (zbL d b).length).sum ∧ zEk E00 E c0 ∧ (∀ i x, (zalg (zG d u) (fun b => (zbL d b).length) p0 acc)[i]? = some x → zEe E (c0 + 1 + i) x) ∧
  r.2.1 = c0 + 1 + (zalg (zG d u) (fun b => (zbL d b).length) p0 acc).length ∧ m = m0 + (acc.map fun b => ztM d b.2).sum ∧ dp = zdx dp1 (u + 1) (zmx (acc.map fun b => ztD d b.2))
section TR6
variable {D : zD} {o : Nat} {A : Nat → Nat} {S0 : zTS} {I : zM} {n d u a c0 p0 m0 dp1 : Nat} {k pl : Bool} {tq : Nat → Int32} {E00 : Nat → Nat → Int32}
/-- one branch -/
theorem t_br1 {dd : Nat} {post : Int32 → zM → Prop} {k3 : Int32 → Int32 → Int32 → Int32 → zM → Prop} {acc : List (List Int32 × List (zN d))} {r : zRh} {m dp : Nat} {S : zTS} {E : Nat → Nat → Int32} {ho : Bool} (hT : tok D o A) (hM : zRM D o A S0 I n d) (hu : u + 1 + d = 3) (hdd : d < dd) (h : zBI S0 n d u a c0 p0 m0 dp1 k tq E00 acc r m dp S E)
    (hfail : ∀ e S', S'.1 23 = nI e → e ≤ n → zfr S0 S' → (acc.length = 10 ∧ e = r.1 ∨ acc.length ≠ 10 ∧ (zkey tq n k r.1 = .inl e ∨ ∃ kt, zkey tq n k r.1 = .inr kt ∧ (zhr tq n (r.1 + kt.length) ≠ 40 ∧ e = r.1 + kt.length ∨ zhr tq n (r.1 + kt.length) = 40 ∧
      (zrd tq n d (pl || k) (r.1 + kt.length + 1, r.2.1, (if acc.any (fun b => zkv k b.1 == zkv k kt) then zlie r.2.2.1 r.1 else r.2.2.1), r.2.2.2) = .inl e ∨ ∃ t r2, zrd tq n d (pl || k) (r.1 + kt.length + 1, r.2.1, (if acc.any (fun b => zkv k b.1 == zkv k kt) then zlie r.2.2.1 r.1 else r.2.2.1), r.2.2.2) = .inr (t, r2) ∧ zhr tq n r2.1 ≠ 41 ∧ e = r2.1)))) → post 0 (tm o A S' I))
    (hok : ∀ kt t r2 S' E', acc.length ≠ 10 → zkey tq n k r.1 = .inr kt → zhr tq n (r.1 + kt.length) = 40 → zrd tq n d (pl || k) (r.1 + kt.length + 1, r.2.1, (if acc.any (fun b => zkv k b.1 == zkv k kt) then zlie r.2.2.1 r.1 else r.2.2.1), r.2.2.2) = .inr (t, r2) → zhr tq n r2.1 = 41 →
      zBI S0 n d u a c0 p0 m0 dp1 k tq E00 (acc ++ [(kt, t)]) (r2.1 + 1, r2.2) (m + ztM d t) (zdx dp (u + 1) (ztD d t)) S' E' → k3 (nI c0) (nI (u + 1)) (b1 (pl || k)) (b1 (ho || zkv k kt == (if k then 5 else 3))) (tm o A S' I)) :
    wp_X9_readsBranches_L21 D (wp_X9_readsMessage D dd) post o k3 (nI c0) (nI (u + 1)) (b1 (pl || k)) (b1 ho) (tm o A S I) := by
  obtain ⟨i1, i2, i3, i4, i5, i6, ⟨i7a, i7b, i7c, i7d⟩, i8, i9, i10, i11, i12, i13, i14, i15, i16⟩ := h
  have hn120 := i1.2.2.2.2.2.2.2.2.2.2.2.1
  have hr8 := i1.2.2.2.2.2.2.2.2.2.2.2.2.2.1
  have a23 := i1.2.2.2.1
  have e33 : S.2.1 33 = E 33 := i1.2.1 33 (by decide)
  have e31 : S.2.1 31 = E 31 := i1.2.1 31 (by decide)
  unfold wp_X9_readsBranches_L21 wp_X9_readsBranches_L66
  simp (disch := first | decide | omega) only [tgI, tgR, tzd, taI hT, tsI hT, tp hT, tF_s, tF_n, tA_F, tF_A, tA_s, tA_n, tA_R, tsz, m8, m5, m6, m10, m30, m120, nI_1, nI_add, clT, vinT, true_and, updS, updN, if_true, e33, i8]
  rw [show (10 : Int32) = nI 10 from rfl, nI_eq (by omega) (by decide)]
  refine ⟨fun z => ?_, fun z => ⟨rfl, hfail r.1 S a23 i1.2.2.2.2.2.2.2.2.2.2.2.2.1 (zfr_of i1 i2) (Or.inl ⟨z, rfl⟩)⟩⟩
  simp (disch := first | decide | omega) only [tgI, tgR, tzd, taI hT, tsI hT, tp hT, tF_s, tF_n, tA_F, tF_A, tA_s, tA_n, tA_R, tsz, m8, m5, m6, m10, m30, m120, nI_1, nI_add, clT, vinT, true_and, updS, updN, if_true, e31, i7b, a23]
  refine ⟨tis _ (by decide), t_readsKey hT i1 (fun S' e k1 k2 => ?_) (fun S' kt k1 k2 => ?_)⟩
  · rw [i3] at k1
    exact ⟨fun _ => ⟨rfl, hfail e S' k2.2.2.2.1 k2.2.2.2.2.2.2.2.2.2.2.2.2.1 (zfr_of k2 i2) (Or.inr ⟨z, Or.inl k1⟩)⟩, fun y => absurd (by decide) y⟩
  rw [i3] at k1
  have hkb := (zkey_ok k1).2.1
  refine ⟨fun y => absurd y (nI_pos (by omega)), fun _ => ⟨tis _ (by decide), t_takes hT k2 (fun z2 => ⟨fun _ => ?_, fun y => absurd y (by decide)⟩) (fun z2 => ⟨fun y => absurd rfl y, fun _ => ⟨rfl, ?_⟩⟩)⟩⟩
  rotate_left
  · replace z2 : zhr (E 7) n (r.1 + kt.length) ≠ 40 := z2
    rw [i3] at z2
    exact hfail _ S' k2.2.2.2.1 k2.2.2.2.2.2.2.2.2.2.2.2.2.1 (zfr_of k2 i2) (Or.inr ⟨z, Or.inr ⟨kt, k1, Or.inl ⟨z2, rfl⟩⟩⟩)
  replace z2 : zhr (E 7) n (r.1 + kt.length) = 40 := z2
  have hlt : r.1 + kt.length < n := zhr_n (tp := E 7) (by rw [z2]; decide)
  rw [i3] at z2
  have k4 := zrd9_at k2 (p := r.1 + kt.length + 1) hlt
  have hks : ∀ b y, (acc.map fun b => zkv k b.1)[b]? = some y → E 34 (10 * c0 + b) = nI y ∧ y ≤ 1009 := by
    intro b y hy
    rw [← zbr_fst k d acc p0, List.getElem?_map] at hy
    obtain ⟨w, hw1, hw2⟩ := Option.map_eq_some_iff.mp hy
    obtain ⟨j1, j2, j3⟩ := i10 b w hw1
    rw [← hw2]; exact ⟨j1, j2⟩
  refine t_dup (ks := acc.map fun b => zkv k b.1) (q := zkv k kt) (p := r.1) (k := k) (ho := ho) hT k4 (by omega) (by rw [List.length_map]; exact i9) (by rw [List.length_map]; exact i8) i7b hks hkb (by omega) fun S5 k5 => ?_
  have hany : (acc.map fun b => zkv k b.1).any (· == zkv k kt) = acc.any (fun b => zkv k b.1 == zkv k kt) := by rw [List.any_map]; rfl
  rw [hany] at k5
  replace k5 : zrd9 S0 E n S5 (r.1 + kt.length + 1, r.2.1, (if acc.any (fun b => zkv k b.1 == zkv k kt) then zlie r.2.2.1 r.1 else r.2.2.1), r.2.2.2) m dp := k5
  generalize hr5 : ((r.1 + kt.length + 1, r.2.1, (if acc.any (fun b => zkv k b.1 == zkv k kt) then zlie r.2.2.1 r.1 else r.2.2.1), r.2.2.2) : zRh) = r5 at k5
  have r51 : r5.1 = r.1 + kt.length + 1 := by rw [← hr5]
  have r52 : r5.2.1 = r.2.1 := by rw [← hr5]
  -- key, begin, many
  have b23 := k5.2.2.2.1
  have f33 : S5.2.1 33 = E 33 := k5.2.1 33 (by decide)
  unfold wp_X9_readsBranches_L141 wp_X9_readsBranches_L209
  simp (disch := first | decide | omega) only [tgI, tgR, tzd, taI hT, tsI hT, tp hT, tF_s, tF_n, tA_F, tF_A, tA_s, tA_n, tA_R, tsz, m8, m5, m6, m10, m30, m120, nI_1, nI_add, clT, vinT, true_and, updS, updN, if_true, f33, i8, b23]
  have k6 := zrd9_A (k := 33) (i := c0) (v := nI (acc.length + 1)) (zrd9_A (k := 35) (i := 10 * c0 + acc.length) (v := nI r5.1) (zrd9_A (k := 34) (i := 10 * c0 + acc.length) (v := nI (zkv k kt)) k5 (by decide)) (by decide)) (by decide)
  generalize hE1 : (fun j => if j = 33 then upd ((fun j => if j = 35 then upd ((fun j => if j = 34 then upd (E 34) (10 * c0 + acc.length) (nI (zkv k kt)) else E j) 35) (10 * c0 + acc.length) (nI r5.1) else (fun j => if j = 34 then upd (E 34) (10 * c0 + acc.length) (nI (zkv k kt)) else E j) j) 33) c0 (nI (acc.length + 1)) else (fun j => if j = 35 then upd ((fun j => if j = 34 then upd (E 34) (10 * c0 + acc.length) (nI (zkv k kt)) else E j) 35) (10 * c0 + acc.length) (nI r5.1) else (fun j => if j = 34 then upd (E 34) (10 * c0 + acc.length) (nI (zkv k kt)) else E j) j) j) = E1 at k6
  have g34 : E1 34 = upd (E 34) (10 * c0 + acc.length) (nI (zkv k kt)) := by rw [← hE1]; simp
  have g35 : E1 35 = upd (E 35) (10 * c0 + acc.length) (nI r5.1) := by rw [← hE1]; simp
  have g33 : E1 33 = upd (E 33) c0 (nI (acc.length + 1)) := by rw [← hE1]; simp
  have gn : ∀ j, j ≠ 33 → j ≠ 34 → j ≠ 35 → E1 j = E j := fun j x y w => by rw [← hE1]; simp [x, y, w]
  have g7 : E1 7 = tq := by rw [gn 7 (by decide) (by decide) (by decide), i3]
  have gE0 : zE0 S0 E1 := fun j hj => by rw [gn j (by omega) (by omega) (by omega)]; exact i2 j hj
  refine ⟨tis _ (by decide), hM (pl || k) (u + 1) r5 m dp _ E1 dd _ hu hdd k6 gE0 (by omega) i5 (fun e S' j1 j2 j3 j4 => ⟨fun _ => ⟨rfl, hfail e S' j2 j3 j4 (Or.inr ⟨z, Or.inr ⟨kt, k1, Or.inr ⟨z2, Or.inl (by rw [hr5, ← g7]; exact j1)⟩⟩⟩)⟩, fun y => absurd rfl y⟩) fun t r2 S7 E2 j1 j2 j3 j4 j5 j6 j7 => ⟨fun y => absurd y (by decide), fun _ => ⟨tis _ (by decide), ?_⟩⟩⟩
  rw [g7] at j1
  have e27 : E2 7 = tq := by rw [j4.1.1 7 (by decide), g7]
  have hE02 : zE0 S0 E2 := zEn_0 j4.1 gE0
  refine t_takes hT j2 (fun z3 => ⟨fun _ => ?_, fun y => absurd y (by decide)⟩) (fun z3 => ⟨fun y => absurd rfl y, fun _ => ⟨rfl, ?_⟩⟩)
  · rw [e27] at z3
    have hlt3 : r2.1 < n := zhr_n (tp := tq) (by rw [z3]; decide)
    have j9 := zrd9_at j2 (p := r2.1 + 1) hlt3
    refine hok kt t r2 _ E2 z k1 z2 (by rw [hr5]; exact j1) z3 ?_
    have kk := j4.1
    rw [r52] at kk j6
    have hbl : (zbL d (kt, t)).length = kt.length + 1 + (ztL d t).length + 1 := by
      show (kt ++ 40 :: (ztL d t ++ [41])).length = _
      simp only [List.length_append, List.length_cons, List.length_nil]; omega
    have hzG : zalg (zG d u) (fun b => (zbL d b).length) p0 (acc ++ [(kt, t)]) = zalg (zG d u) (fun b => (zbL d b).length) p0 acc ++ zcs d (u + 1) r5.1 t := by
      rw [zalg_app, ← i11]
      show _ ++ (zG d u r.1 (kt, t) ++ []) = _
      rw [List.append_nil, r51]; rfl
    refine ⟨j9, hE02, e27, by show m + ztM d t ≤ r2.1 + 1; omega, j7, by show c0 < r2.2.1; omega, ⟨?_, ?_, ?_, ?_⟩, ?_, ?_, ?_, ?_, ?_, ?_, ?_, ?_, ?_⟩
    · rw [kk.2.1 30 (by decide) (by decide) c0 i6, gn 30 (by decide) (by decide) (by decide)]; exact i7a
    · rw [kk.2.1 31 (by decide) (by decide) c0 i6, gn 31 (by decide) (by decide) (by decide)]; exact i7b
    · rw [kk.2.1 32 (by decide) (by decide) c0 i6, gn 32 (by decide) (by decide) (by decide)]; exact i7c
    · rw [kk.2.1 36 (by decide) (by decide) c0 i6, gn 36 (by decide) (by decide) (by decide)]; exact i7d
    · rw [kk.2.1 33 (by decide) (by decide) c0 i6, g33, updS, List.length_append]; rfl
    · rw [List.length_append, List.length_singleton]; omega
    · intro b y hy
      rw [zbr_app] at hy
      have hidx : 10 * c0 + b < 10 * r.2.1 := by
        have := (List.getElem?_eq_some_iff.mp hy).1
        rw [List.length_append, zbr_len, List.length_singleton] at this
        omega
      rw [kk.2.2 34 (by decide) _ hidx, kk.2.2 35 (by decide) _ hidx, g34, g35]
      by_cases hb : b < acc.length
      · rw [List.getElem?_append_left (by rw [zbr_len]; exact hb)] at hy
        rw [updN (by omega), updN (by omega)]
        exact i10 b y hy
      · rw [List.getElem?_append_right (by rw [zbr_len]; omega), zbr_len] at hy
        have hb0 : b - acc.length = 0 := by
          have := (List.getElem?_eq_some_iff.mp hy).1
          rw [List.length_singleton] at this; omega
        rw [hb0] at hy
        cases hy
        have hbe : b = acc.length := by omega
        subst hbe
        rw [updS, updS]
        exact ⟨rfl, hkb, by rw [r51, i11]⟩
    · show r2.1 + 1 = p0 + _
      rw [List.map_append, List.sum_append, List.map_cons, List.map_nil, List.sum_cons, List.sum_nil, hbl, j5, r51, i11]; omega
    · refine zEk_t i12 (zEk_t (c' := c0) ⟨fun j hj => ?_, fun j x y i hi => ?_, fun j x i hi => ?_⟩ (zEk_t (c' := r.2.1) zEk_r kk (by omega)) (Nat.le_refl _)) (Nat.le_refl _)
      · exact gn j (by omega) (by omega) (by omega)
      · by_cases hj : j = 33
        · subst hj; rw [g33, updN (by omega)]
        · rw [gn j hj x y]
      · rcases x with rfl | rfl
        · rw [g34, updN (by omega)]
        · rw [g35, updN (by omega)]
    · intro i x hx
      rw [hzG] at hx
      by_cases hi : i < (zalg (zG d u) (fun b => (zbL d b).length) p0 acc).length
      · rw [List.getElem?_append_left hi] at hx
        refine zEe_k ?_ kk (by omega)
        -- unchanged by the three stores
        obtain ⟨q1, q2, q3, q4, q5, q6, q7⟩ := i13 i x hx
        refine ⟨by rw [gn 30 (by decide) (by decide) (by decide)]; exact q1, by rw [gn 31 (by decide) (by decide) (by decide)]; exact q2, by rw [gn 32 (by decide) (by decide) (by decide)]; exact q3, by rw [gn 36 (by decide) (by decide) (by decide)]; exact q4, by rw [g33, updN (by omega)]; exact q5, q6, fun b y hy => ?_⟩
        rw [g34, g35, updN (by omega), updN (by omega)]
        exact q7 b y hy
      · rw [List.getElem?_append_right (by omega)] at hx
        have := j4.2 _ x hx
        rw [r52] at this
        rw [show r.2.1 + (i - (zalg (zG d u) (fun b => (zbL d b).length) p0 acc).length) = c0 + 1 + i by omega] at this
        exact this
    · show r2.2.1 = _
      rw [hzG, List.length_append, j6]; omega
    · rw [List.map_append, List.sum_append, List.map_cons, List.map_nil, List.sum_cons, List.sum_nil]
      show m + ztM d t = m0 + ((acc.map fun b => ztM d b.2).sum + (ztM d t + 0))
      omega
    · rw [List.map_append, List.map_cons, List.map_nil, zmx_app, ← zdx_max, ← i16]
  · rw [e27] at z3
    exact hfail r2.1 S7 j2.2.2.2.1 j2.2.2.2.2.2.2.2.2.2.2.2.2.1 (zfr_of j2 hE02) (Or.inr ⟨z, Or.inr ⟨kt, k1, Or.inr ⟨z2, Or.inr ⟨t, r2, by rw [hr5]; exact j1, z3, rfl⟩⟩⟩⟩)
end TR6
