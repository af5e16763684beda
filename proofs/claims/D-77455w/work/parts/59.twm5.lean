/-! the twin writes a message: choices; the act write -/
section TM5
variable {D : zD} {o : Nat} {A : Nat → Nat} {S0 : zTS} {I : zM} {j l n nc hi : Nat} {th : Nat → zTh} {cs : List zCh}
theorem zbL_flat (d : Nat) (bs : List (List Int32 × List (zN d))) : (bs.flatMap fun b => b.1 ++ 40 :: (b.2.flatMap (znL d) ++ [41])) = bs.flatMap (zbL d) := rfl
theorem zPB_s {d : Nat} (hT : tok D o A) (hC : zcx D I S0 j l n nc th cs hi) (hM : zPM D o A S0 I j l n nc th cs d) : zPB D o A S0 I j l n nc th cs (d + 1) := by
  intro q p u pa dd pl out S post hw hpl hpa hA hb hlen hcs ho hS hdd hpost
  match q, hw, hA, hb, hlen, hcs, hpost with
  | .inl q, hw, hA, hb, hlen, hcs, hpost => exact t_leaf (pq := ((th pa).2.1, (th pa).2.2.1)) hT hC hw hA hb hlen hS ho hpost
  | .inr (k, a, bs), hw, hA, hb, hlen, hcs, hpost =>
    obtain ⟨ha, hbl, hbs, hnd, hoth⟩ := hw
    replace ha : a < 5 := ha
    replace hbl : bs.length ≤ 10 := hbl
    have hCS := zcx_s hC hS.1
    obtain ⟨h0, hnc, hl, hl2, hj, h9, hn, hth, hJ, hc8, hri, hhi, hcc⟩ := hCS
    have hown : zown S nc = zown S0 nc := zown_s hS.1
    have hAS : zAt S j p (znL (d + 1) (.inr (k, a, bs))) := zAt_s (hS.1.2.1 10 (by decide)) hA
    obtain ⟨t1, t2, t3, t4, t5, t6, t7⟩ := hth a ha
    have sub65 : nI (65 + a) - 65 = nI a := by rw [show (65 : Int32) = nI 65 from rfl, nI_sub (by omega), Nat.add_sub_cancel_left]
    obtain ⟨-, hA1⟩ := zAt_c (show zAt S j p (123 :: nI (65 + a) :: (if k then 112 else 103) :: (bs.flatMap (zbL d) ++ [125])) from hAS)
    obtain ⟨h1, hA2⟩ := zAt_c hA1
    obtain ⟨h2, hA3⟩ := zAt_c hA2
    rw [show 120 * j + (p + 1) = 120 * j + p + 1 by omega] at h1
    rw [show 120 * j + (p + 1 + 1) = 120 * j + p + 2 by omega] at h2
    have hL : (znL (d + 1) (.inr (k, a, bs))).length = 4 + (bs.flatMap (zbL d)).length := by
      show (123 :: nI (65 + a) :: (if k then 112 else 103) :: (bs.flatMap (zbL d) ++ [125])).length = _
      simp only [List.length_cons, List.length_append, List.length_nil]; omega
    rw [hL] at hlen
    -- the choice's number
    obtain ⟨⟨c0, hc0⟩, hcs2⟩ := zIn_c (show zIn cs ((a, (if k then 1 else 2), u, p, zbr k d (p + 3) bs) :: zalg (fun r b => zalg (zcN d (u + 1)) (fun x => (znL d x).length) (r + b.1.length + 1) b.2) (fun b => (zbL d b).length) (p + 3) bs) from hcs)
    have hc0l := (List.getElem?_eq_some_iff.mp hc0).1
    obtain ⟨a1, a2, a3, a4⟩ := hcc c0 _ hc0
    simp only at a1 a2 a3 a4
    rw [zbr_fst] at a2
    generalize hks : (bs.map fun b => zkv k b.1) = ks at a2 hnd hoth
    have hksl : ks.length = bs.length := by rw [← hks, List.length_map]
    obtain ⟨r, hr, hrl⟩ := zpick_some (own := zown S0 nc) (l := l) (k := k) (t := th a) hoth
    obtain ⟨b, hbr⟩ : ∃ b, bs[r]? = some b := ⟨bs[r]'(by omega), List.getElem?_eq_getElem (by omega)⟩
    obtain ⟨⟨hk1, hk2, hk3⟩, hbw⟩ := hbs b (List.mem_of_getElem? hbr)
    -- its branch's text
    obtain ⟨rest, hfl⟩ := zflat_take (f := zbL d) bs r b hbr
    have htk : ((bs.take r).flatMap (zbL d)).length = ((bs.take r).map fun b => (zbL d b).length).sum := zflat_len _
    have hbeg := zbr_at k d bs (p + 3) r b hbr
    have hbg : S.2.1 21 (10 * (8 * j + c0) + r) = nI (p + 3 + ((bs.take r).map fun b => (zbL d b).length).sum + b.1.length + 1) := a3 r _ hbeg
    generalize hP : ((bs.take r).map fun b => (zbL d b).length).sum = P at htk hbg hbeg
    have hpA : zAt S j (p + 1 + 1 + 1) (bs.flatMap (zbL d) ++ [125]) := hA3
    rw [hfl, List.append_assoc, List.append_assoc] at hpA
    have hpB := (zAt_a hpA).2
    rw [htk, show p + 1 + 1 + 1 + P = p + 3 + P by omega] at hpB
    have hbL : zbL d b = b.1 ++ (40 :: (ztL d b.2 ++ [41])) := rfl
    rw [hbL, List.append_assoc] at hpB
    have hpC : zAt S j (p + 3 + P + b.1.length + 1) ((ztL d b.2 ++ [41]) ++ (rest ++ [125])) := (zAt_c (zAt_a hpB).2).2
    rw [List.append_assoc] at hpC
    obtain ⟨hpD, hpE⟩ := zAt_a hpC
    have h41 := (zAt_c hpE).1
    have hbound : P + (b.1.length + (1 + ((ztL d b.2).length + 1))) ≤ (bs.flatMap (zbL d)).length := by
      rw [hfl, List.length_append, List.length_append, htk, hbL]
      simp only [List.length_append, List.length_cons, List.length_nil]; omega
    have hcs3 : zIn cs (zcs d (u + 1) (p + 3 + P + b.1.length + 1) b.2) := by
      obtain ⟨x, y, hxy⟩ := zalg_take (g := fun r b => zalg (zcN d (u + 1)) (fun x => (znL d x).length) (r + b.1.length + 1) b.2) (len := fun b => (zbL d b).length) bs (p + 3) r b hbr
      rw [hxy] at hcs2
      have := (zIn_a (zIn_a hcs2).2).1
      rw [hP] at this
      exact this
    -- the end with a fault
    have bad : ∀ x5 : Int32, (th a).1 ≠ (if k then 1 else 2) → wp_X9_writesBrace_L116 D (wp_X9_writesMessage D dd) post o (nI j) (nI p) (nI pa) (nI a) x5 0 (tm o A S I) := fun x5 he => by
      unfold wp_X9_writesBrace_L116 wp_X9_writesBrace_L309
      refine ⟨fun z => absurd rfl z, fun _ => ?_⟩
      rw [tp hT (by decide) rfl]
      refine hpost _ ?_
      have e : zwN (zown S0 nc) l th (d + 1) ((th pa).2.1, (th pa).2.2.1) (.inr (k, a, bs)) out = (-20 - nI a, out) := by
        show (if (th a).1 = (if k then 1 else 2) then _ else _) = _
        rw [if_neg he]
      rw [e]; exact zwS_50 hS
    -- the branch, written
    have good : (th a).1 = (if k then 1 else 2) → wp_X9_writesBrace_L251 D (wp_X9_writesMessage D dd) post o (nI j) (nI pa) (nI a) (if k then 112 else 103) (nI c0) (nI r) (tm o A S I) := fun he => by
      unfold wp_X9_writesBrace_L251 wp_X9_writesBrace_L271 wp_X9_writesBrace_L306 wp_X9_writesBrace_L309
      refine ⟨fun _ => ?_, fun z => absurd (nI_pos' (by omega)) z⟩
      simp (disch := first | decide | omega) only [tgI, tgR, tzd, taI hT, tsI hT, tp hT, tF_s, tF_n, tA_F, tF_A, tA_s, tA_n, tA_R, tsz, m8, m5, m6, m10, m30, m120, nI_1, nI_add, clT, vinT, true_and, updS, updN, if_true, hbg]
      have e : ∀ pq, zwN (zown S0 nc) l th (d + 1) pq (.inr (k, a, bs)) out = zwL (zwN (zown S0 nc) l th d (if k then ((th a).2.1, (th a).2.2.1) else pq)) b.2 out := fun pq => by
        show (if (th a).1 = (if k then 1 else 2) then _ else _) = _
        rw [if_pos he, hks, hr, Option.bind_some, hbr]; rfl
      rw [e] at hpost
      have hend : p + 3 + P + b.1.length + 1 + (ztL d b.2).length < n := by omega
      have h41' : S0.2.1 10 (120 * j + (p + 3 + P + b.1.length + 1 + (ztL d b.2).length)) = 41 := by rw [← hS.1.2.1 10 (by decide)]; exact h41
      have hpD0 : zAt S0 j (p + 3 + P + b.1.length + 1) (ztL d b.2) := zAt_s (hS.1.2.1 10 (by decide)).symm hpD
      cases k
      · refine ⟨fun _ => ⟨tis _ (by decide), ?_⟩, fun z => absurd z (by decide)⟩
        exact hM b.2 _ (u + 1) pa dd (pl || false) out S _ (fun x hx => hbw x hx) (fun z => hpl (by simpa using z)) hpa hpD0 (by omega) (Or.inr ⟨hend, h41'⟩) hcs3 ho hS (by omega) hpost
      · refine ⟨fun z => absurd rfl z, fun _ => ⟨tis _ (by decide), ?_⟩⟩
        exact hM b.2 _ (u + 1) a dd (pl || true) out S _ (fun x hx => hbw x hx) (fun _ => he) ha hpD0 (by omega) (Or.inr ⟨hend, h41'⟩) hcs3 ho hS (by omega) hpost
    unfold wp_X9_writesBrace
    simp (disch := first | decide | omega) only [tgI, tgR, tzd, taI hT, tsI hT, tp hT, tF_s, tF_n, tA_F, tF_A, tA_s, tA_n, tA_R, tsz, m8, m5, m6, m10, m30, m120, nI_1, nI_add, clT, vinT, true_and, updS, updN, if_true, nI_2, h1, h2, sub65]
    cases k
    · refine ⟨fun _ => ⟨fun z => absurd z (by decide), fun _ => ⟨fun _ => ⟨fun z => absurd rfl z, fun _ => ?_⟩, fun z => absurd z (by decide)⟩⟩, fun z => absurd z (by decide)⟩
      unfold wp_X9_writesBrace_L74
      simp (disch := first | decide | omega) only [tgI, tgR, tzd, taI hT, tsI hT, tp hT, tF_s, tF_n, tA_F, tF_A, tA_s, tA_n, tA_R, tsz, m8, m5, m6, m10, m30, m120, nI_1, nI_add, clT, vinT, true_and, updS, updN, if_true, t1]
      refine ⟨fun _ => ?_, fun z => absurd z (by decide)⟩
      rw [show nI (th a).1 = 2 ↔ (th a).1 = 2 by rw [show (2 : Int32) = nI 2 from rfl, nI_eq (by omega) (by decide)]]
      refine ifn (fun z => ?_) (fun z => bad _ z)
      unfold wp_X9_writesBrace_L116
      refine ⟨fun _ => ⟨fun y => absurd y (by decide), fun _ => ⟨fun _ => ⟨fun _ => ⟨tis _ (by decide), t_choiceAt (lo := 0) hT hj hc8 hri hhi (fun c y hy => (hcc c y hy).2.2.2) hc0 rfl ?_⟩, fun y => absurd y (by decide)⟩, fun y => absurd y (by decide)⟩⟩, fun y => absurd y (by decide)⟩
      obtain ⟨g, hg, hg2⟩ := t6 z
      refine ⟨fun _ => ?_, fun y => absurd y (by decide)⟩
      simp (disch := first | decide | omega) only [tgI, tgR, tzd, taI hT, tsI hT, tp hT, tF_s, tF_n, tA_F, tF_A, tA_s, tA_n, tA_R, tsz, m8, m5, m6, m10, m30, m120, nI_1, nI_add, clT, vinT, true_and, updS, updN, if_true, t2]
      rw [hg2]
      refine ⟨tis _ (by decide), t_bw hT hj (by omega) a2 (by omega) ?_⟩
      have hr' : zoth ks g 3 = some r := by
        unfold zpick at hr
        rw [if_neg (by decide), hg2, clT (by omega)] at hr; exact hr
      unfold zoth at hr'
      cases e : zix g 0 ks with
      | some i => rw [e] at hr'; cases hr'; exact good z
      | none =>
        rw [e] at hr'
        unfold wp_X9_writesBrace_L251
        refine ⟨fun y => absurd y (by decide), fun _ => ⟨tis _ (by decide), t_bw (q := 3) hT hj (by omega) a2 (by decide) ?_⟩⟩
        replace hr' : zix 3 0 ks = some r := hr'
        rw [hr']
        have := good z
        unfold wp_X9_writesBrace_L251 at this
        exact this.1 (nI_pos' (by omega))
    · refine ⟨fun _ => ⟨fun z => absurd z (by decide), fun _ => ⟨fun z => absurd rfl z, fun _ => ?_⟩⟩, fun z => absurd z (by decide)⟩
      unfold wp_X9_writesBrace_L58 wp_X9_writesBrace_L74
      simp (disch := first | decide | omega) only [tgI, tgR, tzd, taI hT, tsI hT, tp hT, tF_s, tF_n, tA_F, tF_A, tA_s, tA_n, tA_R, tsz, m8, m5, m6, m10, m30, m120, nI_1, nI_add, clT, vinT, true_and, updS, updN, if_true, t1]
      refine ⟨fun _ => ?_, fun z => absurd z (by decide)⟩
      rw [show nI (th a).1 = 1 ↔ (th a).1 = 1 by rw [show (1 : Int32) = nI 1 from rfl, nI_eq (by omega) (by decide)]]
      refine ifn (fun z => ?_) (fun z => bad _ z)
      unfold wp_X9_writesBrace_L116
      refine ⟨fun _ => ⟨fun y => absurd y (by decide), fun _ => ⟨fun _ => ⟨fun _ => ⟨tis _ (by decide), t_choiceAt (lo := 0) hT hj hc8 hri hhi (fun c y hy => (hcc c y hy).2.2.2) hc0 rfl ?_⟩, fun y => absurd y (by decide)⟩, fun y => absurd y (by decide)⟩⟩, fun y => absurd y (by decide)⟩
      refine ⟨fun y => absurd rfl y, fun _ => ?_⟩
      simp (disch := first | decide | omega) only [tgI, tgR, tzd, taI hT, tsI hT, tp hT, tF_s, tF_n, tA_F, tF_A, tA_s, tA_n, tA_R, tsz, m8, m5, m6, m10, m30, m120, nI_1, nI_add, clT, vinT, true_and, updS, updN, if_true, t2, t3, hl]
      refine ⟨tis _ (by decide), t_branchOf hT h0 hnc hj (by omega) hl2 t5 a2 ?_⟩
      have hr' : zbo (th a).2.1 (th a).2.2.1 (zoth ks (zca (zof (zown S nc) l) (th a).2.1 (th a).2.2.1) 5) 0 ks = some r := by
        unfold zpick at hr
        rw [if_pos rfl] at hr
        rw [hown]; exact hr
      rw [hr']
      exact good z
theorem zPM_3 (hT : tok D o A) (hC : zcx D I S0 j l n nc th cs hi) : zPM D o A S0 I j l n nc th cs 3 :=
  zPM_of hT hC (zPB_s hT hC (zPM_of hT hC (zPB_s hT hC (zPM_of hT hC (zPB_s hT hC (zPM_of hT hC (zPB_0 hT hC)))))))
/-- what a slot's message writes: ended, the letters -/
def zwr (own : List zCo) (l : Nat) (th : Nat → zTh) (t : List (zN 3)) : Int32 × List Int32 := zwL (zwN own l th 3 ((th 0).2.1, (th 0).2.2.1)) t []
theorem t_write {post : Int32 → zM → Prop} {S : zTS} {s c : Int32} (hT : tok D o A) (h1 : (zb s 4 && zb c 7) = false → post (-1) (tm o A S I)) (h2 : ∀ j l, j < 4 → s = nI j → l < 7 → c = nI l → ¬ 0 ≤ S.2.1 9 j → post (-2) (tm o A S I))
    (h3 : ∀ j l, j < 4 → s = nI j → l < 7 → c = nI l → 0 ≤ S.2.1 9 j → ∃ (t : List (zN 3)) (th : Nat → zTh) (nc : Nat), zcx D I (tF (tF (tF S 48 0) 49 c) 50 0) j l (ztL 3 t).length nc th (zcs 3 0 0 t) (ztL 3 t).length ∧ zwfT 3 false t ∧ zAt S j 0 (ztL 3 t) ∧
      ∀ S', zwS (tF (tF (tF S 48 0) 49 c) 50 0) S' (zwr (zown S nc) l th t).1 (zwr (zown S nc) l th t).2 → (zwr (zown S nc) l th t).2.length ≤ 350 →
        ((zwr (zown S nc) l th t).1 ≠ 0 → post (zwr (zown S nc) l th t).1 (tm o A S' I)) ∧ ((zwr (zown S nc) l th t).1 = 0 → (zwr (zown S nc) l th t).2.length ≤ 240 ∧ post (nI (zwr (zown S nc) l th t).2.length) (tm o A (tput S' (zwr (zown S nc) l th t).2.length) I))) : wp_X9_write D post o s c (tm o A S I) := by
  unfold wp_X9_write wp_X9_write_L14 wp_X9_write_L68
  refine t_isSlot (ifb' (fun e1 => t_isLanguage (ifb (fun e2 => ?_) (fun e2 => h1 (by rw [e2, Bool.and_false])))) (fun e1 => h1 (by rw [e1]; rfl)))
  obtain ⟨j, hj, rfl⟩ := zb_of e1 (by decide)
  obtain ⟨l, hl, rfl⟩ := zb_of e2 (by decide)
  simp (disch := first | decide | omega) only [tgI, tgR, tzd, taI hT, tsI hT, tp hT, tF_s, tF_n, tA_F, tF_A, tA_s, tA_n, tA_R, tsz, m8, m5, m6, m10, m30, m120, nI_1, nI_add, clT, vinT, true_and, updS, updN, if_true]
  refine ⟨fun z => ?_, fun z => h2 j l hj rfl hl rfl z⟩
  obtain ⟨t, th, nc, hC, hw, hA, h⟩ := h3 j l hj rfl hl rfl z
  have hth := hC.2.2.2.2.2.2.2.1
  have hown : zown (tF (tF (tF S 48 0) 49 (nI l)) 50 0) nc = zown S nc := rfl
  refine ⟨tis _ (by decide), zPM_3 hT hC t 0 0 0 6 false [] _ _ hw (fun z => by cases z) (by decide) hA (by omega) (Or.inl (by omega)) zIn_r (by decide) ⟨⟨fun _ _ _ _ _ _ _ => rfl, fun _ _ => rfl, rfl⟩, rfl, rfl, fun i c hc => by simp at hc⟩ (by decide) fun S' hS' => ?_⟩
  rw [hown] at hS'
  have hlen : (zwr (zown S nc) l th t).2.length ≤ 350 := zwL_len t (fun q hq out ho => zwN_len hth 3 false q _ (hw q hq) (fun z => by cases z) out ho) [] (by decide)
  obtain ⟨k1, k2⟩ := h S' hS' hlen
  have h50 : S'.1 50 = (zwr (zown S nc) l th t).1 := hS'.2.2.1
  simp (disch := first | decide | omega) only [tgI, tgR, tzd, taI hT, tsI hT, tp hT, tF_s, tF_n, tA_F, tF_A, tA_s, tA_n, tA_R, tsz, m8, m5, m6, m10, m30, m120, nI_1, nI_add, clT, vinT, true_and, updS, updN, if_true, h50]
  refine ⟨fun y => ⟨tis _ (by decide), ?_⟩, fun y => k1 y⟩
  obtain ⟨k3, k4⟩ := k2 y
  exact t_puts hT hS'.2.1 k3 k4
end TM5
