/-! the twin writes a message: parts out of braces, braces out of parts -/
section TM4
variable {D : zD} {o : Nat} {A : Nat → Nat} {S0 : zTS} {I : zM} {j l n nc hi : Nat} {th : Nat → zTh} {cs : List zCh}
/-- a part that is one letter -/
theorem zone : ∀ (d : Nat) (pl : Bool) (q : zN d), zwfN d pl q → ¬ zin1 (znL d q) → ∃ (tag : Nat) (c : Int32) (r : _), znL d q = zlL (tag, c, r) ∧ zwfF pl (tag, c, r) ∧ (tag = 0 ∨ tag = 1) ∧ ∀ (own : List zCo) (l : Nat) (th : Nat → zTh) (pq : Int32 × Nat) (out : List Int32), zwN own l th d pq q out = zwF l th pq (tag, c, r) out := by
  have key : ∀ (pl : Bool) (q : zLf), zwfF pl q → ¬ zin1 (zlL q) → q.1 = 0 ∨ q.1 = 1 := by
    intro pl q hw hb
    match q, hw, hb with
    | (0, c, r), _, _ => exact Or.inl rfl
    | (1, c, r), _, _ => exact Or.inr rfl
    | (2, c, a, r), hw, hb => exact absurd ⟨[nI (65 + a)], rfl, zba_one (nI_65 hw).1 (nI_65 hw).2⟩ hb
    | (3, c, a, r), hw, hb => exact absurd ⟨[nI (65 + a), 108], rfl, zba_cons (nI_65 hw).1 (nI_65 hw).2 (zba_one (by decide) (by decide))⟩ hb
    | (t + 4, c, a, g, w, e, m), hw, hb => exact absurd ⟨nI (65 + a) :: 110 :: zpl g w e m, rfl, zba_cons (nI_65 hw.2.1).1 (nI_65 hw.2.1).2 (zba_cons (by decide) (by decide) zba_pl)⟩ hb
  intro d pl q hw hb
  match d, q, hw, hb with
  | 0, (tag, c, r), hw, hb => exact ⟨tag, c, r, rfl, hw, key pl _ hw hb, fun _ _ _ _ _ => rfl⟩
  | d + 1, .inl (tag, c, r), hw, hb => exact ⟨tag, c, r, rfl, hw, key pl _ hw hb, fun _ _ _ _ _ => rfl⟩
  | d + 1, .inr (k, a, bs), hw, hb =>
    rcases znL_b (d + 1) pl (.inr (k, a, bs)) hw with ⟨c, e, h1, -⟩ | h
    · exact absurd (List.cons.inj e).1.symm h1
    · exact absurd h hb
theorem zPM_of {d : Nat} (hT : tok D o A) (hC : zcx D I S0 j l n nc th cs hi) (hB : zPB D o A S0 I j l n nc th cs d) : zPM D o A S0 I j l n nc th cs d := by
  intro t p u pa dd pl out S post hwf hpl hpa hA hlen hend hcs ho hS hdd hpost
  obtain ⟨dd, rfl⟩ : ∃ x, dd = x + 1 := ⟨dd - 1, by omega⟩
  have hth := hC.2.2.2.2.2.2.2.1
  have hj := hC.2.2.2.2.1
  have hn120 := hC.2.2.2.2.2.2.1
  have h9 := hC.2.2.2.2.2.1
  have loop : ∀ (t : List (zN d)) (p : Nat) (out : List Int32) (S : zTS) (e : Int32), zwfT d pl t → zAt S0 j p (ztL d t) → p + (ztL d t).length ≤ n → (p + (ztL d t).length = n ∨ (p + (ztL d t).length < n ∧ S0.2.1 10 (120 * j + (p + (ztL d t).length)) = 41)) →
      zIn cs (zcs d u p t) → (e = 0 → out.length ≤ 240) → zwS S0 S e out →
      (∀ S', zwS S0 S' (if e ≠ 0 then (e, out) else zwL (zwN (zown S0 nc) l th d ((th pa).2.1, (th pa).2.2.1)) t out).1 (if e ≠ 0 then (e, out) else zwL (zwN (zown S0 nc) l th d ((th pa).2.1, (th pa).2.2.1)) t out).2 → post () (tm o A S' I)) →
      wp_X9_writesMessage_L3 D (wp_X9_writesMessage D dd) post o (t.length + 1) (nI j) (nI pa) (nI p) (tm o A S I) := by
    intro t
    induction t with
    | nil =>
      intro p out S e hwf hA hlen hend hcs ho hS hpost
      have hCS := zcx_s hC hS.1
      have h9' := hCS.2.2.2.2.2.1
      have h50 := hS.2.2.1
      have hpe : post () (tm o A S I) := hpost S (by
        have : (if e ≠ 0 then (e, out) else zwL (zwN (zown S0 nc) l th d ((th pa).2.1, (th pa).2.2.1)) [] out) = (e, out) := by
          split
          · rfl
          · rename_i z
            show ((0 : Int32), out) = (e, out)
            rw [Classical.not_not.mp z]
        rw [this]; exact hS)
      unfold wp_X9_writesMessage_L3 wp_X9_writesMessage_L150
      simp (disch := first | decide | omega) only [tgI, tgR, tzd, taI hT, tsI hT, tp hT, tF_s, tF_n, tA_F, tF_A, tA_s, tA_n, tA_R, tsz, m8, m5, m6, m10, m30, m120, nI_1, nI_add, clT, vinT, true_and, updS, updN, if_true, h50, h9']
      refine ⟨fun _ => hpe, fun _ => ?_⟩
      have hz : (ztL d ([] : List (zN d))).length = 0 := rfl
      rw [hz] at hend hlen
      rcases hend with hend | ⟨hend, h41⟩
      · rw [nI_leI (by omega) (by omega)]
        exact ⟨fun _ => hpe, fun z => by omega⟩
      · rw [nI_leI (by omega) (by omega)]
        refine ⟨fun _ => hpe, fun _ => ?_⟩
        simp (disch := first | decide | omega) only [tgI, tgR, tzd, taI hT, tsI hT, tp hT, tF_s, tF_n, tA_F, tF_A, tA_s, tA_n, tA_R, tsz, m8, m5, m6, m10, m30, m120, nI_1, nI_add, clT, vinT, true_and, updS, updN, if_true]
        refine ⟨fun _ => hpe, fun z => absurd ?_ z⟩
        rw [hS.1.2.1 10 (by decide)]; exact h41
    | cons q t ih =>
      intro p out S e hwf hA hlen hend hcs ho hS hpost
      have hCS := zcx_s hC hS.1
      have h9' := hCS.2.2.2.2.2.1
      have h50 := hS.2.2.1
      have hwq : zwfN d pl q := hwf q List.mem_cons_self
      have hsp : ztL d (q :: t) = znL d q ++ ztL d t := List.flatMap_cons ..
      rw [hsp, List.length_append] at hlen hend
      rw [hsp] at hA
      obtain ⟨hA1, hA2⟩ := zAt_a hA
      have hpos := znL_pos d pl q hwq
      have hcs' : zIn cs (zcN d u p q ++ zcs d u (p + (znL d q).length) t) := hcs
      obtain ⟨hc1, hc2⟩ := zIn_a hcs'
      by_cases he : e ≠ 0
      · unfold wp_X9_writesMessage_L3 wp_X9_writesMessage_L150
        simp (disch := first | decide | omega) only [tgI, tgR, tzd, taI hT, tsI hT, tp hT, tF_s, tF_n, tA_F, tF_A, tA_s, tA_n, tA_R, tsz, m8, m5, m6, m10, m30, m120, nI_1, nI_add, clT, vinT, true_and, updS, updN, if_true, h50]
        refine ⟨fun _ => hpost S ?_, fun z => absurd z he⟩
        rw [if_pos he]; exact hS
      · have he0 : e = 0 := Classical.not_not.mp he
        subst he0
        have ho' := ho rfl
        rw [if_neg he] at hpost
        -- what comes behind the part
        have next : ∀ (e1 : Int32) (o1 : List Int32), zwN (zown S0 nc) l th d ((th pa).2.1, (th pa).2.2.1) q out = (e1, o1) → ∀ S1, zwS S0 S1 e1 o1 → ∀ k3 : Int32 → Int32 → Int32 → zM → Prop, (∀ S', zwS S0 S' (if e1 ≠ 0 then e1 else if 240 < o1.length then -5 else 0) o1 → k3 (nI j) (nI pa) (nI (p + (znL d q).length)) (tm o A S' I)) →
            wp_X9_writesMessage_L117 D (wp_X9_writesMessage D dd) post o k3 (nI j) (nI pa) (nI (p + (znL d q).length)) (tm o A S1 I) := by
          intro e1 o1 h1 S1 hS1 k3 hk
          have hb := zwN_len (own := zown S0 nc) (l := l) hth d pl q ((th pa).2.1, (th pa).2.2.1) hwq (fun _ => (hth pa hpa).2.2.2.2.1) out ho'
          rw [h1] at hb
          exact t_117 hT hS1 (Nat.lt_of_le_of_lt hb (by decide)) hk
        -- the rest
        have rest : ∀ (e1 : Int32) (o1 : List Int32), zwN (zown S0 nc) l th d ((th pa).2.1, (th pa).2.2.1) q out = (e1, o1) → ∀ S', zwS S0 S' (if e1 ≠ 0 then e1 else if 240 < o1.length then -5 else 0) o1 → wp_X9_writesMessage_L3 D (wp_X9_writesMessage D dd) post o (t.length + 1) (nI j) (nI pa) (nI (p + (znL d q).length)) (tm o A S' I) := by
          intro e1 o1 h1 S' hS'
          refine ih (p + (znL d q).length) o1 S' _ (fun x hx => hwf x (List.mem_cons_of_mem _ hx)) hA2 (by omega) ?_ hc2 (fun z => ?_) hS' fun S2 hS2 => hpost S2 ?_
          · rw [Nat.add_assoc]; exact hend
          · by_cases z1 : e1 ≠ 0
            · rw [if_pos z1] at z; exact absurd z z1
            · rw [if_neg z1] at z
              by_cases z2 : 240 < o1.length
              · rw [if_pos z2] at z; exact absurd z (by decide)
              · omega
          · rw [zwl_step h1 rfl]; exact hS2
        have e10 : S.2.1 10 = S0.2.1 10 := hS.1.2.1 10 (by decide)
        have hr := rest _ _ rfl
        have hnx := next _ _ rfl
        generalize hz : zwN (zown S0 nc) l th d ((th pa).2.1, (th pa).2.2.1) q out = z1 at hr hnx
        show wp_X9_writesMessage_L3 D (wp_X9_writesMessage D dd) post o ((t.length + 1) + 1) (nI j) (nI pa) (nI p) (tm o A S I)
        unfold wp_X9_writesMessage_L3
        simp (disch := first | decide | omega) only [tgI, tgR, tzd, taI hT, tsI hT, tp hT, tF_s, tF_n, tA_F, tF_A, tA_s, tA_n, tA_R, tsz, m8, m5, m6, m10, m30, m120, nI_1, nI_add, clT, vinT, true_and, updS, updN, if_true, h50, h9']
        refine ⟨fun z => absurd trivial z, fun _ => ?_⟩
        rw [nI_leI (by omega) (by omega)]
        refine ⟨fun z => by omega, fun _ => ?_⟩
        have hlt : 120 * j + p < 480 := by omega
        simp (disch := first | decide | omega) only [tgI, tgR, tzd, taI hT, tsI hT, tp hT, tF_s, tF_n, tA_F, tF_A, tA_s, tA_n, tA_R, tsz, m8, m5, m6, m10, m30, m120, nI_1, nI_add, clT, vinT, true_and, updS, updN, if_true, e10]
        by_cases hb : zin1 (znL d q)
        · obtain ⟨m, hm, hm2⟩ := id hb
          have h1 : S0.2.1 10 (120 * j + p) = 123 := by rw [hm] at hA1; exact (zAt_c hA1).1
          rw [h1]
          refine ⟨fun z => absurd z (by decide), fun _ => ⟨fun z => absurd rfl z, fun _ => ⟨tis _ (by decide), ?_⟩⟩⟩
          refine hB q p u pa dd pl out S _ hwq hpl hpa hA1 hb (by omega) hc1 ho' hS (by omega) fun S1 hS1 => ⟨tis _ (by decide), ?_⟩
          rw [hz] at hS1
          exact t_behind hT hj (zAt_s (hS1.1.2.1 10 (by decide)) hA1) hb (by omega) (hnx S1 hS1 _ hr)
        · obtain ⟨tag, c, r, h1, h2, h3, h4⟩ := zone d pl q hwq hb
          have h48 := hS.2.1
          have hone : (znL d q).length = 1 := by
            rcases znL_b d pl q hwq with ⟨x, e, -⟩ | h
            · rw [e]; rfl
            · exact absurd h hb
          rw [hone] at hnx hr
          rcases h3 with rfl | rfl
          · have h5 : S0.2.1 10 (120 * j + p) = c := by rw [h1] at hA1; exact (zAt_c (show zAt S0 j p [c] from hA1)).1
            obtain ⟨k1, k2, k3, k4⟩ := zsg_ok h2
            rw [h5]
            refine ⟨fun z => absurd z k3, fun _ => ⟨fun _ => ⟨fun _ => ⟨tis _ (by decide), t_writes hT h48 (by omega) ?_⟩, fun z => absurd z k4⟩, fun z => absurd z k1⟩⟩
            refine hnx (tw S out.length [c]) ?_ _ hr
            rw [← hz, h4]
            exact zwS_tw hS
          · have h5 : S0.2.1 10 (120 * j + p) = 35 := by rw [h1] at hA1; exact (zAt_c (show zAt S0 j p [35] from hA1)).1
            obtain ⟨t1, t2, t3, t4, t5, -⟩ := hCS.2.2.2.2.2.2.2.1 pa hpa
            rw [h5]
            refine ⟨fun z => absurd z (by decide), fun _ => ⟨fun _ => ⟨fun z => absurd rfl z, fun _ => ?_⟩, fun z => absurd z (by decide)⟩⟩
            simp (disch := first | decide | omega) only [tgI, tgR, tzd, taI hT, tsI hT, tp hT, tF_s, tF_n, tA_F, tF_A, tA_s, tA_n, tA_R, tsz, m8, m5, m6, m10, m30, m120, nI_1, nI_add, clT, vinT, true_and, updS, updN, if_true, t2, t3]
            refine ⟨tis _ (by decide), t_writesDecimal hT h48 hCS.2.2.1 hCS.2.2.2.1 t5 (by omega) ?_⟩
            refine hnx (tw S out.length (zpd l (th pa).2.1 (th pa).2.2.1)) ?_ _ hr
            rw [← hz, h4]
            exact zwS_tw hS
  exact ⟨_, loop t p out S 0 hwf hA hlen hend hcs (fun _ => ho) hS (fun S' h => hpost S' (by rw [if_neg (fun y => y rfl)] at h; exact h))⟩
theorem zPB_0 (hT : tok D o A) (hC : zcx D I S0 j l n nc th cs hi) : zPB D o A S0 I j l n nc th cs 0 := by
  intro q p u pa dd pl out S post hw hpl hpa hA hb hlen hcs ho hS hdd hpost
  exact t_leaf (pq := ((th pa).2.1, (th pa).2.2.1)) hT hC hw hA hb hlen hS ho hpost
end TM4
