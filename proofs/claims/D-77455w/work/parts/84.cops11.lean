/-! the component: lacks, dead, branch -/
def zkx (x : zCh) : List Nat := x.2.2.2.2.map Prod.fst
section CO11
variable {D : zD} {X : zSg} {B : Nat → Nat} {I M : zM}
theorem zkx_at {x : zCh} {i : Nat} (h : i < (zkx x).length) : ∃ y, x.2.2.2.2[i]? = some y ∧ (zkx x)[i]? = some y.1 := by
  have h' : i < x.2.2.2.2.length := by unfold zkx at h; rw [List.length_map] at h; exact h
  refine ⟨x.2.2.2.2[i], List.getElem?_eq_getElem h', ?_⟩
  unfold zkx
  rw [List.getElem?_map, List.getElem?_eq_getElem h']
  rfl
theorem zkx_l {x : zCh} : (zkx x).length = x.2.2.2.2.length := by unfold zkx; rw [List.length_map]
theorem zkx_d {x : zCh} {i q : Nat} (h : (zkx x)[i]? = some q) : (zkx x).drop i = q :: (zkx x).drop (i + 1) := by
  have hi := (List.getElem?_eq_some_iff.mp h).1
  rw [List.drop_eq_getElem_cons hi]
  congr 1
  exact Option.some.inj ((List.getElem?_eq_getElem hi).symm.trans h)
theorem zch_0 {a : Nat} {x : zCh} (ha : zCh0 M a x) : ∃ (ci L : Nat) (fs : List Value), ci = (if x.2.1 = 1 then 18 else 19) ∧ (ci, 0) ∈ ([(18, 0), (19, 0)] : List (Nat × Nat)) ∧ ci ∈ ([18, 19] : List Nat) ∧ M a = some (.inr (ci, .ref L :: fs)) ∧ zLs M L x.2.2.2.2 (fun c b => ∃ P, M c = some (.inr (20, [.int (nI b.1), .ref P]))) := by
  obtain ⟨L, h1, h2⟩ := ha
  exact ⟨_, L, _, rfl, by split <;> decide, by split <;> decide, h1, h2⟩
theorem c_of0 {post : Int32 → zM → Prop} {a q : Nat} {x : zCh} (ha : zCh0 M a x) (hg1 : x.2.2.2.2.length ≤ 10) (hg2 : ∀ q ∈ x.2.2.2.2.map Prod.fst, q ≤ 1009) (hq : q ≤ 1009) (h : post (zoi (-2) (zix q 0 (zkx x))) M) : zis M a [18, 19] ∧ wp_X20_of D post a (nI q) M := by
  obtain ⟨ci, L, fs, -, m1, m2, h1, h2⟩ := zch_0 ha
  have loop : ∀ f i : Nat, i ≤ (zkx x).length → (zkx x).length - i < f → zix q i ((zkx x).drop i) = zix q 0 (zkx x) → wp_X20_of_L2 D post a f (nI q) (nI i) M := by
    intro f
    induction f with
    | zero => intro i _ hf; omega
    | succ f ih =>
      intro i hi hf e
      have hl : x.2.2.2.2.length ≤ 10 := hg1
      have hl2 := zkx_l (x := x)
      unfold wp_X20_of_L2
      refine cgRm (k := 0) (x := some L) h1 m1 rfl (czd (c_size' h2 ?_))
      rw [nI_leI (by omega) (by omega)]
      refine ⟨fun z => ?_, fun z => ?_⟩
      · rw [List.drop_eq_nil_of_le (by omega), zix] at e
        rw [← e] at h
        exact h
      · obtain ⟨y, hy1, hy2⟩ := zkx_at (x := x) (i := i) (by omega)
        have hy3 : y.1 ≤ 1009 := hg2 _ (List.mem_map.mpr ⟨y, List.mem_of_getElem? hy1, rfl⟩)
        rw [zkx_d hy2, zix] at e
        refine cgRm (k := 0) (x := some L) h1 m1 rfl (czd (c_get' h2 hy1 fun c hc => ⟨fun w hw => ?_, ?_⟩))
        · cases hw
          obtain ⟨P, hP⟩ := hc
          exact cis hP (by decide)
        · obtain ⟨P, hP⟩ := hc
          refine czd (cgI hP rfl ?_)
          rw [nI_eq (by omega) (by omega)]
          refine ⟨fun z2 => ?_, fun z2 => ?_⟩
          · rw [nI_1]
            rw [if_neg z2] at e
            exact ih (i + 1) (by omega) (by omega) e
          · rw [if_pos z2] at e
            rw [← e] at h
            exact h
  exact ⟨cis h1 m2, (zkx x).length + 1, loop _ 0 (Nat.zero_le _) (by omega) rfl⟩
theorem c_of {post : Int32 → zM → Prop} {a q : Nat} {x : zCh} (ha : zCh0 M a x) (hg : zgd x) (hq : q ≤ 1009) (h : post (zoi (-2) (zix q 0 (zkx x))) M) : zis M a [18, 19] ∧ wp_X20_of D post a (nI q) M := c_of0 ha hg.2.1 hg.2.2.1 hq h
def zot (x : zCh) : Nat := if x.2.1 = 1 then 5 else 3
theorem zgd_o {x : zCh} (hg : zgd x) : ∃ r, zix (zot x) 0 (zkx x) = some r := zix_mem hg.2.2.2.2
theorem zoi_2 {q : Nat} {ks : List Nat} (h : ks.length ≤ 10) : (zoi (-2) (zix q 0 ks) = -2) ↔ zix q 0 ks = none := by
  cases e : zix q 0 ks with
  | none => exact ⟨fun _ => rfl, fun _ => rfl⟩
  | some r =>
    have := zix_sm h r e
    refine ⟨fun z => absurd z ?_, fun z => by cases z⟩
    intro z
    have h2 := nI_pos (show r < 2 ^ 31 from this)
    have z' : nI r = -2 := z
    rw [z'] at h2
    exact h2 (by decide)
theorem zot_le {x : zCh} : zot x ≤ 1009 := by unfold zot; split <;> decide
theorem c_orOther {post : Int32 → zM → Prop} {a q : Nat} {x : zCh} (ha : zCh0 M a x) (hg : zgd x) (hq : q ≤ 1009) (h : post (zoi (-1) (zoth (zkx x) q (zot x))) M) : wp_X20_orOther D post a (nI q) M := by
  obtain ⟨ci, L, fs, hci, m1, m2, h1, h2⟩ := zch_0 ha
  unfold wp_X20_orOther wp_X20_orOther_L24 wp_X20_orOther_L17
  refine c_of ha hg hq ?_
  have hl : (zkx x).length ≤ 10 := by rw [zkx_l]; exact hg.2.1
  rw [zoi_2 hl]
  unfold zoth at h
  refine ⟨fun z => ?_, fun z => ?_⟩
  · cases e : zix q 0 (zkx x) with
    | none => exact absurd e z
    | some r => rw [e] at h; exact h
  · rw [z] at h
    obtain ⟨r, hr⟩ := zgd_o hg
    have he : post (zoi (-2) (zix (zot x) 0 (zkx x))) M := by
      simp only at h
      rw [hr] at h ⊢
      exact h
    unfold zot at he
    by_cases e : x.2.1 = 1
    · rw [if_pos e] at hci he
      subst hci
      refine Or.inl ⟨cis h1 (by decide), ?_⟩
      unfold wp_X21_other
      exact czd (c_of (q := 5) ha hg (by decide) he)
    · rw [if_neg e] at hci he
      subst hci
      refine Or.inr ⟨cis h1 (by decide), ?_⟩
      unfold wp_X22_other
      exact czd (c_of (q := 3) ha hg (by decide) he)
theorem c_lk {post : Int32 → zM → Prop} {k n a a1 ci T : Nat} {x : zCh} {l : List zCo} (ha : zCh0 M a x) (hg : zgd x) (hk : 1 ≤ k) (hn : 4 ≤ n) (hla : zLa M a1 ci l T) (hT : zTr M T) (h : ∀ M', zle M M' → post (zlack (zkx x) (decide (x.2.1 = 1)) (zused l)) M') : zis M a [18, 19] ∧ wp_X20_lacks D post k n a (some a1) M := by
  obtain ⟨cj, L, fs, hcj, m1, m2, h1, h2⟩ := zch_0 ha
  have hl2 := zkx_l (x := x)
  have hl10 : x.2.2.2.2.length ≤ 10 := hg.2.1
  have main : ∀ s, zfC (zot x) (zkx x) s = zlack (zkx x) (decide (x.2.1 = 1)) (zused l) → wp_X20_lacks_L5 D post a k n s M := by
    intro s hs
    unfold wp_X20_lacks_L5
    have h2' := h2
    obtain ⟨g, ⟨mc, E, cap, g1, g2, g3, g4⟩, g5⟩ := h2'
    refine cgRm (k := 0) (x := some L) h1 m1 rfl (czd ⟨cis g1 (by decide), 1, 4, hk, hn, c_iter (Nat.le_refl _) (Nat.le_refl _) g1 fun b hb hb0 => ⟨(zkx x).length + 1, ?_⟩⟩)
    have loop : ∀ f i : Nat, i ≤ (zkx x).length → (zkx x).length - i < f → ∀ (M1 : zM) (s y : Int32), zle M M1 → M1 b = some (.inr (27, [.int (nI i), .int y, .int mc, .ref L])) → zfC (zot x) ((zkx x).drop i) s = zlack (zkx x) (decide (x.2.1 = 1)) (zused l) → wp_X20_lacks_L14 D post a f (k - 1) (n - 4) s (some b) M1 := by
      intro f
      induction f with
      | zero => intro i _ hf; omega
      | succ f ih =>
        intro i hi hf M1 s y hz1 hb1 e
        unfold wp_X20_lacks_L14
        refine czd ⟨cis hb1 (by decide), it_has hb1 (hz1 _ _ g1) (by omega) (by omega) (fun z => ?_) (fun z => ?_)⟩
        · rw [List.drop_eq_nil_of_le (by omega), zfC] at e
          rw [e]
          exact ⟨fun _ => h M1 hz1, fun z => absurd rfl z⟩
        · refine ⟨fun z => absurd z (by decide), fun _ => ⟨cis hb1 (by decide), it_next hb1 (hz1 _ _ g1) (hz1 _ _ g2) (by omega) g3 g4 hb0 ?_⟩⟩
          obtain ⟨v, hv1, hv2⟩ := zkx_at (x := x) (i := i) (by omega)
          have hv3 : v.1 ≤ 1009 := hg.2.2.1 _ (List.mem_map.mpr ⟨v, List.mem_of_getElem? hv1, rfl⟩)
          rw [zkx_d hv2, zfC] at e
          obtain ⟨c, hc1, P, hc2⟩ := g5 i v hv1
          have hz2 : zle M (zu M1 b (some (.inr (27, [.int (nI (i + 1)), .int (nI i), .int mc, .ref L])))) := zle_put hz1 hb
          rw [hc1]
          refine ⟨fun w hw => by cases hw; exact cis (hz2 _ _ hc2) (by decide), czd (cgI (hz2 _ _ hc2) rfl ?_)⟩
          have step : wp_X20_lacks_L44 D post a (wp_X20_lacks_L14 D post a f) (k - 1) (n - 4) s (some b) (some c) s (nI v.1) (nI (zot x)) (zu M1 b (some (.inr (27, [.int (nI (i + 1)), .int (nI i), .int mc, .ref L])))) := by
            unfold wp_X20_lacks_L44 wp_X20_lacks_L60
            rw [nI_leI (by have := zot_le (x := x); omega) (by omega)]
            refine ⟨fun z2 => ?_, fun z2 => czd (cgI (hz2 _ _ hc2) rfl ?_)⟩
            · rw [if_pos z2] at e
              exact ih (i + 1) (by omega) (by omega) _ _ _ hz2 zu_s e
            · rw [if_neg z2] at e
              exact ih (i + 1) (by omega) (by omega) _ _ _ hz2 zu_s e
          unfold zot at step
          by_cases e9 : x.2.1 = 1
          · rw [if_pos e9] at hcj step
            subst hcj
            refine Or.inl ⟨cis (hz2 _ _ h1) (by decide), ?_⟩
            unfold wp_X21_other
            exact step
          · rw [if_neg e9] at hcj step
            subst hcj
            refine Or.inr ⟨cis (hz2 _ _ h1) (by decide), ?_⟩
            unfold wp_X22_other
            exact step
    exact loop _ 0 (Nat.zero_le _) (by omega) _ s (-1) (zle_new (zle_r _) hb) zu_s hs
  refine ⟨cis h1 m2, ?_⟩
  unfold wp_X20_lacks
  unfold zlack zot at main
  by_cases e9 : x.2.1 = 1
  · rw [if_pos e9] at hcj main
    rw [decide_eq_true e9] at main
    subst hcj
    refine Or.inl ⟨cis h1 (by decide), ?_⟩
    unfold wp_X21_wanted
    refine czd ⟨by obtain ⟨L, fs, q1, q2, -⟩ := hla; exact cis q2 q1, c_used hla hT (main _ ?_)⟩
    exact zfC_eq true _ _ (by rw [Int32.and_assoc]; rfl)
  · rw [if_neg e9] at hcj main
    rw [decide_eq_false e9] at main
    subst hcj
    refine Or.inr ⟨cis h1 (by decide), ?_⟩
    unfold wp_X22_wanted
    exact main _ (zfC_eq false _ _ rfl)
theorem c_dd {post : Int32 → zM → Prop} {k n a a1 ci T : Nat} {x : zCh} {l : List zCo} (ha : zCh0 M a x) (hg : zgd x) (hk : 1 ≤ k) (hn : 4 ≤ n) (hla : zLa M a1 ci l T) (hT : zTr M T) (h : ∀ M', zle M M' → post (if zlack (zkx x) (decide (x.2.1 = 1)) (zused l) = 0 then ((1 : Int32) <<< (zoi (-1) (zix (zot x) 0 (zkx x)) &&& 31)) else 0) M') : wp_X20_dead D post k n a (some a1) M := by
  unfold wp_X20_dead wp_X20_dead_L22 wp_X20_dead_L14
  have hc : zis M a [18, 19] := by obtain ⟨cj, L, fs, hcj, m1, m2, h1, h2⟩ := zch_0 ha; exact cis h1 m2
  refine ⟨hc, 1, 4, hk, hn, (c_lk ha hg (Nat.le_refl 1) (Nat.le_refl 4) hla hT fun M' hz => ?_).2⟩
  refine ⟨fun z => by have := h M' hz; rw [if_neg z] at this; exact this, fun z => ?_⟩
  have h' := h M' hz
  rw [if_pos z] at h'
  obtain ⟨r, hr⟩ := zgd_o hg
  have h2 : post ((1 : Int32) <<< (zoi (-2) (zix (zot x) 0 (zkx x)) &&& 31)) M' := by
    rw [hr] at h' ⊢
    exact h'
  have ha' := zCh0_m hz ha
  obtain ⟨cj, L, fs, hcj, m1, m2, h1, -⟩ := zch_0 ha'
  unfold zot at h2
  by_cases e9 : x.2.1 = 1
  · rw [if_pos e9] at hcj h2
    subst hcj
    refine Or.inl ⟨cis h1 (by decide), ?_⟩
    unfold wp_X21_other
    exact czd (c_of (q := 5) ha' hg (by decide) h2)
  · rw [if_neg e9] at hcj h2
    subst hcj
    refine Or.inr ⟨cis h1 (by decide), ?_⟩
    unfold wp_X22_other
    exact czd (c_of (q := 3) ha' hg (by decide) h2)
theorem c_hasB {post : Int32 → zM → Prop} {u x : Int32} (h1 : ((u >>> (x &&& 31)) &&& 1) = 0 → post 0 M) (h2 : ¬ ((u >>> (x &&& 31)) &&& 1) = 0 → post 1 M) : wp_X0_has D post u x M := by
  unfold wp_X0_has wp_X0_has_L14
  refine ⟨fun z => ⟨rfl, h1 (bit_n.mp z)⟩, fun z => ⟨rfl, h2 fun z2 => bit_n.mpr z2 z⟩⟩
theorem c_dead {post : Int32 → zM → Prop} {k n a a1 ci T : Nat} {x : zCh} {l : List zCo} (ha : zCh0 M a x) (hg : zgd x) (h1k : x.2.1 = 1) (hk : 1 ≤ k) (hn : 4 ≤ n) (hla : zLa M a1 ci l T) (hT : zTr M T) (h : ∀ M', zle M M' → post (zdead (zkx x) true (zused l)) M') : wp_X21_dead D post k n a (some a1) M := by
  have hl2 := zkx_l (x := x)
  have hl10 : x.2.2.2.2.length ≤ 10 := hg.2.1
  have zo : zot x = 5 := if_pos h1k
  unfold wp_X21_dead
  refine czd ⟨by obtain ⟨L, fs, q1, q2, -⟩ := hla; exact cis q2 q1, c_used hla hT ?_⟩
  generalize hu : zused l = u at h
  have main : ∀ (k n : Nat) (s : Int32) (M1 : zM), zle M M1 → s ||| zdF u 0 (zkx x) = zdead (zkx x) true u → wp_X21_dead_L22 D post a k n u s M1 := by
    intro k n s M1 hz1 hs
    have h' := h M1 hz1
    obtain ⟨cj, L, fs, hcj, m1, m2, h1, h2⟩ := zch_0 (zCh0_m hz1 ha)
    rw [if_pos h1k] at hcj
    subst hcj
    have loop : ∀ f i : Nat, i ≤ (zkx x).length → (zkx x).length - i < f → ∀ s : Int32, s ||| zdF u i ((zkx x).drop i) = zdead (zkx x) true u → wp_X21_dead_L26 D post a f k n u s (nI i) M1 := by
      intro f
      induction f with
      | zero => intro i _ hf; omega
      | succ f ih =>
        intro i hi hf s e
        unfold wp_X21_dead_L26
        refine cgR (x := some L) h1 rfl (czd (c_size' h2 ?_))
        rw [nI_leI (by omega) (by omega)]
        refine ⟨fun z => ?_, fun z => ?_⟩
        · rw [List.drop_eq_nil_of_le (by omega), zdF, Int32.or_zero] at e
          rw [e]; exact h'
        · obtain ⟨v, hv1, hv2⟩ := zkx_at (x := x) (i := i) (by omega)
          have hv3 : v.1 ≤ 1009 := hg.2.2.1 _ (List.mem_map.mpr ⟨v, List.mem_of_getElem? hv1, rfl⟩)
          rw [zkx_d hv2, zdF, ← Int32.or_assoc] at e
          refine cgR (x := some L) h1 rfl (czd (c_get' h2 hv1 fun c hc => ?_))
          obtain ⟨P, hP⟩ := hc
          refine ⟨fun w hw => by cases hw; exact cis hP (by decide), czd (cgI hP rfl ?_)⟩
          unfold wp_X21_dead_L78 wp_X21_dead_L79
          rw [show (5 : Int32) = nI 5 from rfl, nI_leI (by decide) (by omega), nI_1]
          refine ⟨fun z2 => ?_, fun z2 => c_hasB (fun z3 => ?_) (fun z3 => ?_)⟩
          · rw [if_neg (fun y => by omega)] at e
            exact ih (i + 1) (by omega) (by omega) _ e
          · rw [if_pos ⟨by omega, z3⟩] at e
            exact ⟨fun y => absurd rfl y, fun _ => ih (i + 1) (by omega) (by omega) _ e⟩
          · rw [if_neg (fun y => z3 y.2)] at e
            exact ⟨fun _ => ih (i + 1) (by omega) (by omega) _ e, fun y => absurd y (by decide)⟩
    exact ⟨(zkx x).length + 1, loop _ 0 (Nat.zero_le _) (by omega) s hs⟩
  have hF : zdF u 0 (zkx x) = zdd (zkx x) u 5 := by have hnd : (zkx x).Nodup := hg.2.2.2.1; rw [zdF_sum hnd, zdd_sum]
  obtain ⟨cj, L, fs, hcj, m1, m2, h1, h2⟩ := zch_0 ha
  rw [if_pos h1k] at hcj
  subst hcj
  refine c_hasB (fun z => ⟨fun _ => ⟨_, h1, 1, 4, hk, hn, c_dd ha hg (Nat.le_refl 1) (Nat.le_refl 4) hla hT fun M' hz => main _ _ _ M' hz ?_⟩, fun y => absurd rfl y⟩) (fun z => ⟨fun y => absurd y (by decide), fun _ => main _ _ _ M (zle_r _) ?_⟩)
  · unfold zdead
    rw [hF, hu, zo, decide_eq_true h1k, decide_eq_true z]
    by_cases e : zlack (zkx x) true u = 0
    · rw [if_pos e, decide_eq_true e, Int32.or_comm]; rfl
    · rw [if_neg e, decide_eq_false e, Int32.zero_or]; rfl
  · unfold zdead
    rw [hF, decide_eq_false z, Int32.zero_or]; rfl
def sp_lacks (X : zSg) (s l c w : Int32) : Int32 := if zb s 4 && (zb l 7 && zb w 2) then (match zchs X s.toNatClampNeg c with | none => -2 | some x => if w = 0 then zlack (zkx x) (decide (x.2.1 = 1)) (zused (zof X.1 l.toNatClampNeg)) else zdead (zkx x) (decide (x.2.1 = 1)) (zused (zof X.1 l.toNatClampNeg))) else -1
theorem c_lacks {post : Int32 → zM → Prop} {k n : Nat} {s l c w : Int32} (hR : RC D X B I M) (hz : zle I M) (hk : 1 ≤ k) (hn : 4 ≤ n) (h : ∀ M', zle M M' → post (sp_lacks X s l c w) M') : wp_X0_lacks D post k n (B 0) s l c w M := by
  unfold wp_X0_lacks wp_X0_lacks_L25 wp_X0_lacks_L73
  unfold sp_lacks at h
  refine c_isSlot (ifb' (fun e1 => c_isLanguage (ifb' (fun e2 => c_in ?_) (fun e2 => by rw [e1, e2] at h; exact h _ (zle_r _)))) (fun e1 => by rw [e1] at h; exact h _ (zle_r _)))
  rw [zin_b (n := 2) (by decide)]
  refine ifb (fun e3 => ?_) (fun e3 => by rw [e1, e2, e3] at h; exact h _ (zle_r _))
  rw [e1, e2, e3] at h
  obtain ⟨j, hj, rfl⟩ := zb_of e1 (by decide)
  obtain ⟨q, hq, rfl⟩ := zb_of e2 (by decide)
  rw [nI_clamp (by omega), nI_clamp (by omega)] at h
  simp only [Bool.and_true, if_true] at h
  refine c_choiceOf hR hz hj (fun z => ?_) (fun x a hx hg ha => ?_)
  · rw [z] at h
    exact ⟨fun b hb => (nomatch hb), fun _ => h _ (zle_r _)⟩
  · rw [hx] at h
    refine ⟨fun b hb => ?_, fun z => (nomatch z)⟩
    cases hb
    obtain ⟨f, T, h1, h2, h3⟩ := RC_le hR hz
    obtain ⟨al, h4, h5⟩ := h3 q hq
    have hv := vp_in_nI hq (by decide : 7 < 2 ^ 31)
    have hcl : (nI q).toNatClampNeg = q := nI_clamp (by omega)
    refine ⟨fun z => ?_, fun z => ?_⟩
    · refine cgR (x := some (B 2)) hR.1 rfl (czd (caR h1 hv ?_))
      rw [hcl, h4]
      simp only [if_neg z] at h
      obtain ⟨cj, L, fs, hcj, m1, m2, k1, k2⟩ := zch_0 ha
      by_cases e9 : x.2.1 = 1
      · rw [if_pos e9] at hcj
        subst hcj
        rw [decide_eq_true e9] at h
        exact Or.inl ⟨cis k1 (by decide), 1, 4, hk, hn, c_dead ha hg e9 (Nat.le_refl _) (Nat.le_refl _) h5 h2 h⟩
      · rw [if_neg e9] at hcj
        subst hcj
        refine Or.inr ⟨cis k1 (by decide), 1, 4, hk, hn, c_dd ha hg (Nat.le_refl _) (Nat.le_refl _) h5 h2 fun M' hz' => ?_⟩
        have h' := h M' hz'
        unfold zdead at h'
        have zo : zot x = 3 := if_neg e9
        rw [zo]
        rw [decide_eq_false e9] at h' ⊢
        by_cases e : zlack (zkx x) false (zused (zof X.1 q)) = 0
        · rw [if_pos e]
          rw [decide_eq_true e] at h'
          simp only [Bool.false_eq_true, if_false, Bool.not_false, Bool.true_or, Bool.and_true, if_true, Int32.zero_or] at h'
          exact h'
        · rw [if_neg e]
          rw [decide_eq_false e] at h'
          simp only [Bool.false_eq_true, if_false, Bool.and_false] at h'
          exact h'
    · refine cgR (x := some (B 2)) hR.1 rfl (czd (caR h1 hv ?_))
      rw [hcl, h4]
      simp only [if_pos z] at h
      exact ⟨(zch_0 ha).elim fun cj hh => by obtain ⟨L, fs, hcj, m1, m2, k1, k2⟩ := hh; exact cis k1 m2, 1, 4, hk, hn, (c_lk ha hg (Nat.le_refl _) (Nat.le_refl _) h5 h2 h).2⟩
end CO11
