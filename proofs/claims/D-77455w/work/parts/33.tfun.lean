/-! the twin's functions without a state of their own, over any map; and those over the conditions -/
section TF
variable {D : zD} {M : zM}
theorem t_in {post : Int32 → zM → Prop} {a b c : Int64} (h : post (b1 (zin a b c)) M) : wp_X9_in D post a b c M := by
  unfold wp_X9_in wp_X9_in_L17 wp_X9_in_L18
  simp only [lgc_lt, lgc_gt]
  refine ⟨fun h1 => ⟨rfl, ?_⟩, fun h1 => ⟨fun h2 => ⟨rfl, ?_⟩, fun h2 => ⟨rfl, ?_⟩⟩⟩
  · have e : zin a b c = false := by unfold zin; rw [Int64.lt_iff_toInt_lt] at h1; simp [Int64.le_iff_toInt_le]; omega
    rw [e] at h; exact h
  · have e : zin a b c = false := by unfold zin; rw [Int64.lt_iff_toInt_lt] at h1 h2; simp [Int64.le_iff_toInt_le]; omega
    rw [e] at h; exact h
  · have e : zin a b c = true := by unfold zin; rw [Int64.lt_iff_toInt_lt] at h1 h2; simp [Int64.le_iff_toInt_le]; omega
    rw [e] at h; exact h
theorem t_isArgument {post : Int32 → zM → Prop} {a : Int32} (h : post (b1 (zb a 5)) M) : wp_X9_isArgument D post a M := by
  unfold wp_X9_isArgument
  refine t_in ?_
  rw [zin_b (n := 5) (by decide)]
  exact ⟨of_eq_true znb, h⟩
theorem t_isSlot {post : Int32 → zM → Prop} {a : Int32} (h : post (b1 (zb a 4)) M) : wp_X9_isSlot D post a M := by
  unfold wp_X9_isSlot
  refine t_in ?_
  rw [zin_b (n := 4) (by decide)]
  exact ⟨of_eq_true znb, h⟩
theorem t_isLanguage {post : Int32 → zM → Prop} {a : Int32} (h : post (b1 (zb a 7)) M) : wp_X9_isLanguage D post a M := by
  unfold wp_X9_isLanguage
  refine t_in ?_
  rw [zin_b (n := 7) (by decide)]
  exact ⟨of_eq_true znb, h⟩
theorem t_isRow {post : Int32 → zM → Prop} {a : Int32} (h : post (b1 (zb a 3)) M) : wp_X9_isRow D post a M := by
  unfold wp_X9_isRow
  refine t_in ?_
  rw [zin_b (n := 3) (by decide)]
  exact ⟨of_eq_true znb, h⟩
theorem t_tens {post : Int64 → zM → Prop} {j : Nat} (hj : j ≤ 18) (h : post (lN (10 ^ j)) M) : wp_X9_tens D post (nI j) M := by
  have key : ∀ f i : Nat, i ≤ j → j - i < f → wp_X9_tens_L4 D post f (nI j) (lN (10 ^ i)) (nI i) M := by
    intro f
    induction f with
    | zero => intro i _ h; omega
    | succ f ih =>
      intro i hi hf
      unfold wp_X9_tens_L4
      refine ⟨fun h1 => ?_, fun h1 => ?_⟩
      · rw [nI_leI (by omega) (by omega)] at h1
        have : i = j := by omega
        subst this; exact h
      · rw [nI_leI (by omega) (by omega)] at h1
        have h2 := ih (i + 1) (by omega) (by omega)
        rw [nI_1, show (10 : Int64) = lN 10 from rfl, lN_mul, ← Nat.pow_succ]
        exact h2
  exact ⟨j + 1, key (j + 1) 0 (Nat.zero_le _) (by omega)⟩
theorem t_isInt {post : Int32 → zM → Prop} {a : Int64} (h : post (b1 (decide (a = a.toInt32.toInt64))) M) : wp_X9_isInt D post a M := by
  unfold wp_X9_isInt wp_X9_isInt_L13
  simp only [lgc_eq]
  refine ⟨fun h1 => ⟨rfl, ?_⟩, fun h1 => ⟨rfl, ?_⟩⟩
  · rw [decide_eq_false h1] at h; exact h
  · rw [decide_eq_true h1] at h; exact h
theorem t_opL {post : Int64 → zM → Prop} {d : Int32} {k : Nat} {w : Int32} {w' t' : Nat} (hk : k ≤ 18) (ht : t' ≤ 2 ^ 31) (h2 : (w', t') = ((zst k (zab d % 10 ^ k)).2, (zst k (zab d % 10 ^ k)).1)) (h : post (zop d k w) M) :
    wp_X9_operandOf_L71 D post (nI k) w (lN (zab d)) (lN (zab d % 10 ^ k)) (nI w') (lN t') M := by
  have hd := zab_lt d
  simp only [Prod.mk.injEq] at h2
  obtain ⟨rfl, rfl⟩ := h2
  unfold wp_X9_operandOf_L71 wp_X9_operandOf_L117
  unfold zop at h
  have hw' : (zst k (zab d % 10 ^ k)).2 ≤ k := (zst_le k _).2
  refine ⟨fun h0 => ⟨fun h1 => ⟨fun h2 => ⟨fun h3 => ?_, fun h3 => ?_⟩, fun h2 => ?_⟩, fun h1 => ?_⟩, fun h0 => ?_⟩
  · rw [if_neg h0, if_neg h1, if_neg h2, if_neg h3] at h; exact h
  · rw [if_neg h0, if_neg h1, if_neg h2, if_pos h3] at h; rw [nI_l (by omega)]; exact h
  · rw [if_neg h0, if_neg h1, if_pos h2] at h; exact h
  · rw [if_neg h0, if_pos h1] at h; rw [nI_l (by omega)]; exact h
  · rw [if_pos h0] at h
    refine t_tens hk ⟨l3_ne0 (p10_pos k) (p10_lt hk), ?_⟩
    rw [l3_div (by omega) (p10_lt hk)]
    exact h
theorem t_operandOf {post : Int64 → zM → Prop} {d : Int32} {k : Nat} {w : Int32} (hk : k ≤ 18) (h : post (zop d k w) M) : wp_X9_operandOf D post d (nI k) w M := by
  have hd := zab_lt d
  have hp := p10_lt hk
  have hq := p10_pos k
  have key : wp_X9_operandOf_L12 D post (nI k) w (lN (zab d)) M := by
    unfold wp_X9_operandOf_L12
    refine t_tens hk ⟨l3_ne0 hq hp, ?_⟩
    rw [l3_mod (by omega) hp]
    have hr : zab d % 10 ^ k < 10 ^ k := Nat.mod_lt _ hq
    have hr2 : zab d % 10 ^ k ≤ zab d := Nat.mod_le _ _
    simp only [lgc_eq]
    rw [show (0 : Int64) = lN 0 from rfl, l3_eq (by omega) (by decide)]
    unfold wp_X9_operandOf_L33
    refine ⟨fun h1 => ?_, fun h1 => ?_⟩
    · -- the loop
      have loop : ∀ f v i : Nat, v ≠ 0 → v < 10 ^ i → i ≤ k → v < f → v ≤ zab d → zst i v = zst k (zab d % 10 ^ k) → wp_X9_operandOf_L39 D post f (nI k) w (lN (zab d)) (lN (zab d % 10 ^ k)) (nI i) (lN v) M := by
        intro f
        induction f with
        | zero => intro v i _ _ _ h; omega
        | succ f ih =>
          intro v i h0 hv hi hf hle he
          have hi0 : i ≠ 0 := fun z => by subst z; simp at hv; omega
          obtain ⟨i', rfl⟩ : ∃ i', i = i' + 1 := ⟨i - 1, by omega⟩
          unfold wp_X9_operandOf_L39
          simp only [lgc_eq]
          rw [show (0 : Int64) = lN 0 from rfl, l3_eq (by omega) (by decide), show (10 : Int64) = lN 10 from rfl, l3_mod (by omega) (by decide), l3_eq (by omega) (by decide), l3_div (by omega) (by decide)]
          refine ⟨fun z => absurd z h0, fun _ => ⟨fun h3 => ?_, fun h3 => ?_⟩⟩
          · have e : zst (i' + 1) v = (v, i' + 1) := by simp [zst, h3]
            exact t_opL hk (by omega) (by rw [← he, e]) h
          · have e : zst (i' + 1) v = zst i' (v / 10) := by simp [zst, h3]
            have h5 : v < 10 ^ i' * 10 := by rw [← Nat.pow_succ]; exact hv
            rw [← Int32.sub_eq_add_neg, nI_pred]
            exact ih (v / 10) i' (by omega) (by omega) (by omega) (by omega) (by omega) (by rw [← he, e])
      exact ⟨zab d % 10 ^ k + 1, loop _ _ _ h1 hr (Nat.le_refl k) (by omega) hr2 rfl⟩
    · refine ⟨1, ?_⟩
      unfold wp_X9_operandOf_L39
      simp only [lgc_eq]
      rw [h1]
      refine ⟨fun _ => ?_, fun z => absurd rfl z⟩
      have := t_opL (D := D) (M := M) (post := post) (d := d) (k := k) (w := w) (w' := 0) (t' := 0) hk (by omega) (by rw [h1, zst_0]) h
      rw [h1] at this
      exact this
  unfold wp_X9_operandOf
  have h0 : ∀ x : Int32, (0 ≤ x) ↔ ¬ x < 0 := fun x => by rw [Int32.le_iff_toInt_le, Int32.lt_iff_toInt_lt]; omega
  refine ⟨fun h1 => ?_, fun h1 => ?_⟩
  · rw [zab_nn ((h0 d).mp h1)]; exact key
  · rw [zab_ng (by rw [h0] at h1; exact Classical.not_not.mp h1)]; exact key
theorem t_operand {post : Int64 → zM → Prop} {o : Nat} {d k w : Int32} (h : post (if zb k 7 && zb w 5 then zop d k.toNatClampNeg w else -9223372036854775808) M) : wp_X9_operand D post o d k w M := by
  unfold wp_X9_operand wp_X9_operand_L33 wp_X9_operand_L36
  refine t_in ?_
  rw [zin_b (n := 7) (by decide)]
  refine ifb' (fun h1 => ?_) (fun h1 => ?_)
  · refine t_in ?_
    rw [zin_b (n := 5) (by decide)]
    refine ifb' (fun h2 => ?_) (fun h2 => ?_)
    · obtain ⟨j, hj, rfl⟩ := zb_of h1 (by decide)
      rw [h1, h2, nI_clamp (by omega)] at h
      exact t_operandOf (by omega) h
    · rw [h1, h2] at h; exact h
  · rw [h1] at h; exact h
end TF
/-- the twin's own conditions -/
def zoc (S : zTS) (i : Nat) : zCo := ((S.2.1 1 i, 0, S.2.1 2 i, S.2.1 3 i, S.2.1 4 i, S.2.1 5 i), decide (S.2.1 6 i = 1))
def zown (S : zTS) (n : Nat) : List zCo := (List.range n).map (zoc S)
theorem zown_len {S : zTS} {n : Nat} : (zown S n).length = n := by simp [zown]
theorem zown_at {S : zTS} {n i : Nat} (h : i < n) : (zown S n)[i]? = some (zoc S i) := by simp [zown, h]
theorem zown_drop {S : zTS} {n i : Nat} (h : i < n) : (zown S n).drop i = zoc S i :: (zown S n).drop (i + 1) := by
  rw [List.drop_eq_getElem_cons (by rw [zown_len]; exact h)]
  congr 1
  exact Option.some.inj ((List.getElem?_eq_getElem (by rw [zown_len]; exact h)).symm.trans (zown_at h))
theorem zru_1 (c : Int32) (d : Int32) (k : Nat) : ∀ (l : List zCo) (any : Bool), (∀ q ∈ l, q.1.2.1 = 0) → zru l any c 1 d k = any
  | [], any, _ => rfl
  | q :: l, any, h => by
    unfold zru
    have h1 := h q List.mem_cons_self
    rw [if_neg (fun z => by rw [h1] at z; exact absurd z.2 (by decide))]
    exact zru_1 c d k l any (fun q hq => h q (List.mem_cons_of_mem _ hq))
theorem zown_1 {S : zTS} {n : Nat} : ∀ q ∈ zown S n, q.1.2.1 = 0 := fun q hq => by
  simp only [zown, List.mem_map, List.mem_range] at hq
  obtain ⟨i, -, rfl⟩ := hq
  rfl
theorem zho_own {S : zTS} {n : Nat} {c d : Int32} {k : Nat} : zho (zown S n) c d k = zru (zown S n) false c 0 d k := by
  unfold zho
  rw [zru_1 c d k _ false zown_1, Bool.or_false]
section TG
variable {D : zD} {o : Nat} {A : Nat → Nat} {S : zTS} {I : zM}
theorem tis (L : List Nat) (h : 8 ∈ L) : zis (tm o A S I) o L := ⟨8, _, h, tm_o⟩
theorem vin {i n : Nat} (h : i < n) (hn : n < 2 ^ 31) : vp_in (nI i) n := vp_in_nI h hn
theorem t_ownHolds {post : Int32 → zM → Prop} {n : Nat} {c d : Int32} {k : Nat} (hT : tok D o A) (hn : S.1 0 = nI n) (hn2 : n ≤ 12) (hk : k ≤ 18) (h : post (b1 (zru (zown S n) false c 0 d k)) (tm o A S I)) : wp_X9_ownHolds D post o c d (nI k) (tm o A S I) := by
  have loop : ∀ f i : Nat, ∀ any : Bool, n - i < f → i ≤ n → zru ((zown S n).drop i) any c 0 d k = zru (zown S n) false c 0 d k → wp_X9_ownHolds_L6 D post o f c d (nI k) (b1 any) (nI i) (tm o A S I) := by
    intro f
    induction f with
    | zero => intro i any h; omega
    | succ f ih =>
      intro i any hf hi he
      unfold wp_X9_ownHolds_L6
      rw [tgI (by decide) rfl, hn, nI_leI (by omega) (by omega)]
      refine ⟨fun z => ?_, fun z => ?_⟩
      · have : i = n := by omega
        subst this
        rw [List.drop_eq_nil_of_le (by rw [zown_len]; exact Nat.le_refl _)] at he
        rw [← he] at h
        exact ⟨of_eq_true znb, h⟩
      · have hin : ∀ kk, tsz kk = 12 → vp_in (nI i) (tsz kk) := fun kk e => by rw [e]; exact vin (by omega) (by decide)
        have hcl : (nI i).toNatClampNeg = i := nI_clamp (by omega)
        rw [zown_drop (by omega), zru] at he
        have step : ∀ a2 : Bool, zru ((zown S n).drop (i + 1)) a2 c 0 d k = zru (zown S n) false c 0 d k → wp_X9_ownHolds_L113 D post o (wp_X9_ownHolds_L6 D post o f) c d (nI k) (b1 a2) (nI i) (tm o A S I) := fun a2 h2 => by
          unfold wp_X9_ownHolds_L113
          rw [nI_1]
          exact ih (i + 1) a2 (by omega) (by omega) h2
        rw [tgR (by decide) (by decide), tzd, taI hT (by decide) rfl, hcl]
        refine ⟨hin 1 rfl, fun z1 => step any (by rw [if_neg (fun z => z1 z.1)] at he; exact he), fun z1 => ?_⟩
        rw [if_pos ⟨z1, rfl⟩] at he
        rw [tgR (by decide) (by decide), tzd, taI hT (by decide) rfl, hcl]
        refine ⟨hin 2 rfl, t_operandOf hk ?_⟩
        rw [tgR (by decide) (by decide), tzd, taI hT (by decide) rfl, hcl]
        have key : ∀ v : Int64, v = zmo (zop d k (S.2.1 2 i)) (S.2.1 3 i) → wp_X9_ownHolds_L69 D post o (wp_X9_ownHolds_L6 D post o f) c d (nI k) 1 (nI i) v (tm o A S I) := by
          rintro v rfl
          unfold wp_X9_ownHolds_L69 wp_X9_ownHolds_L108
          rw [tgR (by decide) (by decide), tzd, taI hT (by decide) rfl, hcl]
          refine ⟨hin 4 rfl, ?_⟩
          rw [tgR (by decide) (by decide), tzd, taI hT (by decide) rfl, hcl]
          refine ⟨hin 5 rfl, t_in ?_⟩
          rw [tgR (by decide) (by decide), tzd, taI hT (by decide) rfl, hcl]
          refine ⟨hin 6 rfl, ?_⟩
          have hz : zct (zoc S i) d k = (zin (zmo (zop d k (S.2.1 2 i)) (S.2.1 3 i)) (S.2.1 4 i).toInt64 (S.2.1 5 i).toInt64 != decide (S.2.1 6 i = 1)) := rfl
          rw [hz] at he
          generalize zin _ _ _ = x at he ⊢
          have t1 : (x != decide (S.2.1 6 i = 1)) = true → wp_X9_ownHolds_L113 D post o (wp_X9_ownHolds_L6 D post o f) c d (nI k) 1 (nI i) (tm o A S I) := fun e => by
            rw [if_pos e] at he
            exact step true he
          have t2 : (x != decide (S.2.1 6 i = 1)) = false → post 0 (tm o A S I) := fun e => by
            rw [e, if_neg (by decide)] at he
            rw [← he] at h; exact h
          refine ⟨fun z6 => ⟨fun z7 => t1 ?_, fun z7 => ⟨rfl, t2 ?_⟩⟩, fun z6 => ⟨fun z7 => t1 ?_, fun z7 => ⟨rfl, t2 ?_⟩⟩⟩
          · rw [decide_eq_false z6]; cases x
            · exact absurd rfl z7
            · rfl
          · rw [decide_eq_false z6, b1_0.mp z7]; rfl
          · rw [decide_eq_true z6]; cases x
            · rfl
            · exact absurd rfl z7
          · rw [decide_eq_true z6, b1_1.mp z7]; rfl
        refine ⟨hin 3 rfl, fun z4 => ?_, fun z4 => key _ (by unfold zmo; rw [if_pos z4])⟩
        rw [tgR (by decide) (by decide), tzd, taI hT (by decide) rfl, hcl]
        refine ⟨hin 3 rfl, fun z5 => ?_, key _ (by unfold zmo; rw [if_neg z4])⟩
        apply z4
        have := congrArg Int64.toInt z5
        rw [Int32.toInt_toInt64] at this
        exact Int32.toInt_inj.mp this
  exact ⟨n + 1, loop _ 0 false (by omega) (Nat.zero_le _) rfl⟩
end TG
