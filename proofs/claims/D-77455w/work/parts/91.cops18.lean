/-! the component writes shaped numbers -/
section SH2
variable {D : zD} {M0 M : zM} {s b L : Nat} {T h : Option Nat} {txt : List Int32}
theorem l6_neg {W : Nat} (hW : W < 2 ^ 62) : (-(lN W)).toInt = -(W : Int) := by
  rw [Int64.toInt_neg, l3_toInt (by omega), Int.bmod_def]
  simp only [Nat.reducePow]
  omega
def zsg8 (neg : Bool) (W : Nat) : Int64 := if neg then -(lN W) else lN W
theorem c_absS {post : Int64 → zM → Prop} {neg : Bool} {W : Nat} (hW : W < 2 ^ 62) (hp : post (lN W) M) : wp_J0_abs D post (zsg8 neg W) M := by
  cases neg
  · exact c_absN (by omega) hp
  · unfold wp_J0_abs wp_J0_abs_L12
    have h0 : (0 : Int64).toInt = 0 := by decide
    have e : (-(-(lN W))) = lN W := Int64.neg_neg
    rw [i0_le, lgc_lt, Int64.lt_iff_toInt_lt, h0]
    have hs : zsg8 true W = -(lN W) := rfl
    rw [hs, l6_neg hW]
    refine ⟨fun z => ?_, fun z => ?_⟩
    · have : W = 0 := by omega
      subst this; exact hp
    · show post (-(-(lN W))) M
      rw [e]; exact hp
theorem c_rounded {post : Int64 → zM → Prop} {a k most : Nat} {d : Int32} (ha : zDe M a d k) (hk : k ≤ 6) (hm : most ≤ 6) (hp : post (zsg8 (decide (d < 0)) (zW (zab d) k most)) M) : wp_X1_rounded D post a (nI most) M := by
  have hd := zab_lt d
  have hn : d < 0 → d.toInt64 = -(lN (zab d)) := fun z => by rw [← zab_ng z, Int64.neg_neg]
  unfold wp_X1_rounded
  unfold zsg8 at hp
  refine cgI ha rfl ?_
  rw [nI_ltI (by omega) (by omega)]
  refine ⟨fun z => cgI ha rfl ?_, fun z => cgI ha rfl (cgI ha rfl ?_)⟩
  · have eW : zW (zab d) k most = zr1 (zab d) (10 ^ (k - most)) := if_neg (by omega)
    rw [eW] at hp
    rw [nI_sub (by omega)]
    refine c_tens (by omega) (cgI ha rfl (c_abs ?_))
    have hp2 := p10_lt (k := k - most) (by omega)
    have hq := p10_pos (k - most)
    refine ⟨l3_ne0 hq hp2, l3_ne0 hq hp2, ?_⟩
    unfold zr1 at hp
    have hmr : zab d % 10 ^ (k - most) ≤ zab d := Nat.mod_le _ _
    have hdr : zab d / 10 ^ (k - most) ≤ zab d := Nat.div_le_self _ _
    generalize hc : 10 ^ (k - most) = c at *
    have fin : ∀ x : Nat, post (if (decide (d < 0)) = true then -(lN (zab d / c + x)) else lN (zab d / c + x)) M → wp_X1_rounded_L92 D post a (lN (zab d / c)) (lN x) M := by
      intro x hx
      unfold wp_X1_rounded_L92 wp_X1_rounded_L110
      refine cgI ha rfl ?_
      rw [i0_le, lN_add]
      refine ⟨fun z => ?_, fun z => ?_⟩
      · rw [decide_eq_false z] at hx; exact hx
      · rw [decide_eq_true (Classical.not_not.mp z)] at hx; exact hx
    unfold wp_X1_rounded_L87 wp_X1_rounded_L91
    rw [l3_mod (by omega) hp2, l3_div (by omega) hp2, show (2 : Int64) = lN 2 from rfl, lN_mul, lgc_gt, lgc_eq, lgc_eq, l3_lt hp2 (by omega), l3_eq (by omega) hp2, l3_mod (by omega) (by decide), show (1 : Int64) = lN 1 from rfl, l3_eq (by omega) (by decide)]
    refine ⟨fun z1 => fin 1 ?_, fun z1 => ⟨fun z2 => fin 0 ?_, fun z2 => ⟨fun z3 => fin 0 ?_, fun z3 => fin 1 ?_⟩⟩⟩
    · rw [if_pos (Or.inl z1)] at hp; exact hp
    · have ey : ¬ (c < 2 * (zab d % c) ∨ (2 * (zab d % c) = c ∧ zab d / c % 2 = 1)) := fun y => y.elim z1 (fun y => z2 y.1)
      rw [if_neg ey] at hp; exact hp
    · have ey : ¬ (c < 2 * (zab d % c) ∨ (2 * (zab d % c) = c ∧ zab d / c % 2 = 1)) := fun y => y.elim z1 (fun y => z3 y.2)
      rw [if_neg ey] at hp; exact hp
    · rw [if_pos (Or.inr ⟨z2, z3⟩)] at hp; exact hp
  · have eW : zW (zab d) k most = zab d * 10 ^ (most - k) := if_pos (by omega)
    rw [eW] at hp
    rw [nI_sub (by omega)]
    refine c_tens (by omega) ?_
    by_cases hd0 : d < 0
    · rw [decide_eq_true hd0, if_pos rfl] at hp
      rw [hn hd0, Int64.neg_mul, lN_mul]
      exact hp
    · rw [decide_eq_false hd0, if_neg (by decide)] at hp
      rw [zab_nn hd0, lN_mul]
      exact hp
/-- digits, grouped or not -/
def zgd8 (g : Bool) (l n v : Nat) : List Int32 := if g then zgt (zgs l) n v else zdt n v
theorem zgd8_s {g : Bool} {l n v : Nat} : zgd8 g l (n + 1) v = nI (48 + v / 10 ^ n % 10) :: ((if g = true ∧ n ≠ 0 ∧ n % 3 = 0 then [zgs l] else []) ++ zgd8 g l n v) := by
  unfold zgd8
  cases g
  · have ey : ¬ (false = true ∧ n ≠ 0 ∧ n % 3 = 0) := fun z => absurd z.1 (by decide)
    have e0 : ¬ (false = true) := by decide
    rw [if_neg ey, if_neg e0, if_neg e0, zdt]; rfl
  · rw [if_pos rfl, if_pos rfl, zgt]
    congr 2
    by_cases hz : n ≠ 0 ∧ n % 3 = 0
    · rw [if_pos hz, if_pos ⟨rfl, hz⟩]
    · rw [if_neg hz, if_neg (fun y => hz y.2)]
theorem zgd8_len {g : Bool} {l n v : Nat} : (zgd8 g l n v).length ≤ 2 * n := by
  unfold zgd8
  split
  · rw [zgt_len]; omega
  · rw [zdt_len]; omega
theorem c_wholes {post : Unit → zM → Prop} {o l w v : Nat} {g : Bool} {e m : Int32} (ho : M0 o = some (.inr (17, [.int (b1 g), .int (nI w), .int e, .int m]))) (hw : w ≤ 4) (hw1 : 1 ≤ w) (hv : v < 10 ^ 17) (hla : zla D M0 L l) (hs : she D M0 s b L T h txt M) (hl : txt.length ≤ 300)
    (hp : ∀ M', she D M0 s b L T h (txt ++ zgd8 g l (max w (znd v)) v) M' → post () M') : wp_X19_wholes D post o (lN v) (some s) M := by
  have hv' : v < 2 ^ 63 := Nat.lt_trans hv (by decide)
  have hz := znd_pos v
  have hz2 : znd v ≤ 17 := znd_le (by decide) hv
  have hzl := znd_lt (Nat.lt_trans hv (by decide : 10 ^ 17 < 10 ^ 18))
  have dig : ∀ (n f : Nat) (txt : List Int32) (M : zM), n ≤ 17 → n < f → she D M0 s b L T h txt M → txt.length + 2 * n ≤ 360 → (∀ M', she D M0 s b L T h (txt ++ zgd8 g l n v) M' → post () M') → wp_X19_wholes_L35 D post o f (lN v) (some s) (nI n - 1) M := by
    intro n
    induction n with
    | zero =>
      intro f txt M _ hf hs hl hp
      obtain ⟨f, rfl⟩ : ∃ g, f = g + 1 := ⟨f - 1, by omega⟩
      unfold wp_X19_wholes_L35
      refine ⟨fun _ => hp M ?_, fun z => absurd (by decide) z⟩
      have e : zgd8 g l 0 v = [] := by unfold zgd8; split <;> rfl
      rw [e, List.append_nil]; exact hs
    | succ n ih =>
      intro f txt M hn hf hs hl hp
      obtain ⟨f, rfl⟩ : ∃ g, f = g + 1 := ⟨f - 1, by omega⟩
      rw [nI_pred]
      unfold wp_X19_wholes_L35
      refine ⟨fun z => absurd z (nI_pos (by omega)), fun _ => c_tens (by omega) ⟨l3_ne0 (p10_pos n) (p10_lt (by omega)), czd ?_⟩⟩
      rw [zdig hv' (by omega)]
      refine c_put hs zdig_b (by omega) fun M1 hs1 => cgI (she_l hs1 _ _ ho) rfl ?_
      rw [zgd8_s] at hp
      have next : (¬ (g = true ∧ n ≠ 0 ∧ n % 3 = 0)) → wp_X19_wholes_L89 D post o (wp_X19_wholes_L35 D post o f) (lN v) (some s) (nI n) M1 := by
        intro hno
        rw [if_neg hno, List.nil_append] at hp
        unfold wp_X19_wholes_L89
        rw [← Int32.sub_eq_add_neg]
        refine ih f _ M1 (by omega) (by omega) hs1 (by rw [List.length_append]; simp only [List.length_cons, List.length_nil]; omega) fun M' hs' => hp M' ?_
        rw [List.append_assoc] at hs'
        exact hs'
      rw [show (0 : Int32) = nI 0 from rfl, nI_leI (by omega) (by omega), show (3 : Int32) = nI 3 from rfl, nI_mod (by omega) (by decide), nI_eq (by omega) (by decide)]
      refine ⟨fun z => next (fun y => by rw [y.1] at z; exact absurd z (by decide)), fun z => ⟨fun z2 => next (fun y => y.2.1 (by omega)), fun z2 => ⟨fun z3 => next (fun y => z3 y.2.2), fun z3 => ?_⟩⟩⟩
      have hg : g = true := by cases g; exact absurd rfl z; rfl
      rw [if_pos ⟨hg, by omega, z3⟩] at hp
      refine she_L hs1 (czd (c_grp (zla_m hla (she_l hs1)) ?_))
      unfold wp_X19_wholes_L86 wp_X19_wholes_L89
      refine czd (c_put hs1 (zgs_b l) (by rw [List.length_append]; simp only [List.length_cons, List.length_nil]; omega) fun M2 hs2 => ?_)
      rw [← Int32.sub_eq_add_neg]
      refine ih f _ M2 (by omega) (by omega) hs2 (by rw [List.length_append, List.length_append]; simp only [List.length_cons, List.length_nil]; omega) fun M' hs' => hp M' ?_
      simp only [List.append_assoc, List.singleton_append, List.cons_append, List.nil_append] at hs' ⊢
      exact hs'
  have loop : ∀ f i : Nat, w ≤ i → i ≤ max w (znd v) → max w (znd v) - i < f → wp_X19_wholes_L6 D post o f (lN v) (some s) (nI i) M := by
    intro f
    induction f with
    | zero => intro i _ _ hf; omega
    | succ f ih =>
      intro i h1 hi hf
      have out : znd v ≤ i → wp_X19_wholes_L29 D post o (lN v) (some s) (nI i) M := by
        intro hge
        have : i = max w (znd v) := by omega
        subst this
        unfold wp_X19_wholes_L29
        exact ⟨_, dig _ _ txt M (by omega) (Nat.lt_succ_self _) hs (by omega) hp⟩
      unfold wp_X19_wholes_L6
      rw [show (18 : Int32) = nI 18 from rfl, nI_leI (by decide) (by omega)]
      refine ⟨fun z => out (by omega), fun z => c_tens (by omega) ?_⟩
      rw [lgc_lt, l3_lt hv' (p10_lt (by omega))]
      refine ⟨fun z2 => out (znd_le (by omega) z2), fun z2 => ?_⟩
      rw [nI_1]
      have : ¬ znd v ≤ i := fun y => z2 (Nat.lt_of_lt_of_le hzl (Nat.pow_le_pow_right (by decide) y))
      exact ih (i + 1) (by omega) (by omega) (by omega)
  unfold wp_X19_wholes
  exact cgI (she_l hs _ _ ho) rfl ⟨_, loop _ w (Nat.le_refl _) (by omega) (Nat.lt_succ_self _)⟩
theorem c_shaped {post : Unit → zM → Prop} {o a l w k least more : Nat} {g : Bool} {d : Int32} (ho : M0 o = some (.inr (17, [.int (b1 g), .int (nI w), .int (nI least), .int (nI (least + more))]))) (ha : zDe M0 a d k) (hk : k ≤ 6) (hw : w ≤ 4) (hw1 : 1 ≤ w) (hle : least ≤ 3) (hmo : more ≤ 3) (hla : zla D M0 L l)
    (hs : she D M0 s b L T h txt M) (hl : txt.length ≤ 290) (hp : ∀ M', she D M0 s b L T h (txt ++ zsh l d k g w least (least + more)) M' → post () M') : zis M o [17] ∧ wp_X19_write D post o (some a) (some s) M := by
  have hd := zab_lt d
  have hW := zW_le (k := k) (most := least + more) hd (by omega)
  unfold zsh at hp
  rw [zwh_W (by omega)] at hp
  have hV : (zsv (zab d) k least (least + more)).1 ≠ 0 ↔ zW (zab d) k (least + more) ≠ 0 := by
    rw [zsv_W (by omega)]
    exact not_congr zst_z
  generalize hWW : zW (zab d) k (least + more) = W at hp hV hW
  have hW63 : W < 2 ^ 62 := by omega
  have hM : least + more ≤ 6 := by omega
  have hp1 := p10_lt (k := least + more) (by omega)
  have hq := p10_pos (least + more)
  have hu1 : W / 10 ^ (least + more) < 10 ^ 17 := Nat.lt_of_le_of_lt (Nat.div_le_self _ _) (by omega)
  have hFl : W % 10 ^ (least + more) ≤ W := Nat.mod_le _ _
  have main : ∀ (t : List Int32) (M : zM), t.length ≤ 291 → she D M0 s b L T h t M → (∀ M', she D M0 s b L T h (t ++ ((if g then zgt (zgs l) (max w (znd (W / 10 ^ (least + more)))) (W / 10 ^ (least + more)) else zdl w (W / 10 ^ (least + more))) ++ (if least + (zst (least + more - least) (W % 10 ^ (least + more))).2 = 0 then [] else
      zpt l :: zdl (least + (zst (least + more - least) (W % 10 ^ (least + more))).2) (zst (least + more - least) (W % 10 ^ (least + more))).1))) M' → post () M') → wp_X19_write_L21 D post o (some s) (zsg8 (decide (d < 0)) W) M := by
    intro t M ht hs hp
    unfold wp_X19_write_L21
    refine c_absS hW63 (cgI (she_l hs _ _ ho) rfl (cgI (she_l hs _ _ ho) rfl (c_tens (by omega) ⟨l3_ne0 hq hp1, ?_⟩)))
    rw [l3_mod (by omega) hp1]
    have fin : ∀ (x : Nat) (F : Nat), F ≤ W → x ≤ 6 → x = least + (zst (least + more - least) (W % 10 ^ (least + more))).2 → F = (zst (least + more - least) (W % 10 ^ (least + more))).1 → wp_X19_write_L77 D post o (some s) (lN W) (nI x) (lN F) M := by
      intro x F hF hx6 ex eF
      rw [← ex, ← eF] at hp
      unfold wp_X19_write_L77 wp_X19_write_L104 wp_X19_write_L115
      refine cgI (she_l hs _ _ ho) rfl (c_tens (by omega) ⟨l3_ne0 hq hp1, cis (she_l hs _ _ ho) (by decide), ?_⟩)
      rw [l3_div (by omega) hp1]
      refine c_wholes ho hw hw1 hu1 hla hs (by omega) fun M1 hs1 => ?_
      have hgl := zgd8_len (g := g) (l := l) (n := max w (znd (W / 10 ^ (least + more)))) (v := W / 10 ^ (least + more))
      have hz16 : znd (W / 10 ^ (least + more)) ≤ 16 := znd_le (by decide) (Nat.lt_of_le_of_lt (Nat.div_le_self _ _) (by omega))
      have hzF : znd F ≤ 16 := znd_le (by decide) (by omega)
      rw [show (0 : Int32) = nI 0 from rfl, nI_leI (by omega) (by decide)]
      refine ⟨fun z => hp M1 ?_, fun z => czd (she_L hs1 (czd (c_pnt (zla_m hla (she_l hs1)) (czd (c_put hs1 (zpt_b l) (by rw [List.length_append]; omega) fun M2 hs2 => czd (c_number (by omega) (by omega) hs2 ?_ fun M3 hs3 => hp M3 ?_))))))⟩
      · have x0 : x = 0 := by omega
        rw [if_pos x0, List.append_nil]
        exact hs1
      · rw [List.length_append, List.length_append]; simp only [List.length_cons, List.length_nil]; omega
      · have x0 : ¬ x = 0 := by omega
        rw [if_neg x0]
        have e : ∀ y : List Int32, t ++ (y ++ zpt l :: zdl x F) = t ++ y ++ [zpt l] ++ zdl x F := fun y => by simp only [List.append_assoc, List.singleton_append]
        rw [e]
        exact hs3
    have strip : ∀ f w' v : Nat, w' < f → w' ≤ 6 → least + w' ≤ 6 → v ≤ W → zst w' v = zst (least + more - least) (W % 10 ^ (least + more)) → wp_X19_write_L43 D post o f (some s) (lN W) (nI (least + w')) (lN v) M := by
      intro f
      induction f with
      | zero => intro w' v hf; omega
      | succ f ih =>
        intro w' v hf hw6 hlw hv e
        unfold wp_X19_write_L43
        refine cgI (she_l hs _ _ ho) rfl ?_
        rw [nI_leI (by omega) (by omega), lgc_eq, show (10 : Int64) = lN 10 from rfl, l3_mod (by omega) (by decide), show (0 : Int64) = lN 0 from rfl, l3_eq (by omega) (by decide), l3_div (by omega) (by decide)]
        refine ⟨fun z => ?_, fun z => ?_⟩
        · have : w' = 0 := by omega
          subst this
          rw [← e] at fin
          exact fin _ v hv (by omega) rfl rfl
        · obtain ⟨y, rfl⟩ : ∃ y, w' = y + 1 := ⟨w' - 1, by omega⟩
          refine ⟨fun z2 => ?_, fun z2 => ?_⟩
          · rw [show zst (y + 1) v = (v, y + 1) by simp [zst, z2]] at e
            rw [← e] at fin
            exact fin _ v hv (by omega) rfl rfl
          · rw [show zst (y + 1) v = zst y (v / 10) by simp [zst, z2]] at e
            rw [← Int32.sub_eq_add_neg, show least + (y + 1) = (least + y) + 1 by omega, nI_pred]
            exact ih y (v / 10) (by omega) (by omega) (by omega) (Nat.le_trans (Nat.div_le_self _ _) hv) e
    have := strip (more + 1) more (W % 10 ^ (least + more)) (by omega) (by omega) hM hFl (by rw [Nat.add_sub_cancel_left])
    exact ⟨_, this⟩
  refine ⟨cis (she_l hs _ _ ho) (by decide), ?_⟩
  unfold wp_X19_write
  refine cgI (she_l hs _ _ ho) rfl (czd ⟨cis (she_l hs _ _ ha) (by decide), c_rounded (she_l hs _ _ ha) hk hM ?_⟩)
  rw [hWW]
  have h0 : (0 : Int64).toInt = 0 := by decide
  have hsg : (zsg8 (decide (d < 0)) W).toInt < 0 ↔ (d < 0 ∧ (zsv (zab d) k least (least + more)).1 ≠ 0) := by
    rw [hV]
    by_cases hd0 : d < 0
    · rw [decide_eq_true hd0]
      show (-(lN W)).toInt < 0 ↔ _
      rw [l6_neg hW63]
      simp only [hd0, true_and]
      omega
    · rw [decide_eq_false hd0]
      show (lN W).toInt < 0 ↔ _
      rw [l3_toInt (by omega)]
      simp only [hd0, false_and, iff_false]
      omega
  rw [i0_le, lgc_lt, Int64.lt_iff_toInt_lt, h0, hsg]
  refine ⟨fun z => ?_, fun z => ?_⟩
  · rw [if_neg z] at hp
    refine main txt M (by omega) hs fun M' hs' => hp M' ?_
    rw [List.nil_append]; exact hs'
  · rw [if_pos (Classical.not_not.mp z)] at hp
    refine czd (c_put hs (by decide) (by omega) fun M2 hs2 => main _ M2 (by rw [List.length_append]; simp only [List.length_cons, List.length_nil]; omega) hs2 fun M' hs' => hp M' ?_)
    simp only [List.append_assoc] at hs' ⊢
    exact hs'
end SH2
