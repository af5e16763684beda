/-! the twin writes texts, lists, shaped numbers -/
/-- a String constant: its letters, all below the law's start -/
def zSt (D : zD) (I : zM) (k : Nat) (l : List Int32) : Prop := ∃ (v : Nat) (f : Nat → Int32), D.2.2.2 (10 + k) < zB D ∧ v < zB D ∧ I (D.2.2.2 (10 + k)) = some (.inr (30, [.ref v, .int 0])) ∧ I v = some (.inl (1, l.length, .inl f)) ∧ l.length < 100 ∧ ∀ i c, l[i]? = some c → f i = c ∧ zb c 128 = true
theorem tm_b {D : zD} {o : Nat} {A : Nat → Nat} {S : zTS} {I : zM} {a : Nat} (hT : tok D o A) (h : a < zB D) : tm o A S I a = I a :=
  tm_i (fun z => by have := hT.2.2.1; omega) (fun k hk z => by have := hT.2.2.2 k hk; omega)
theorem zSt_m {D : zD} {o : Nat} {A : Nat → Nat} {S : zTS} {I : zM} {k : Nat} {l : List Int32} (hT : tok D o A) (h : zSt D I k l) : zSt D (tm o A S I) k l := by
  obtain ⟨v, f, h1, h2, h3, h4, h5⟩ := h
  exact ⟨v, f, h1, h2, by rw [tm_b hT h1]; exact h3, by rw [tm_b hT h2]; exact h4, h5⟩
theorem zch {c : Int32} (h : zb c 128 = true) : ((c &&& (255 : Int32)).toUInt32 % 65536).toInt32 = c ∧ narrow .char (.int c) = .int c := by
  obtain ⟨q, hq, rfl⟩ := zb_of h (by decide)
  have h1 : ∀ q : Fin 128, ((nI q.val &&& (255 : Int32)).toUInt32 % 65536).toInt32 = nI q.val := by decide
  exact ⟨h1 ⟨q, hq⟩, (pk_charN (by omega)).1⟩
section TS
variable {D : zD} {M : zM}
theorem s_length {post : Int32 → zM → Prop} {k : Nat} {l : List Int32} (hS : zSt D M k l) (h : post (nI l.length) M) : wp_J11_length D post (D.2.2.2 (10 + k)) M := by
  obtain ⟨v, f, h1, h2, h3, h4, h5, h6⟩ := hS
  unfold wp_J11_length wp_J11_coder wp_J11_coder_L14
  refine cgR (x := some v) h3 rfl (czd (clen h4 (by decide) ⟨cis h3 (by decide), ⟨fun z => absurd z (by decide), fun _ => cgI h3 rfl ⟨rfl, ?_⟩⟩⟩))
  have e : nI l.length >>> ((0 : Int32) &&& 31) = nI l.length := by
    rw [show (0 : Int32) &&& 31 = 0 by decide]
    exact Int32.shiftRight_zero
  show post (nI l.length >>> ((0 : Int32) &&& 31)) M
  rw [e]; exact h
theorem s_charAt {post : Int32 → zM → Prop} {k i : Nat} {l : List Int32} {c : Int32} (hS : zSt D M k l) (hi : l[i]? = some c) (h : post c M) : wp_J11_charAt D post (D.2.2.2 (10 + k)) (nI i) M := by
  obtain ⟨v, f, h1, h2, h3, h4, h5, h6⟩ := hS
  have hlt : i < l.length := (List.getElem?_eq_some_iff.mp hi).1
  obtain ⟨hf, hc⟩ := h6 i c hi
  obtain ⟨z1, z2⟩ := zch hc
  unfold wp_J11_charAt wp_J11_isLatin1 wp_J11_isLatin1_L17 wp_J11_isLatin1_L18 wp_J12_charAt wp_J11_checkIndex wp_J7_checkIndex
  refine ⟨cis h3 (by decide), ⟨fun z => absurd z (by decide), fun _ => cgI h3 rfl ⟨fun z => absurd rfl z, fun _ => ⟨rfl, ⟨fun z => absurd z (by decide), fun _ => cgR (x := some v) h3 rfl ?_⟩⟩⟩⟩⟩
  refine czd (clen h4 (by decide) fun r1 => ⟨fun z => absurd z (nI_pos (by omega)), fun _ => ⟨fun _ => ?_, fun z => absurd (nI_lt hlt (by omega)) z⟩⟩)
  refine caI h4 (vp_in_nI hlt (by omega)) ?_
  rw [nI_clamp (by omega), hf, z1]
  exact ⟨z2, z2, h⟩
end TS
/-- the twin's constants from the 13th on -/
def zJ : Nat → List Int32 := fun k => match k with
  | 13 => [32, 101, 32] | 14 => [32, 105, 32] | 15 => [32, 117, 110, 32] | 16 => [32, 119, 97, 32] | 17 => [44] | 18 => [32, 97, 110, 100, 32] | 19 => [44, 32] | _ => [44, 32, 97, 110, 100, 32]
def zj2 (l : Nat) : List Int32 := if l = 1 then zJ 13 else if l = 2 then zJ 14 else if l = 3 then zJ 15 else if l = 4 then zJ 16 else if l = 5 then zJ 17 else zJ 18
def zjm (l : Nat) : List Int32 := if l = 4 then zJ 16 else if l = 5 then zJ 17 else zJ 19
def zje (l : Nat) : List Int32 := if l = 0 ∨ l = 6 then zJ 20 else zj2 l
def zjn (l n k : Nat) : List Int32 := if n = 2 then zj2 l else if k = n - 1 then zje l else zjm l
def zlsF (l n : Nat) : Nat → List Int32 → List Int32
  | _, [] => []
  | k, v :: vs => (if k = 0 then [] else zjn l n k) ++ (zpd l v 0 ++ zlsF l n (k + 1) vs)
theorem zJ_len (k : Nat) : (zJ k).length ≤ 6 := by unfold zJ; split <;> decide
theorem zpd_len (l : Nat) (d : Int32) (k : Nat) (hk : k ≤ 6) : (zpd l d k).length ≤ 20 := by
  have hd := zab_lt d
  have h1 : znd (zab d / 10 ^ k) ≤ 10 := znd_le (by decide) (Nat.lt_of_le_of_lt (Nat.le_trans (Nat.div_le_self _ _) hd) (by decide))
  have h2 : zab d % 10 ^ k < 10 ^ k := Nat.mod_lt _ (p10_pos k)
  unfold zpd
  simp only [List.length_append]
  have h3 : (if d < 0 then ([45] : List Int32) else []).length ≤ 1 := by split <;> simp
  have h4 : (if k = 0 then ([] : List Int32) else zpt l :: zdl k (zab d % 10 ^ k)).length ≤ 7 := by
    split
    · simp
    · have : znd (zab d % 10 ^ k) ≤ k := znd_le (by omega) h2
      simp only [List.length_cons, zdl_len]; omega
  rw [zdl_len]
  omega
theorem zpd_len0 (l : Nat) (d : Int32) : (zpd l d 0).length ≤ 11 := by
  have hd := zab_lt d
  have h1 : znd (zab d / 10 ^ 0) ≤ 10 := znd_le (by decide) (Nat.lt_of_le_of_lt (Nat.le_trans (Nat.div_le_self _ _) hd) (by decide))
  unfold zpd
  simp only [List.length_append, if_true, List.length_nil]
  have h3 : (if d < 0 then ([45] : List Int32) else []).length ≤ 1 := by split <;> simp
  rw [zdl_len]
  omega
theorem zjn_J (l n k : Nat) : ∃ q, 13 ≤ q ∧ q ≤ 20 ∧ zjn l n k = zJ q := by
  unfold zjn zje zjm zj2
  repeat' split
  all_goals first | exact ⟨13, by decide, by decide, rfl⟩ | exact ⟨14, by decide, by decide, rfl⟩ | exact ⟨15, by decide, by decide, rfl⟩ | exact ⟨16, by decide, by decide, rfl⟩ | exact ⟨17, by decide, by decide, rfl⟩ | exact ⟨18, by decide, by decide, rfl⟩ | exact ⟨19, by decide, by decide, rfl⟩ | exact ⟨20, by decide, by decide, rfl⟩
theorem zlsF_len (l n : Nat) : ∀ (vs : List Int32) (k : Nat), (zlsF l n k vs).length ≤ 17 * vs.length
  | [], k => by simp [zlsF]
  | v :: vs, k => by
    have h1 := zlsF_len l n vs (k + 1)
    have h2 := zpd_len0 l v
    have h3 : (if k = 0 then ([] : List Int32) else zjn l n k).length ≤ 6 := by
      split
      · simp
      · obtain ⟨q, -, -, e⟩ := zjn_J l n k
        rw [e]; exact zJ_len q
    rw [zlsF]
    simp only [List.length_append, List.length_cons]
    omega
section TW2
variable {D : zD} {o : Nat} {A : Nat → Nat} {S : zTS} {I : zM}
theorem t_writesAll {post : Unit → zM → Prop} {n k : Nat} {l : List Int32} (hT : tok D o A) (hS : zSt D I k l) (hn : S.1 48 = nI n) (hn2 : n + l.length ≤ 600) (h : post () (tm o A (tw S n l) I)) : wp_X9_writesAll D post o (some (D.2.2.2 (10 + k))) (tm o A S I) := by
  have hll : l.length < 100 := by obtain ⟨v, f, -, -, -, -, h5, -⟩ := hS; exact h5
  have loop : ∀ f i : Nat, i ≤ l.length → l.length - i < f → wp_X9_writesAll_L2 D post o f (some (D.2.2.2 (10 + k))) (nI i) (tm o A (tw S n (l.take i)) I) := by
    intro f
    induction f with
    | zero => intro i _ hf; omega
    | succ f ih =>
      intro i hi hf
      have hSm := zSt_m (S := tw S n (l.take i)) hT hS
      have hz : zis (tm o A (tw S n (l.take i)) I) (D.2.2.2 (10 + k)) [30] := by obtain ⟨v, g, -, -, h3, -⟩ := hSm; exact cis h3 (by decide)
      unfold wp_X9_writesAll_L2
      refine czd ⟨hz, s_length hSm ?_⟩
      rw [nI_leI (by omega) (by omega)]
      refine ifc (fun z => ?_) (fun z => ⟨hz, ?_⟩)
      · have : i = l.length := by omega
        subst this
        rw [List.take_length]
        exact h
      · obtain ⟨c, hc⟩ : ∃ c, l[i]? = some c := ⟨l[i]'(by omega), List.getElem?_eq_getElem (by omega)⟩
        refine s_charAt hSm hc ⟨tis _ (by decide), t_writes (n := n + i) hT (by rw [tw_48, List.length_take, Nat.min_eq_left (by omega)]) (by omega) ?_⟩
        have e := tw_app (S := S) (n := n) (a := l.take i) (b := [c])
        rw [List.length_take, Nat.min_eq_left (by omega)] at e
        rw [e, nI_1]
        have e2 : l.take i ++ [c] = l.take (i + 1) := by
          rw [List.take_succ, hc]; rfl
        rw [e2]
        exact ih (i + 1) (by omega) (by omega)
  have := loop (l.length + 1) 0 (by omega) (by omega)
  rw [List.take_zero, tw_nil hn] at this
  exact ⟨_, this⟩
theorem t_joinerOfTwo {post : Option Nat → zM → Prop} {l : Nat} {M : zM} (hl : l < 7) (h : ∀ q, 13 ≤ q → q ≤ 20 → zJ q = zj2 l → (q = 13 + (if l = 0 ∨ l = 6 then 5 else l - 1)) → post (some (D.2.2.2 (10 + q))) M) : wp_X9_joinerOfTwo D post (nI l) M := by
  unfold wp_X9_joinerOfTwo
  have h9 : l = 0 ∨ l = 1 ∨ l = 2 ∨ l = 3 ∨ l = 4 ∨ l = 5 ∨ l = 6 := by omega
  rcases h9 with rfl | rfl | rfl | rfl | rfl | rfl | rfl
  all_goals refine ⟨fun z => ?_, fun z => ?_, fun z => ?_, fun z => ?_, fun z => ?_, fun z => ?_⟩
  all_goals first | exact absurd z (by decide) | exact h _ (by decide) (by decide) rfl rfl
/-- the twin's joiner, written -/
theorem t_wlL {post : Unit → zM → Prop} {k9 : Int32 → Int32 → Int32 → zM → Prop} {n l m k a : Nat} {v : Int32} (hT : tok D o A) (hJ : ∀ q, 13 ≤ q → q ≤ 20 → zSt D I q (zJ q)) (hn : S.1 48 = nI n) (hl : S.1 49 = nI l) (hl2 : l < 7) (hn2 : n ≤ 450) (ha : a < 5) (hm : m ≤ 6) (hk0 : k ≠ 0) (hk : k < m)
    (hv : S.2.1 44 (6 * a + k) = v) (h : k9 (nI a) (nI m) (nI k + 1) (tm o A (tw S n (zjn l m k ++ zpd l v 0)) I)) (lst : Int32) (hlst : lst = b1 (decide (k = m - 1))) : wp_X9_writesList_L30 D post o k9 (nI a) (nI m) (nI k) lst (tm o A S I) := by
  have h126 : ∀ q, 13 ≤ q → q ≤ 20 → zJ q = zjn l m k → wp_X9_writesList_L123 D post o k9 (nI a) (nI m) (nI k) (some o) (some (D.2.2.2 (10 + q))) (tm o A S I) := by
    intro q h1 h2 e
    have hlen := zJ_len q
    unfold wp_X9_writesList_L123 wp_X9_writesList_L126 wp_X9_writesInt
    refine tzd.mpr ⟨tis _ (by decide), t_writesAll hT (hJ q h1 h2) hn (by omega) ?_⟩
    simp (disch := first | decide | omega) only [tgI, tgR, tzd, taI hT, tsI hT, tp hT, tF_s, tF_n, tA_F, tF_A, tA_s, tA_n, tA_R, tsz, m8, m5, m6, m10, m30, m120, nI_1, nI_add, clT, vinT, true_and, updS, updN, if_true, tw_A (j := 44) (by decide)]
    rw [hv]
    refine ⟨tis _ (by decide), tis _ (by decide), t_writesDecimal (k := 0) (n := n + (zJ q).length) hT tw_48 (by rw [tw_F (by decide)]; exact hl) hl2 (by decide) (by omega) ?_⟩
    rw [tw_app, e, ← nI_1]
    exact h
  have e2 : ∀ x : Nat, x < 10 → (nI l = nI x ↔ l = x) := fun x hx => nI_eq (by omega) (by omega)
  unfold wp_X9_writesList_L30
  rw [tgI (by decide) rfl, hl]
  refine t_joinerOfTwo hl2 fun q h1 h2 hq hq2 => ?_
  have hm2 : nI m = 2 ↔ m = 2 := by rw [show (2 : Int32) = nI 2 from rfl, nI_eq (by omega) (by decide)]
  have h98 : ∀ x y : Nat, 13 ≤ x → x ≤ 20 → 13 ≤ y → y ≤ 20 → zJ x = zjm l → zJ y = zje l → wp_X9_writesList_L98 D post o k9 (nI a) (nI m) (nI k) lst (some (D.2.2.2 (10 + q))) (some (D.2.2.2 (10 + x))) (some (D.2.2.2 (10 + y))) (tm o A S I) := by
    intro x y x1 x2 y1 y2 ex ey
    unfold wp_X9_writesList_L98
    rw [hm2, hlst]
    unfold zjn at h126
    refine ifn (fun z => h126 q h1 h2 (by rw [if_pos z]; exact hq)) (fun z => ifb' (fun z2 => h126 y y1 y2 ?_) (fun z2 => h126 x x1 x2 ?_))
    · rw [if_neg z, if_pos (of_decide_eq_true z2)]; exact ey
    · rw [if_neg z, if_neg (of_decide_eq_false z2)]; exact ex
  have h72 : ∀ x : Nat, 13 ≤ x → x ≤ 20 → zJ x = zjm l → wp_X9_writesList_L72 D post o k9 (nI a) (nI m) (nI k) lst (some (D.2.2.2 (10 + q))) (some (D.2.2.2 (10 + x))) (tm o A S I) := by
    intro x x1 x2 ex
    unfold wp_X9_writesList_L72 wp_X9_writesList_L90
    rw [tgI (by decide) rfl, tgI (by decide) rfl, hl, show (0 : Int32) = nI 0 from rfl, show (6 : Int32) = nI 6 from rfl, e2 0 (by decide), e2 6 (by decide)]
    refine ifc (fun z => h98 x 20 x1 x2 (by decide) (by decide) ex (by unfold zje; rw [if_pos (Or.inl z)])) (fun z => ifn (fun z2 => h98 x 20 x1 x2 (by decide) (by decide) ex (by unfold zje; rw [if_pos (Or.inr z2)])) (fun z2 => h98 x q x1 x2 h1 h2 ex ?_))
    unfold zje
    rw [if_neg (fun y => y.elim z z2)]
    exact hq
  rw [tgI (by decide) rfl, tgI (by decide) rfl, hl, show (4 : Int32) = nI 4 from rfl, show (5 : Int32) = nI 5 from rfl, e2 4 (by decide), e2 5 (by decide)]
  refine ifn (fun z => h72 16 (by decide) (by decide) (by unfold zjm; rw [if_pos z])) (fun z => ifn (fun z2 => h72 17 (by decide) (by decide) (by unfold zjm; rw [if_neg z, if_pos z2])) (fun z2 => h72 19 (by decide) (by decide) (by unfold zjm; rw [if_neg z, if_neg z2])))
theorem t_writesList {post : Unit → zM → Prop} {n l a : Nat} {vs : List Int32} (hT : tok D o A) (hJ : ∀ q, 13 ≤ q → q ≤ 20 → zSt D I q (zJ q)) (hn : S.1 48 = nI n) (hl : S.1 49 = nI l) (hl2 : l < 7) (hn2 : n ≤ 300) (ha : a < 5) (hm : vs.length ≤ 6) (hf : S.2.1 42 a = nI vs.length)
    (hv : ∀ i v, vs[i]? = some v → S.2.1 44 (6 * a + i) = v) (h : post () (tm o A (tw S n (zlsF l vs.length 0 vs)) I)) : wp_X9_writesList D post o (nI a) (tm o A S I) := by
  have loop : ∀ (f k : Nat) (S : zTS) (n : Nat), S.1 48 = nI n → S.1 49 = nI l → (∀ i v, vs[i]? = some v → S.2.1 44 (6 * a + i) = v) → n ≤ 300 + 17 * k → k ≤ vs.length → vs.length - k < f → post () (tm o A (tw S n (zlsF l vs.length k (vs.drop k))) I) →
      wp_X9_writesList_L9 D post o f (nI a) (nI vs.length) (nI k) (tm o A S I) := by
    intro f
    induction f with
    | zero => intro k S n _ _ _ _ _ hf; omega
    | succ f ih =>
      intro k S n hn hl hv hn2 hk hf h
      unfold wp_X9_writesList_L9
      rw [nI_leI (by omega) (by omega), show (0 : Int32) = nI 0 from rfl, nI_leI (by omega) (by decide)]
      refine ifc (fun z => ?_) (fun z => ?_)
      · have : k = vs.length := by omega
        subst this
        rw [List.drop_length, zlsF, tw_nil hn] at h
        exact h
      · obtain ⟨v, hv1⟩ : ∃ v, vs[k]? = some v := ⟨vs[k]'(by omega), List.getElem?_eq_getElem (by omega)⟩
        have hv2 := hv k v hv1
        have hdr : vs.drop k = v :: vs.drop (k + 1) := by
          rw [List.drop_eq_getElem_cons (by omega)]
          congr 1
          exact Option.some.inj ((List.getElem?_eq_getElem (by omega)).symm.trans hv1)
        rw [hdr, zlsF] at h
        have hz := zpd_len0 l v
        have next : ∀ t : List Int32, t.length ≤ 17 → post () (tm o A (tw S n (t ++ zlsF l vs.length (k + 1) (vs.drop (k + 1)))) I) → wp_X9_writesList_L9 D post o f (nI a) (nI vs.length) (nI k + 1) (tm o A (tw S n t) I) := fun t ht h5 => by
          rw [nI_1]
          refine ih (k + 1) (tw S n t) (n + t.length) tw_48 (by rw [tw_F (by decide)]; exact hl) (fun i v hiv => by rw [tw_A (by decide)]; exact hv i v hiv) (by omega) (by omega) (by omega) ?_
          rw [tw_app]; exact h5
        refine ifc (fun z2 => ?_) (fun z2 => ?_)
        · have : k = 0 := by omega
          subst this
          unfold wp_X9_writesList_L126 wp_X9_writesInt
          simp (disch := first | decide | omega) only [tgI, tgR, tzd, taI hT, tsI hT, tp hT, tF_s, tF_n, tA_F, tF_A, tA_s, tA_n, tA_R, tsz, m8, m5, m6, m10, m30, m120, nI_1, nI_add, clT, vinT, true_and, updS, updN, if_true]
          rw [hv2]
          refine ⟨tis _ (by decide), tis _ (by decide), t_writesDecimal (k := 0) hT hn hl hl2 (by decide) (by omega) (next _ (by omega) ?_)⟩
          rw [if_pos rfl, List.nil_append] at h
          exact h
        · have e9 : nI k = nI vs.length - 1 ↔ k = vs.length - 1 := by
            obtain ⟨w, hw⟩ : ∃ w, vs.length = w + 1 := ⟨vs.length - 1, by omega⟩
            rw [hw, nI_pred, nI_eq (by omega) (by omega)]
            omega
          rw [if_neg (by omega)] at h
          obtain ⟨q, -, -, eq⟩ := zjn_J l vs.length k
          have hql := zJ_len q
          have hnx := next (zjn l vs.length k ++ zpd l v 0) (by rw [List.length_append, eq]; omega) (by rw [List.append_assoc]; exact h)
          rw [e9]
          refine ifn (fun z3 => ?_) (fun z3 => ?_)
          · exact t_wlL hT hJ hn hl hl2 (by omega) ha hm (by omega) (by omega) hv2 hnx 1 (by rw [decide_eq_true z3]; rfl)
          · exact t_wlL hT hJ hn hl hl2 (by omega) ha hm (by omega) (by omega) hv2 hnx 0 (by rw [decide_eq_false z3]; rfl)
  unfold wp_X9_writesList
  simp (disch := first | decide | omega) only [tgI, tgR, tzd, taI hT, tsI hT, tp hT, tF_s, tF_n, tA_F, tF_A, tA_s, tA_n, tA_R, tsz, m8, m5, m6, m10, m30, m120, nI_1, nI_add, clT, vinT, true_and, updS, updN, if_true]
  rw [hf]
  exact ⟨vs.length + 1, loop _ 0 S n hn hl hv (by omega) (Nat.zero_le _) (by omega) h⟩
end TW2
