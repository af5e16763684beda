/-! the twin writes a message -/
def zsm (S0 S : zTS) : Prop := (∀ k, k ≠ 37 → k ≠ 38 → k ≠ 39 → k ≠ 40 → k ≠ 48 → k ≠ 50 → S.1 k = S0.1 k) ∧ (∀ k, k ≠ 47 → S.2.1 k = S0.2.1 k) ∧ S.2.2 = S0.2.2
def zwS (S0 S : zTS) (e : Int32) (out : List Int32) : Prop := zsm S0 S ∧ S.1 48 = nI out.length ∧ S.1 50 = e ∧ ∀ i c, out[i]? = some c → S.2.1 47 i = c
theorem zwS_tw {S0 S : zTS} {e : Int32} {out l : List Int32} (h : zwS S0 S e out) : zwS S0 (tw S out.length l) e (out ++ l) := by
  obtain ⟨⟨h1, h2, h3⟩, h4, h5, h6⟩ := h
  refine ⟨⟨fun k a b c d e f => by rw [tw_F e]; exact h1 k a b c d e f, fun k a => by rw [tw_A a]; exact h2 k a, h3⟩, by rw [tw_48, List.length_append], by rw [tw_F (by decide)]; exact h5, fun i c hc => ?_⟩
  rw [tw_47]
  unfold zwl
  by_cases hi : i < out.length
  · rw [if_neg (by omega)]
    rw [List.getElem?_append_left hi] at hc
    exact h6 i c hc
  · rw [List.getElem?_append_right (by omega)] at hc
    have := (List.getElem?_eq_some_iff.mp hc).1
    rw [if_pos (by omega), List.getD_eq_getElem?_getD, hc]; rfl
theorem zwS_4 {S0 S S' : zTS} {e : Int32} {out : List Int32} (h : zwS S0 S e out) (h4 : zs4 S S') : zwS S0 S' e out := by
  obtain ⟨⟨h1, h2, h3⟩, h5, h6, h7⟩ := h
  refine ⟨⟨fun k a b c d e f => by rw [h4.1 k a b c d]; exact h1 k a b c d e f, fun k a => by rw [h4.2]; exact h2 k a, by rw [h4.2]; exact h3⟩, by rw [h4.1 48 (by decide) (by decide) (by decide) (by decide)]; exact h5, by rw [h4.1 50 (by decide) (by decide) (by decide) (by decide)]; exact h6, fun i c hc => by rw [h4.2]; exact h7 i c hc⟩
theorem zwS_50 {S0 S : zTS} {e e' : Int32} {out : List Int32} (h : zwS S0 S e out) : zwS S0 (tF S 50 e') e' out := by
  obtain ⟨⟨h1, h2, h3⟩, h4, h5, h6⟩ := h
  exact ⟨⟨fun k a b c d e f => by rw [tF_n f]; exact h1 k a b c d e f, h2, h3⟩, by rw [tF_n (by decide)]; exact h4, tF_s, h6⟩
/-- what stays as the slot j is written -/
def zcx (D : zD) (I : zM) (S0 : zTS) (j l n nc : Nat) (th : Nat → zTh) (cs : List zCh) (hi : Nat) : Prop :=
  S0.1 0 = nI nc ∧ nc ≤ 12 ∧ S0.1 49 = nI l ∧ l < 7 ∧ j < 4 ∧ S0.2.1 9 j = nI n ∧ n ≤ 120 ∧ zth9 S0 th ∧ (∀ q, 13 ≤ q → q ≤ 20 → zSt D I q (zJ q)) ∧ cs.length ≤ 8 ∧ zri 0 hi cs ∧ hi ≤ 200 ∧
  ∀ c x, cs[c]? = some x → S0.2.1 17 (8 * j + c) = nI x.2.1 ∧ zks S0 j c (x.2.2.2.2.map Prod.fst) ∧ (∀ b y, x.2.2.2.2[b]? = some y → S0.2.1 21 (10 * (8 * j + c) + b) = nI y.2) ∧ S0.2.1 22 (8 * j + c) = nI x.2.2.2.1
theorem zcx_s {D : zD} {I : zM} {S0 S : zTS} {j l n nc hi : Nat} {th : Nat → zTh} {cs : List zCh} (h : zcx D I S0 j l n nc th cs hi) (hs : zsm S0 S) : zcx D I S j l n nc th cs hi := by
  obtain ⟨h1, h2, h3, h4, h5, h6, h7, h8, h9, h10, h11, h12, h13⟩ := h
  have hf : ∀ k, k ≠ 37 → k ≠ 38 → k ≠ 39 → k ≠ 40 → k ≠ 48 → k ≠ 50 → S.1 k = S0.1 k := hs.1
  have ha : ∀ k, k ≠ 47 → S.2.1 k = S0.2.1 k := hs.2.1
  refine ⟨by rw [hf 0 (by decide) (by decide) (by decide) (by decide) (by decide) (by decide)]; exact h1, h2, by rw [hf 49 (by decide) (by decide) (by decide) (by decide) (by decide) (by decide)]; exact h3, h4, h5, by rw [ha 9 (by decide)]; exact h6, h7, fun a hh => ?_, h9, h10, h11, h12, fun c x hx => ?_⟩
  · have := h8 a hh
    rw [ha 41 (by decide), ha 42 (by decide), ha 43 (by decide), ha 44 (by decide)]
    exact this
  · obtain ⟨a1, a2, a3, a4⟩ := h13 c x hx
    rw [ha 17 (by decide), ha 21 (by decide), ha 22 (by decide)]
    refine ⟨a1, ?_, a3, a4⟩
    unfold zks at a2 ⊢
    rw [ha 19 (by decide), ha 20 (by decide)]
    exact a2
theorem zown_s {S0 S : zTS} {n : Nat} (hs : zsm S0 S) : zown S n = zown S0 n := by
  unfold zown zoc
  have ha := hs.2.1
  rw [ha 1 (by decide), ha 2 (by decide), ha 3 (by decide), ha 4 (by decide), ha 5 (by decide), ha 6 (by decide)]
theorem z3_of {x : Nat} (h3 : x ≤ 3) (h0 : x ≠ 0) (h1 : x ≠ 1) (h2 : x ≠ 2) : x = 3 := by omega
theorem nI_2 (a : Nat) : nI a + 2 = nI (a + 2) := by rw [show (2 : Int32) = nI 2 from rfl, nI_add]
theorem nI_3 (a : Nat) : nI a + 3 = nI (a + 3) := by rw [show (3 : Int32) = nI 3 from rfl, nI_add]
theorem ztx_len {l : Nat} {t : zTh} (h1 : t.2.2.1 ≤ 6) (h2 : t.1 = 3 → t.2.2.2.length ≤ 6) (h3 : t.1 ≤ 3) (h0 : t.1 ≠ 0) : (ztx l t).length ≤ 102 := by
  unfold ztx
  split
  · have := zpd_len l t.2.1 t.2.2.1 h1; omega
  · split
    · simp
    · have h4 := zlsF_len l t.2.2.2.length t.2.2.2 0
      have := h2 (z3_of h3 h0 (by assumption) (by assumption))
      omega
section TM2
variable {D : zD} {o : Nat} {A : Nat → Nat} {S S0 : zTS} {I : zM} {j l n nc hi : Nat} {th : Nat → zTh} {cs : List zCh}
theorem t_writesPlainly {post : Unit → zM → Prop} {k a : Nat} (hT : tok D o A) (hC : zcx D I S j l n nc th cs hi) (hn : S.1 48 = nI k) (hn2 : k ≤ 300) (ha : a < 5) (h0 : (th a).1 ≠ 0) (h : post () (tm o A (tw S k (ztx l (th a))) I)) : wp_X9_writesPlainly D post o (nI a) (tm o A S I) := by
  obtain ⟨-, -, hl, hl2, -, -, -, hth, hJ, -⟩ := hC
  obtain ⟨t1, t2, t3, t4, t5, t6, t7⟩ := hth a ha
  unfold wp_X9_writesPlainly wp_X9_writesPlainly_L71 wp_X9_writesPlainly_L82
  unfold ztx at h
  simp (disch := first | decide | omega) only [tgI, tgR, tzd, taI hT, tsI hT, tp hT, tF_s, tF_n, tA_F, tF_A, tA_s, tA_n, tA_R, tsz, m8, m5, m6, m10, m30, m120, nI_1, nI_add, clT, vinT, true_and, updS, updN, if_true, t1, t2, t3]
  rw [show nI (th a).1 = 1 ↔ (th a).1 = 1 by rw [show (1 : Int32) = nI 1 from rfl, nI_eq (by omega) (by decide)], show nI (th a).1 = 2 ↔ (th a).1 = 2 by rw [show (2 : Int32) = nI 2 from rfl, nI_eq (by omega) (by decide)]]
  refine ifn (fun z => ⟨tis _ (by decide), t_writesDecimal hT hn hl hl2 t5 (by omega) ?_⟩) (fun z => ifn (fun z2 => ?_) (fun z2 => ⟨tis _ (by decide), ?_⟩))
  · rw [if_pos z] at h; exact h
  · rw [if_neg z, if_pos z2] at h
    refine ifn (fun z3 => ⟨tis _ (by decide), t_writes hT hn (by omega) ?_⟩) (fun z3 => ifn (fun z4 => ⟨tis _ (by decide), t_writes hT hn (by omega) ?_⟩) (fun z4 => ⟨tis _ (by decide), t_writes hT hn (by omega) ?_⟩))
    · rw [if_pos z3] at h; exact h
    · rw [if_neg z3, if_pos z4] at h; exact h
    · rw [if_neg z3, if_neg z4] at h; exact h
  · rw [if_neg z, if_neg z2] at h
    obtain ⟨t8, t9, t10⟩ := t7 (z3_of t4 h0 z z2)
    exact t_writesList hT hJ hn hl hl2 hn2 ha t8 (by rw [t2]; exact t9) t10 h
/-- after a part -/
theorem t_117 {P : (Unit → zM → Prop) → Nat → Int32 → Int32 → Int32 → zM → Prop} {post : Unit → zM → Prop} {k3 : Int32 → Int32 → Int32 → zM → Prop} {x1 x3 x4 e : Int32} {out : List Int32} (hT : tok D o A) (hS : zwS S0 S e out) (hn : out.length < 600)
    (h : ∀ S', zwS S0 S' (if e ≠ 0 then e else if 240 < out.length then -5 else 0) out → k3 x1 x3 x4 (tm o A S' I)) : wp_X9_writesMessage_L117 D P post o k3 x1 x3 x4 (tm o A S I) := by
  unfold wp_X9_writesMessage_L117 wp_X9_writesMessage_L140 wp_X9_writesMessage_L144
  have h48 := hS.2.1
  have h50 := hS.2.2.1
  simp (disch := first | decide | omega) only [tgI, tgR, tzd, taI hT, tsI hT, tp hT, tF_s, tF_n, tA_F, tF_A, tA_s, tA_n, tA_R, tsz, m8, m5, m6, m10, m30, m120, nI_1, nI_add, clT, vinT, true_and, updS, updN, if_true, h48, h50]
  rw [show (240 : Int32) = nI 240 from rfl, nI_leI (by omega) (by decide)]
  refine ⟨fun z => ?_, fun z => ⟨fun z2 => ?_, fun z2 => ?_⟩⟩
  · have := h (tF S 50 e) (by rw [if_pos z]; exact zwS_50 hS)
    exact this
  · have := h (tF S 50 e) (by rw [if_neg (fun y => y z), if_neg (by omega), z]; exact zwS_50 hS)
    exact this
  · have := h (tF S 50 (-5)) (by rw [if_neg (fun y => y z), if_pos (by omega)]; exact zwS_50 hS)
    exact this
theorem zwl_step {α : Type} {one : α → List Int32 → Int32 × List Int32} {q : α} {t : List α} {out o1 : List Int32} {e1 e : Int32} (h : one q out = (e1, o1)) (he : e = (if e1 ≠ 0 then e1 else if 240 < o1.length then -5 else 0)) : zwL one (q :: t) out = if e ≠ 0 then (e, o1) else zwL one t o1 := by
  rw [zwL, h]
  simp only
  by_cases z : e1 ≠ 0
  · rw [if_pos z] at he; subst he; rw [if_pos z, if_pos z]
  · rw [if_neg z] at he ⊢
    by_cases z2 : 240 < o1.length
    · rw [if_pos z2] at he ⊢; subst he; rw [if_pos (by decide)]
    · rw [if_neg z2] at he ⊢; subst he; rw [if_neg (fun y => y rfl)]
/-- a brace without branches -/
theorem t_leaf {P : (Unit → zM → Prop) → Nat → Int32 → Int32 → Int32 → zM → Prop} {post : Unit → zM → Prop} {p : Nat} {pa : Int32} {pl : Bool} {q : zLf} {out : List Int32} {pq : Int32 × Nat} (hT : tok D o A) (hC : zcx D I S0 j l n nc th cs hi) (hw : zwfF pl q) (hA : zAt S0 j p (zlL q)) (hb : zin1 (zlL q)) (hp : p + (zlL q).length ≤ n)
    (hS : zwS S0 S 0 out) (ho : out.length ≤ 240) (h : ∀ S', zwS S0 S' (zwF l th pq q out).1 (zwF l th pq q out).2 → post () (tm o A S' I)) : wp_X9_writesBrace D P post o (nI j) (nI p) pa (tm o A S I) := by
  have hCS := zcx_s hC hS.1
  obtain ⟨-, -, hl, hl2, hj, -, hn, hth, -⟩ := hCS
  have hA' : zAt S j p (zlL q) := zAt_s (hS.1.2.1 10 (by decide)) hA
  have h48 := hS.2.1
  have sub65 : ∀ a : Nat, a < 5 → nI (65 + a) - 65 = nI a := fun a ha => by rw [show (65 : Int32) = nI 65 from rfl, nI_sub (by omega), Nat.add_sub_cancel_left]
  -- the end with a fault
  have bad : ∀ (x5 : Int32) (a : Nat), zwF l th pq q out = (-20 - nI a, out) → wp_X9_writesBrace_L116 D P post o (nI j) (nI p) pa (nI a) x5 0 (tm o A S I) := fun x5 a he => by
    unfold wp_X9_writesBrace_L116 wp_X9_writesBrace_L309
    refine ⟨fun z => absurd rfl z, fun _ => ?_⟩
    rw [tp hT (by decide) rfl]
    refine h _ ?_
    rw [he]; exact zwS_50 hS
  match q, hw, hA', hb, hp, h, bad with
  | (0, c, r), hw, _, hb, _, _, _ => obtain ⟨m, e, -⟩ := hb; exact absurd (List.cons.inj e).1 (zsg_ok hw).1
  | (1, c, r), _, _, hb, _, _, _ => obtain ⟨m, e, -⟩ := hb; exact absurd (List.cons.inj e).1 (by decide)
  | (2, c, a, r), ha, hA, _, hp, h, bad =>
    replace ha : a < 5 := ha
    obtain ⟨-, hA1⟩ := zAt_c (show zAt S j p (123 :: [nI (65 + a), 125]) from hA)
    obtain ⟨h1, hA2⟩ := zAt_c hA1
    obtain ⟨h2, -⟩ := zAt_c hA2
    rw [show 120 * j + (p + 1) = 120 * j + p + 1 by omega] at h1
    rw [show 120 * j + (p + 1 + 1) = 120 * j + p + 2 by omega] at h2
    have hp3 : p + 3 ≤ n := hp
    obtain ⟨t1, t2, t3, t4, t5, t6, t7⟩ := hth a ha
    unfold wp_X9_writesBrace
    simp (disch := first | decide | omega) only [tgI, tgR, tzd, taI hT, tsI hT, tp hT, tF_s, tF_n, tA_F, tF_A, tA_s, tA_n, tA_R, tsz, m8, m5, m6, m10, m30, m120, nI_1, nI_add, clT, vinT, true_and, updS, updN, if_true, nI_2, h1, h2, sub65 a ha]
    refine ⟨fun _ => ⟨fun z => absurd z (by decide), fun _ => ⟨fun _ => ⟨fun _ => ?_, fun z => absurd z (by decide)⟩, fun z => absurd z (by decide)⟩⟩, fun z => absurd z (by decide)⟩
    unfold wp_X9_writesBrace_L74
    simp (disch := first | decide | omega) only [tgI, tgR, tzd, taI hT, tsI hT, tp hT, tF_s, tF_n, tA_F, tF_A, tA_s, tA_n, tA_R, tsz, m8, m5, m6, m10, m30, m120, nI_1, nI_add, clT, vinT, true_and, updS, updN, if_true, t1]
    refine ⟨fun z => absurd trivial z, fun _ => ?_⟩
    rw [show nI (th a).1 = 0 ↔ (th a).1 = 0 by rw [show (0 : Int32) = nI 0 from rfl, nI_eq (by omega) (by decide)]]
    refine ifc (fun z => bad _ a (by show (if (th a).1 = 0 then _ else _) = _; rw [if_pos z])) (fun z => ?_)
    unfold wp_X9_writesBrace_L116 wp_X9_writesBrace_L149 wp_X9_writesBrace_L309
    refine ⟨fun _ => ⟨fun _ => ⟨tis _ (by decide), t_writesPlainly hT (zcx_s hC hS.1) h48 (by omega) ha z (h _ ?_)⟩, fun y => absurd rfl y⟩, fun y => absurd y (by decide)⟩
    rw [show zwF l th pq (2, c, a, r) out = (0, out ++ ztx l (th a)) from if_neg z]
    exact zwS_tw hS
  | (3, c, a, r), ha, hA, _, hp, h, bad =>
    replace ha : a < 5 := ha
    obtain ⟨-, hA1⟩ := zAt_c (show zAt S j p (123 :: [nI (65 + a), 108, 125]) from hA)
    obtain ⟨h1, hA2⟩ := zAt_c hA1
    obtain ⟨h2, -⟩ := zAt_c hA2
    rw [show 120 * j + (p + 1) = 120 * j + p + 1 by omega] at h1
    rw [show 120 * j + (p + 1 + 1) = 120 * j + p + 2 by omega] at h2
    have hp3 : p + 4 ≤ n := hp
    obtain ⟨t1, t2, t3, t4, t5, t6, t7⟩ := hth a ha
    unfold wp_X9_writesBrace
    simp (disch := first | decide | omega) only [tgI, tgR, tzd, taI hT, tsI hT, tp hT, tF_s, tF_n, tA_F, tF_A, tA_s, tA_n, tA_R, tsz, m8, m5, m6, m10, m30, m120, nI_1, nI_add, clT, vinT, true_and, updS, updN, if_true, nI_2, h1, h2, sub65 a ha]
    refine ⟨fun z => absurd trivial z, fun _ => ?_⟩
    unfold wp_X9_writesBrace_L74
    simp (disch := first | decide | omega) only [tgI, tgR, tzd, taI hT, tsI hT, tp hT, tF_s, tF_n, tA_F, tF_A, tA_s, tA_n, tA_R, tsz, m8, m5, m6, m10, m30, m120, nI_1, nI_add, clT, vinT, true_and, updS, updN, if_true, t1]
    refine ⟨fun _ => ?_, fun z => absurd z (by decide)⟩
    rw [show nI (th a).1 = 3 ↔ (th a).1 = 3 by rw [show (3 : Int32) = nI 3 from rfl, nI_eq (by omega) (by decide)]]
    refine ifn (fun z => ?_) (fun z => bad _ a (by show (if (th a).1 = 3 then _ else _) = _; rw [if_neg z]))
    unfold wp_X9_writesBrace_L116 wp_X9_writesBrace_L149 wp_X9_writesBrace_L309
    refine ⟨fun _ => ⟨fun y => absurd y (by decide), fun _ => ⟨fun y => absurd rfl y, fun _ => ⟨tis _ (by decide), t_writesPlainly hT (zcx_s hC hS.1) h48 (by omega) ha (by omega) (h _ ?_)⟩⟩⟩, fun y => absurd y (by decide)⟩
    rw [show zwF l th pq (3, c, a, r) out = (0, out ++ ztx l (th a)) from if_pos z]
    exact zwS_tw hS
  | (t + 4, c, a, g, w, e, m), hw, hA, _, hp, h, bad =>
    obtain ⟨ht, ha, hw1, hw4, he, hm⟩ := hw
    obtain ⟨-, hA1⟩ := zAt_c (show zAt S j p (123 :: nI (65 + a) :: 110 :: (zpl g w e m ++ [125])) from hA)
    obtain ⟨h1, hA2⟩ := zAt_c hA1
    obtain ⟨h2, hA3⟩ := zAt_c hA2
    rw [show 120 * j + (p + 1) = 120 * j + p + 1 by omega] at h1
    rw [show 120 * j + (p + 1 + 1) = 120 * j + p + 2 by omega] at h2
    have hpl : (zpl g w e m).length ≤ w + e + m + 2 ∧ w + e + m ≤ (zpl g w e m).length := by
      unfold zpl zrp
      simp only [List.length_append, List.length_replicate]
      constructor
      · split <;> split <;> simp <;> omega
      · split <;> split <;> simp <;> omega
    have hp3 : p + (1 + (1 + (1 + ((zpl g w e m).length + 1)))) ≤ n := by
      have : (zlL (t + 4, c, a, g, w, e, m)).length = (zpl g w e m).length + 1 + 1 + 1 + 1 := by
        show (123 :: nI (65 + a) :: 110 :: (zpl g w e m ++ [125])).length = _
        simp only [List.length_cons, List.length_append, List.length_nil]
      omega
    obtain ⟨t1, t2, t3, t4, t5, t6, t7⟩ := hth a ha
    unfold wp_X9_writesBrace
    simp (disch := first | decide | omega) only [tgI, tgR, tzd, taI hT, tsI hT, tp hT, tF_s, tF_n, tA_F, tF_A, tA_s, tA_n, tA_R, tsz, m8, m5, m6, m10, m30, m120, nI_1, nI_add, clT, vinT, true_and, updS, updN, if_true, nI_2, h1, h2, sub65 a ha]
    refine ⟨fun _ => ⟨fun _ => ?_, fun z => absurd trivial z⟩, fun z => absurd z (by decide)⟩
    unfold wp_X9_writesBrace_L58 wp_X9_writesBrace_L74
    simp (disch := first | decide | omega) only [tgI, tgR, tzd, taI hT, tsI hT, tp hT, tF_s, tF_n, tA_F, tF_A, tA_s, tA_n, tA_R, tsz, m8, m5, m6, m10, m30, m120, nI_1, nI_add, clT, vinT, true_and, updS, updN, if_true, t1]
    refine ⟨fun _ => ?_, fun z => absurd z (by decide)⟩
    rw [show nI (th a).1 = 1 ↔ (th a).1 = 1 by rw [show (1 : Int32) = nI 1 from rfl, nI_eq (by omega) (by decide)]]
    refine ifn (fun z => ?_) (fun z => bad _ a (by show (if (th a).1 = 1 then _ else _) = _; rw [if_neg z]))
    unfold wp_X9_writesBrace_L116 wp_X9_writesBrace_L309
    refine ⟨fun _ => ⟨fun y => absurd y (by decide), fun _ => ⟨fun _ => ⟨fun y => absurd rfl y, fun _ => ⟨tis _ (by decide), ?_⟩⟩, fun y => absurd y (by decide)⟩⟩, fun y => absurd y (by decide)⟩
    rw [nI_3]
    refine t_shapes hT hj hw1 hw4 he hm (by rw [show p + 3 = p + 1 + 1 + 1 from rfl]; exact hA3) ?_ fun S' hs h37 h38 h39 h40 => ?_
    · omega
    · have hS' := zwS_4 hS hs
      have e42 : S'.2.1 42 = S.2.1 42 := by rw [hs.2]
      have e43 : S'.2.1 43 = S.2.1 43 := by rw [hs.2]
      simp (disch := first | decide | omega) only [tgI, tgR, tzd, taI hT, tsI hT, tp hT, tF_s, tF_n, tA_F, tF_A, tA_s, tA_n, tA_R, tsz, m8, m5, m6, m10, m30, m120, nI_1, nI_add, clT, vinT, true_and, updS, updN, if_true, e42, e43, t2, t3]
      refine ⟨tis _ (by decide), t_writesShaped hT hS'.2.1 (by omega) (by rw [hs.1 49 (by decide) (by decide) (by decide) (by decide)]; exact hl) hl2 h37 h38 hw4 h39 h40 he (by omega) (by omega) t5 (h _ ?_)⟩
      rw [show zwF l th pq (t + 4, c, a, g, w, e, m) out = (0, out ++ zsh l (th a).2.1 (th a).2.2.1 g w e (e + m)) from if_pos z]
      exact zwS_tw hS'
end TM2
