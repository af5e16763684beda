/-! the twin's constructor -/
def tS0 : zTS := (fun _ => 0, fun _ _ => 0, fun _ => 0, fun _ => 0, fun _ => 0)
def tbk (k : Nat) : Value := if tkd k = 0 then .int 0 else .null
/-- as the twin is made: the fields that are set, their arrays' addresses -/
def zIn9 (D : zD) (M0 : zM) (o : Nat) (dn : List Nat) (A : Nat → Nat) (M : zM) : Prop :=
  (∃ fs : List Value, M o = some (.inr (8, fs)) ∧ fs.length = 56 ∧ ∀ j, j < 56 → fs[j]? = some (if j ∈ dn then .ref (A j) else tbk j)) ∧ (∀ j ∈ dn, j < 56 ∧ M (A j) = some (tcell tS0 j) ∧ A j ≠ o ∧ zB D ≤ A j ∧ M0 (A j) = none) ∧ (∀ i ∈ dn, ∀ j ∈ dn, A i = A j → i = j) ∧ zB D ≤ o ∧ ∀ a e, a ≠ o → M0 a = some e → M a = some e
theorem t_in1 {D : zD} {M0 M : zM} {o kd j sz : Nat} {x : Int32} {k n : Nat} {dn : List Nat} {A : Nat → Nat} {Φ : zM → Prop} (h : zIn9 D M0 o dn A M) (hx0 : ¬ x < 0) (hx : x.toNatClampNeg = sz) (hs : sz ≤ 1000) (hk : 1 ≤ k) (hn : sz ≤ n) (hj : j < 56) (hjd : j ∉ dn) (hc : tcell tS0 j = .inl (kd, zna kd sz))
    (hq : ∀ A' M', zIn9 D M0 o (j :: dn) A' M' → Φ M') : znewA D M kd x k n fun b M => zp D M o 8 j (.ref b) fun M => Φ M := by
  refine ⟨hx0, by omega, hk, by omega, fun b hb hzb => ?_⟩
  obtain ⟨⟨fs, h1, h2, h3⟩, h4, h5, h6, h7⟩ := h
  have hbo : b ≠ o := fun z => by rw [z, h1] at hb; cases hb
  have hM1 : zu M b (some (.inl (kd, zna kd x.toNatClampNeg))) o = some (.inr (8, fs)) := by rw [zu_n (fun z => hbo z.symm)]; exact h1
  obtain ⟨A', hA'⟩ : ∃ A' : Nat → Nat, A' = fun i => if i = j then b else A i := ⟨_, rfl⟩
  have e1 : A' j = b := by rw [hA']; exact if_pos rfl
  have e2 : ∀ i, i ≠ j → A' i = A i := fun i hi => by rw [hA']; exact if_neg hi
  refine cp hM1 h6 (by omega) (hq A' _ ⟨⟨fs.set j (.ref b), zu_s, by rw [List.length_set]; exact h2, fun i hi => ?_⟩, fun i hi => ?_, fun p hp q hq2 e => ?_, h6, fun a e ha hM => ?_⟩)
  · rw [List.getElem?_set]
    by_cases e : j = i
    · subst e; simp [h2, hj, e1]
    · rw [if_neg e, h3 i hi]
      have : ¬ i = j := fun z => e z.symm
      simp [this, e2 i this]
  · rcases List.mem_cons.mp hi with rfl | hi
    · rw [e1, zu_n hbo, zu_s, hx, hc]
      exact ⟨hj, rfl, hbo, hzb, by
        cases hm : M0 b with
        | none => rfl
        | some e => rw [h7 b e hbo hm] at hb; cases hb⟩
    · have hij : i ≠ j := fun z => hjd (z ▸ hi)
      obtain ⟨q0, q1, q2, q3, q4⟩ := h4 i hi
      have hbA : A i ≠ b := fun z => by rw [z, hb] at q1; cases q1
      rw [e2 i hij, zu_n q2, zu_n hbA]
      exact ⟨q0, q1, q2, q3, q4⟩
  · have hbA : ∀ i ∈ dn, A i ≠ b := fun i hi z => by have := (h4 i hi).2.1; rw [z, hb] at this; cases this
    rcases List.mem_cons.mp hp with hpj | hp <;> rcases List.mem_cons.mp hq2 with hqj | hq2
    · rw [hpj, hqj]
    · rw [hpj, e1, e2 q (fun z => hjd (z ▸ hq2))] at e; exact absurd e.symm (hbA _ hq2)
    · rw [hqj, e1, e2 p (fun z => hjd (z ▸ hp))] at e; exact absurd e (hbA _ hp)
    · rw [e2 p (fun z => hjd (z ▸ hp)), e2 q (fun z => hjd (z ▸ hq2))] at e; exact h5 _ hp _ hq2 e
  · have hm := h7 a e ha hM
    have hba : a ≠ b := fun z => by rw [z, hb] at hm; cases hm
    rw [zu_n ha, zu_n hba]; exact hm
theorem tm_self {D : zD} {o : Nat} {A : Nat → Nat} {S : zTS} {M : zM} (h : tok D o A) (h1 : M o = some (.inr (8, tfs A S))) (h2 : ∀ k, tarr k → M (A k) = some (tcell S k)) : M = tm o A S M := by
  funext a
  by_cases e : a = o
  · subst e; rw [tm_o, h1]
  · by_cases e2 : ∃ k, tarr k ∧ a = A k
    · obtain ⟨k, hk, rfl⟩ := e2
      rw [tm_a h hk, h2 k hk]
    · rw [tm_i e (fun k hk z => e2 ⟨k, hk, z⟩)]
def tS1 : zTS := tA (tA (tA (tA (tA (tA (tA tS0 51 0 (-1)) 51 1 (-1)) 51 2 (-1)) 9 0 (-1)) 9 1 (-1)) 9 2 (-1)) 9 3 (-1)
theorem t_init {D : zD} {o : Nat} {post : Unit → zM → Prop} {k n : Nat} {M : zM} {fs : List Value} (hM : M o = some (.inr (8, fs))) (hl : fs.length = 56) (hfs : ∀ j, j < 56 → fs[j]? = some (tbk j)) (hb : zB D ≤ o) (hk : 50 ≤ k) (hn : 4000 ≤ n)
    (hpost : ∀ A M', tok D o A → (∀ a e, a ≠ o → M a = some e → M' a = some e) → (∀ j, tarr j → M (A j) = none) → post () (tm o A tS1 M')) : wp_X9_init D post k n o M := by
  unfold wp_X9_init
  simp only [show (3 : Int32).toNatClampNeg = 3 from by decide, show (4 : Int32).toNatClampNeg = 4 from by decide, show (5 : Int32).toNatClampNeg = 5 from by decide, show (8 : Int32).toNatClampNeg = 8 from by decide, show (12 : Int32).toNatClampNeg = 12 from by decide, show (20 : Int32).toNatClampNeg = 20 from by decide, show (30 : Int32).toNatClampNeg = 30 from by decide, show (32 : Int32).toNatClampNeg = 32 from by decide, show (80 : Int32).toNatClampNeg = 80 from by decide, show (90 : Int32).toNatClampNeg = 90 from by decide, show (120 : Int32).toNatClampNeg = 120 from by decide, show (240 : Int32).toNatClampNeg = 240 from by decide, show (320 : Int32).toNatClampNeg = 320 from by decide, show (480 : Int32).toNatClampNeg = 480 from by decide, show (600 : Int32).toNatClampNeg = 600 from by decide]
  have h : zIn9 D M o [] (fun _ => 0) M := ⟨⟨fs, hM, hl, fun j hj => by rw [hfs j hj]; simp⟩, (fun j hj => absurd hj List.not_mem_nil), (fun i hi => absurd hi List.not_mem_nil), hb, fun a e _ h => h⟩
  refine t_in1 (j := 1) (sz := 12) h (by decide) (by decide) (by decide) (by omega) (by omega) (by decide) (by decide) rfl fun A M h => ?_
  refine t_in1 (j := 2) (sz := 12) h (by decide) (by decide) (by decide) (by omega) (by omega) (by decide) (by decide) rfl fun A M h => ?_
  refine t_in1 (j := 3) (sz := 12) h (by decide) (by decide) (by decide) (by omega) (by omega) (by decide) (by decide) rfl fun A M h => ?_
  refine t_in1 (j := 4) (sz := 12) h (by decide) (by decide) (by decide) (by omega) (by omega) (by decide) (by decide) rfl fun A M h => ?_
  refine t_in1 (j := 5) (sz := 12) h (by decide) (by decide) (by decide) (by omega) (by omega) (by decide) (by decide) rfl fun A M h => ?_
  refine t_in1 (j := 6) (sz := 12) h (by decide) (by decide) (by decide) (by omega) (by omega) (by decide) (by decide) rfl fun A M h => ?_
  refine t_in1 (j := 7) (sz := 120) h (by decide) (by decide) (by decide) (by omega) (by omega) (by decide) (by decide) rfl fun A M h => ?_
  refine t_in1 (j := 9) (sz := 4) h (by decide) (by decide) (by decide) (by omega) (by omega) (by decide) (by decide) rfl fun A M h => ?_
  refine t_in1 (j := 10) (sz := 480) h (by decide) (by decide) (by decide) (by omega) (by omega) (by decide) (by decide) rfl fun A M h => ?_
  refine t_in1 (j := 11) (sz := 4) h (by decide) (by decide) (by decide) (by omega) (by omega) (by decide) (by decide) rfl fun A M h => ?_
  refine t_in1 (j := 12) (sz := 4) h (by decide) (by decide) (by decide) (by omega) (by omega) (by decide) (by decide) rfl fun A M h => ?_
  refine t_in1 (j := 13) (sz := 4) h (by decide) (by decide) (by decide) (by omega) (by omega) (by decide) (by decide) rfl fun A M h => ?_
  refine t_in1 (j := 14) (sz := 4) h (by decide) (by decide) (by decide) (by omega) (by omega) (by decide) (by decide) rfl fun A M h => ?_
  refine t_in1 (j := 15) (sz := 20) h (by decide) (by decide) (by decide) (by omega) (by omega) (by decide) (by decide) rfl fun A M h => ?_
  refine t_in1 (j := 16) (sz := 32) h (by decide) (by decide) (by decide) (by omega) (by omega) (by decide) (by decide) rfl fun A M h => ?_
  refine t_in1 (j := 17) (sz := 32) h (by decide) (by decide) (by decide) (by omega) (by omega) (by decide) (by decide) rfl fun A M h => ?_
  refine t_in1 (j := 18) (sz := 32) h (by decide) (by decide) (by decide) (by omega) (by omega) (by decide) (by decide) rfl fun A M h => ?_
  refine t_in1 (j := 19) (sz := 32) h (by decide) (by decide) (by decide) (by omega) (by omega) (by decide) (by decide) rfl fun A M h => ?_
  refine t_in1 (j := 20) (sz := 320) h (by decide) (by decide) (by decide) (by omega) (by omega) (by decide) (by decide) rfl fun A M h => ?_
  refine t_in1 (j := 21) (sz := 320) h (by decide) (by decide) (by decide) (by omega) (by omega) (by decide) (by decide) rfl fun A M h => ?_
  refine t_in1 (j := 22) (sz := 32) h (by decide) (by decide) (by decide) (by omega) (by omega) (by decide) (by decide) rfl fun A M h => ?_
  refine t_in1 (j := 29) (sz := 5) h (by decide) (by decide) (by decide) (by omega) (by omega) (by decide) (by decide) rfl fun A M h => ?_
  refine t_in1 (j := 30) (sz := 8) h (by decide) (by decide) (by decide) (by omega) (by omega) (by decide) (by decide) rfl fun A M h => ?_
  refine t_in1 (j := 31) (sz := 8) h (by decide) (by decide) (by decide) (by omega) (by omega) (by decide) (by decide) rfl fun A M h => ?_
  refine t_in1 (j := 32) (sz := 8) h (by decide) (by decide) (by decide) (by omega) (by omega) (by decide) (by decide) rfl fun A M h => ?_
  refine t_in1 (j := 33) (sz := 8) h (by decide) (by decide) (by decide) (by omega) (by omega) (by decide) (by decide) rfl fun A M h => ?_
  refine t_in1 (j := 34) (sz := 80) h (by decide) (by decide) (by decide) (by omega) (by omega) (by decide) (by decide) rfl fun A M h => ?_
  refine t_in1 (j := 35) (sz := 80) h (by decide) (by decide) (by decide) (by omega) (by omega) (by decide) (by decide) rfl fun A M h => ?_
  refine t_in1 (j := 36) (sz := 8) h (by decide) (by decide) (by decide) (by omega) (by omega) (by decide) (by decide) rfl fun A M h => ?_
  refine t_in1 (j := 41) (sz := 5) h (by decide) (by decide) (by decide) (by omega) (by omega) (by decide) (by decide) rfl fun A M h => ?_
  refine t_in1 (j := 42) (sz := 5) h (by decide) (by decide) (by decide) (by omega) (by omega) (by decide) (by decide) rfl fun A M h => ?_
  refine t_in1 (j := 43) (sz := 5) h (by decide) (by decide) (by decide) (by omega) (by omega) (by decide) (by decide) rfl fun A M h => ?_
  refine t_in1 (j := 44) (sz := 30) h (by decide) (by decide) (by decide) (by omega) (by omega) (by decide) (by decide) rfl fun A M h => ?_
  refine t_in1 (j := 45) (sz := 240) h (by decide) (by decide) (by decide) (by omega) (by omega) (by decide) (by decide) rfl fun A M h => ?_
  refine t_in1 (j := 47) (sz := 600) h (by decide) (by decide) (by decide) (by omega) (by omega) (by decide) (by decide) rfl fun A M h => ?_
  refine t_in1 (j := 51) (sz := 3) h (by decide) (by decide) (by decide) (by omega) (by omega) (by decide) (by decide) rfl fun A M h => ?_
  refine t_in1 (j := 52) (sz := 3) h (by decide) (by decide) (by decide) (by omega) (by omega) (by decide) (by decide) rfl fun A M h => ?_
  refine t_in1 (j := 53) (sz := 90) h (by decide) (by decide) (by decide) (by omega) (by omega) (by decide) (by decide) rfl fun A M h => ?_
  refine t_in1 (j := 54) (sz := 90) h (by decide) (by decide) (by decide) (by omega) (by omega) (by decide) (by decide) rfl fun A M h => ?_
  refine t_in1 (j := 55) (sz := 90) h (by decide) (by decide) (by decide) (by omega) (by omega) (by decide) (by decide) rfl fun A M h => ?_
  have hin : ∀ j, tarr j → j ∈ ([55, 54, 53, 52, 51, 47, 45, 44, 43, 42, 41, 36, 35, 34, 33, 32, 31, 30, 29, 22, 21, 20, 19, 18, 17, 16, 15, 14, 13, 12, 11, 10, 9, 7, 6, 5, 4, 3, 2, 1] : List Nat) := by
    intro j hj
    have h1 : ∀ j : Fin 56, tkd j.val ≠ 0 → j.val ∈ ([55, 54, 53, 52, 51, 47, 45, 44, 43, 42, 41, 36, 35, 34, 33, 32, 31, 30, 29, 22, 21, 20, 19, 18, 17, 16, 15, 14, 13, 12, 11, 10, 9, 7, 6, 5, 4, 3, 2, 1] : List Nat) := by decide
    exact h1 ⟨j, hj.1⟩ hj.2
  have hin0 : ∀ j, tkd j = 0 → j ∉ ([55, 54, 53, 52, 51, 47, 45, 44, 43, 42, 41, 36, 35, 34, 33, 32, 31, 30, 29, 22, 21, 20, 19, 18, 17, 16, 15, 14, 13, 12, 11, 10, 9, 7, 6, 5, 4, 3, 2, 1] : List Nat) := by
    intro j hj hm
    have h1 : ∀ i ∈ ([55, 54, 53, 52, 51, 47, 45, 44, 43, 42, 41, 36, 35, 34, 33, 32, 31, 30, 29, 22, 21, 20, 19, 18, 17, 16, 15, 14, 13, 12, 11, 10, 9, 7, 6, 5, 4, 3, 2, 1] : List Nat), tkd i ≠ 0 := by decide
    exact h1 j hm hj
  obtain ⟨⟨gs, g1, g2, g3⟩, g4, g5, g6, g7⟩ := h
  have hT : tok D o A := ⟨fun j hj => (g4 j (hin j hj)).2.2.1, fun i j hi hj e => g5 i (hin i hi) j (hin j hj) e, hb, fun j hj => (g4 j (hin j hj)).2.2.2.1⟩
  have hgs : gs = tfs A tS0 := by
    apply List.ext_getElem?
    intro j
    by_cases hj : j < 56
    · rw [g3 j hj, tfs_at hj]
      by_cases hz : tkd j = 0
      · rw [if_neg (hin0 j hz), if_pos hz]; unfold tbk; rw [if_pos hz]; rfl
      · rw [if_pos (hin j ⟨hj, hz⟩), if_neg hz]
    · rw [List.getElem?_eq_none (by omega), List.getElem?_eq_none (by simp [tfs]; omega)]
  have hMM := tm_self (S := tS0) hT (by rw [g1, hgs]) (fun j hj => (g4 j (hin j hj)).2.1)
  have hp := hpost A M hT g7 (fun j hj => (g4 j (hin j hj)).2.2.2.2)
  generalize hMx : tm o A tS0 M = Mx at hMM
  subst hMM
  rw [← hMx]
  have hp' : post () (tm o A tS1 M) := hp
  clear hMx
  refine ⟨4, ?_⟩
  show wp_X9_init_L320 D post o 4 _ _ (nI 0) _
  unfold wp_X9_init_L320
  refine ⟨fun z => absurd z (by decide), fun _ => ?_⟩
  simp (disch := first | decide | omega) only [tgI, tgR, tzd, taI hT, tsI hT, tp hT, tF_s, tF_n, tA_F, tF_A, tA_s, tA_n, tA_R, tsz, m8, m5, m6, m10, m30, m120, nI_1, nI_add, clT, vinT, true_and, updS, updN, if_true]
  show wp_X9_init_L320 D post o 3 _ _ (nI 1) _
  unfold wp_X9_init_L320
  refine ⟨fun z => absurd z (by decide), fun _ => ?_⟩
  simp (disch := first | decide | omega) only [tgI, tgR, tzd, taI hT, tsI hT, tp hT, tF_s, tF_n, tA_F, tF_A, tA_s, tA_n, tA_R, tsz, m8, m5, m6, m10, m30, m120, nI_1, nI_add, clT, vinT, true_and, updS, updN, if_true]
  show wp_X9_init_L320 D post o 2 _ _ (nI 2) _
  unfold wp_X9_init_L320
  refine ⟨fun z => absurd z (by decide), fun _ => ?_⟩
  simp (disch := first | decide | omega) only [tgI, tgR, tzd, taI hT, tsI hT, tp hT, tF_s, tF_n, tA_F, tF_A, tA_s, tA_n, tA_R, tsz, m8, m5, m6, m10, m30, m120, nI_1, nI_add, clT, vinT, true_and, updS, updN, if_true]
  show wp_X9_init_L320 D post o 1 _ _ (nI 3) _
  unfold wp_X9_init_L320
  refine ⟨fun _ => ⟨5, ?_⟩, fun z => absurd (by decide) z⟩
  show wp_X9_init_L340 D post o 5 _ _ (nI 0) _
  unfold wp_X9_init_L340
  refine ⟨fun z => absurd z (by decide), fun _ => ?_⟩
  simp (disch := first | decide | omega) only [tgI, tgR, tzd, taI hT, tsI hT, tp hT, tF_s, tF_n, tA_F, tF_A, tA_s, tA_n, tA_R, tsz, m8, m5, m6, m10, m30, m120, nI_1, nI_add, clT, vinT, true_and, updS, updN, if_true]
  show wp_X9_init_L340 D post o 4 _ _ (nI 1) _
  unfold wp_X9_init_L340
  refine ⟨fun z => absurd z (by decide), fun _ => ?_⟩
  simp (disch := first | decide | omega) only [tgI, tgR, tzd, taI hT, tsI hT, tp hT, tF_s, tF_n, tA_F, tF_A, tA_s, tA_n, tA_R, tsz, m8, m5, m6, m10, m30, m120, nI_1, nI_add, clT, vinT, true_and, updS, updN, if_true]
  show wp_X9_init_L340 D post o 3 _ _ (nI 2) _
  unfold wp_X9_init_L340
  refine ⟨fun z => absurd z (by decide), fun _ => ?_⟩
  simp (disch := first | decide | omega) only [tgI, tgR, tzd, taI hT, tsI hT, tp hT, tF_s, tF_n, tA_F, tF_A, tA_s, tA_n, tA_R, tsz, m8, m5, m6, m10, m30, m120, nI_1, nI_add, clT, vinT, true_and, updS, updN, if_true]
  show wp_X9_init_L340 D post o 2 _ _ (nI 3) _
  unfold wp_X9_init_L340
  refine ⟨fun z => absurd z (by decide), fun _ => ?_⟩
  simp (disch := first | decide | omega) only [tgI, tgR, tzd, taI hT, tsI hT, tp hT, tF_s, tF_n, tA_F, tF_A, tA_s, tA_n, tA_R, tsz, m8, m5, m6, m10, m30, m120, nI_1, nI_add, clT, vinT, true_and, updS, updN, if_true]
  show wp_X9_init_L340 D post o 1 _ _ (nI 4) _
  unfold wp_X9_init_L340
  exact ⟨fun _ => hp', fun z => absurd (by decide) z⟩
