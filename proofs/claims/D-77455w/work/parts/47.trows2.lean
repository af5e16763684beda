/-! the twin's rows: remains, take, count, out -/
section TR2
variable {D : zD} {o : Nat} {A : Nat → Nat} {S : zTS} {I : zM}
def zrmF (x y : UInt32) : Int64 := if Op.cmpValue (FP.fcmp y FP.fconst0) .l = 0 then -9223372036854775808 else FP.f2l (FP.fmul (FP.frem x y) (1148846080 : UInt32))
def zrmD (x y : UInt64) : Int64 := if Op.cmpValue (FP.dcmp y FP.dconst0) .l = 0 then -9223372036854775808 else FP.d2l (FP.dmul (FP.drem x y) (4652007308841189376 : UInt64))
def zrmL (x y : Int64) : Int64 := if y = 0 then -9223372036854775808 else x - x / y * y
theorem t_remains {post : Int64 → zM → Prop} {r i j : Int32} (hT : tok D o A) (hW : zRw S) (hF : zFw S) (h1 : zb r 3 = false → post (-9223372036854775808) (tm o A S I)) (h2 : ∀ q, q < 3 → r = nI q → (zit S q i && zit S q j) = false → post (-9223372036854775808) (tm o A S I))
    (h4 : ∀ q n s x y : Nat, q < 3 → r = nI q → n ≤ 30 → s ≤ 2 → S.2.1 51 q = nI n → S.2.1 52 q = nI s → x < n → i = nI x → y < n → j = nI y →
      post (if s = 0 then zrmF (S.2.2.1 (30 * q + x)) (S.2.2.1 (30 * q + y)) else if s = 1 then zrmD (S.2.2.2.1 (30 * q + x)) (S.2.2.2.1 (30 * q + y)) else zrmL (S.2.2.2.2 (30 * q + x)) (S.2.2.2.2 (30 * q + y))) (tm o A S I)) : wp_X9_remains D post o r i j (tm o A S I) := by
  unfold wp_X9_remains wp_X9_remains_L25 wp_X9_remains_L187 wp_X9_remains_L114 wp_X9_remains_L153
  refine t_isRow (ifb' (fun e1 => ?_) (fun e1 => h1 e1))
  obtain ⟨q, hq, rfl⟩ := zb_of e1 (by decide)
  refine ⟨tis _ (by decide), t_isThere hT hq (ifb' (fun e2 => ⟨tis _ (by decide), t_isThere hT hq (ifb (fun e3 => ?_) (fun e3 => h2 q hq rfl (by rw [e3, Bool.and_false])))⟩) (fun e2 => h2 q hq rfl (by rw [e2]; rfl)))⟩
  obtain ⟨n, s, x, hn, hs, h5, h6, hx, rfl⟩ := zit_t hW hq e2
  rw [zit_n h5 (by omega)] at e3
  obtain ⟨y, hy, rfl⟩ := zb_of e3 (by omega)
  have h := h4 q n s x y hq rfl hn hs h5 h6 hx rfl hy rfl
  have hX := hF (30 * q + x) (by omega)
  have hY := hF (30 * q + y) (by omega)
  simp (disch := first | decide | omega) only [tgI, tgR, tzd, taI hT, tsI hT, tp hT, tF_s, tF_n, tA_F, tF_A, tA_s, tA_n, tA_R, tsz, m8, m5, m6, m10, m30, m120, nI_1, nI_add, clT, vinT, true_and, updS, updN, if_true, taF hT, taD hT, taL hT, h6, lgc_eq]
  have h9 : s = 0 ∨ s = 1 ∨ s = 2 := by omega
  rcases h9 with rfl | rfl | rfl
  · rw [if_pos rfl] at h
    unfold zrmF at h
    refine ⟨fun _ => ifn (fun z => ?_) (fun z => ⟨(zfr32 hX.1 hY.1 z).1, (zfr32 hX.1 hY.1 z).2, ?_⟩), fun z => absurd z (by decide), fun z => absurd rfl z.1⟩
    · rw [if_pos z] at h; exact h
    · rw [if_neg z] at h; exact h
  · rw [if_neg (by decide), if_pos rfl] at h
    unfold zrmD at h
    refine ⟨fun z => absurd z (by decide), fun _ => ifn (fun z => ?_) (fun z => ⟨(zfr64 hX.2 hY.2 z).1, (zfr64 hX.2 hY.2 z).2, ?_⟩), fun z => absurd rfl z.2⟩
    · rw [if_pos z] at h; exact h
    · rw [if_neg z] at h; exact h
  · rw [if_neg (by decide), if_neg (by decide)] at h
    unfold zrmL at h
    refine ⟨fun z => absurd z (by decide), fun z => absurd z (by decide), fun _ => ifn (fun z => ?_) (fun z => ⟨z, ?_⟩)⟩
    · rw [if_pos z] at h; exact h
    · rw [if_neg z] at h; exact h
/-- what is taken of a double times ten to a power: none, or an int -/
def ztk (y : UInt64) (k : Nat) : Option Int32 :=
  let v := zrint (FP.dmul y (FP.l2d (lN (10 ^ k))))
  if (Op.cmpValue (FP.dcmp v (13970166044105375744 : UInt64)) .l) ≤ 0 then none else if (Op.cmpValue (FP.dcmp v (4746794007248502784 : UInt64)) .g) < 0 then some (FP.d2i v) else none
def ztkL (y : Int64) (k : Nat) : Option Int32 := if y * lN (10 ^ k) = (y * lN (10 ^ k)).toInt32.toInt64 then some (y * lN (10 ^ k)).toInt32 else none
theorem t_takeL {post : Int32 → zM → Prop} {a k : Nat} {y : UInt64} (hT : tok D o A) (ha : a < 5) (hk : k ≤ 6) (hy : vf_n64 y) (h1 : ztk y k = none → post (-4) (tm o A S I)) (h2 : ∀ v, ztk y k = some v → post 1 (tm o A (thn S a 1 v (nI k)) I)) : wp_X9_take_L137 D post o (nI a) (nI k) y (tm o A S I) := by
  unfold wp_X9_take_L137 wp_X9_take_L171
  have hf := zft hy hk
  unfold ztk at h1 h2
  refine t_tens (by omega) ⟨hf.1, hf.2, fun z => h1 (by simp only; rw [if_pos z]), fun z => ⟨fun z2 => ⟨tis _ (by decide), t_holdsNow hT ha (h2 _ (by simp only; rw [if_neg z, if_pos z2]))⟩, fun z2 => h1 (by simp only; rw [if_neg z, if_neg z2])⟩⟩
theorem t_take {post : Int32 → zM → Prop} {a r i k : Int32} (hT : tok D o A) (hW : zRw S) (hF : zFw S) (h1 : (zb a 5 && (zb r 3 && zb k 7)) = false → post (-1) (tm o A S I)) (h2 : ∀ q, q < 3 → r = nI q → zb a 5 = true → zb k 7 = true → S.2.1 51 q = -1 → post (-11) (tm o A S I))
    (h3 : ∀ q n, q < 3 → r = nI q → zb a 5 = true → zb k 7 = true → S.2.1 51 q = nI n → zb i n = false → post (-12) (tm o A S I))
    (h4 : ∀ c q n s x e : Nat, c < 5 → a = nI c → q < 3 → r = nI q → n ≤ 30 → s ≤ 2 → S.2.1 51 q = nI n → S.2.1 52 q = nI s → x < n → i = nI x → e < 7 → k = nI e → ∀ v, v = (if s = 0 then ztk (FP.f2d (S.2.2.1 (30 * q + x))) e else if s = 1 then ztk (S.2.2.2.1 (30 * q + x)) e else ztkL (S.2.2.2.2 (30 * q + x)) e) →
      (v = none → post (-4) (tm o A S I)) ∧ (∀ w, v = some w → post 1 (tm o A (thn S c 1 w (nI e)) I))) : wp_X9_take D post o a r i k (tm o A S I) := by
  unfold wp_X9_take wp_X9_take_L27
  refine t_isArgument (ifb' (fun e1 => t_isRow (ifb' (fun e2 => t_in ?_) (fun e2 => h1 (by rw [e2, Bool.false_and, Bool.and_false])))) (fun e1 => h1 (by rw [e1]; rfl)))
  rw [zin_b (n := 7) (by decide)]
  refine ifb (fun e3 => ?_) (fun e3 => h1 (by rw [e3, Bool.and_false, Bool.and_false]))
  obtain ⟨q, hq, rfl⟩ := zb_of e2 (by decide)
  simp (disch := first | decide | omega) only [tgI, tgR, tzd, taI hT, tsI hT, tp hT, tF_s, tF_n, tA_F, tF_A, tA_s, tA_n, tA_R, tsz, m8, m5, m6, m10, m30, m120, nI_1, nI_add, clT, vinT, true_and, updS, updN, if_true]
  rcases hW q hq with h5 | ⟨n, s, hn, hs, h5, h6⟩
  · rw [h5]
    exact ⟨fun z => absurd z (by decide), fun _ => h2 q hq rfl e1 e3 h5⟩
  · rw [h5]
    refine ⟨fun _ => ⟨tis _ (by decide), t_isThere hT hq (ifb (fun e4 => ?_) (fun e4 => ?_))⟩, fun z => absurd (nI_pos' (by omega)) z⟩
    · rw [zit_n h5 (by omega)] at e4
      obtain ⟨c, hc, rfl⟩ := zb_of e1 (by decide)
      obtain ⟨e, he, rfl⟩ := zb_of e3 (by decide)
      obtain ⟨x, hx, rfl⟩ := zb_of e4 (by omega)
      have h := h4 c q n s x e hc rfl hq rfl hn hs h5 h6 hx rfl he rfl _ rfl
      have hX := hF (30 * q + x) (by omega)
      simp (disch := first | decide | omega) only [tgI, tgR, tzd, taI hT, tsI hT, tp hT, tF_s, tF_n, tA_F, tF_A, tA_s, tA_n, tA_R, tsz, m8, m5, m6, m10, m30, m120, nI_1, nI_add, clT, vinT, true_and, updS, updN, if_true, taF hT, taD hT, taL hT, h6]
      have h9 : s = 0 ∨ s = 1 ∨ s = 2 := by omega
      rcases h9 with rfl | rfl | rfl
      · rw [if_pos rfl] at h
        have hv := zon64 (zfD hX.1).1
        exact ⟨fun _ => ⟨fun z => absurd rfl z, fun _ => ⟨hv, t_takeL hT hc (by omega) hv h.1 h.2⟩⟩, fun z => absurd z (by decide)⟩
      · rw [if_neg (by decide), if_pos rfl] at h
        exact ⟨fun _ => ⟨fun _ => t_takeL hT hc (by omega) (zon64 hX.2) h.1 h.2, fun z => absurd z (by decide)⟩, fun z => absurd z (by decide)⟩
      · rw [if_neg (by decide), if_neg (by decide)] at h
        unfold ztkL at h
        refine ⟨fun z => absurd rfl z, fun _ => t_tens (by omega) (t_isInt (ifb (fun e5 => ⟨tis _ (by decide), t_holdsNow hT hc (h.2 _ ?_)⟩) (fun e5 => h.1 ?_)))⟩
        · rw [if_pos (of_decide_eq_true e5)]
        · rw [if_neg (of_decide_eq_false e5)]
    · rw [zit_n h5 (by omega)] at e4
      exact h3 q n hq rfl e1 e3 h5 e4
def zcn1 (f : Nat → Int32) (p : Int32 → Bool) : Nat → Int32
  | 0 => 0
  | n + 1 => zcn1 f p n ||| (if p (f n) then ((1 : Int32) <<< (nI n &&& 31)) else 0)
def zcn2 (f : Nat → Int32) (p : Int32 → Bool) : Nat → Int32
  | 0 => 0
  | n + 1 => zcn2 f p n + (if p (f n) then 1 else 0)
theorem t_count {post : Int32 → zM → Prop} {w : Int32} (hT : tok D o A) (h : post (if w = 0 then zcn1 (S.2.1 9) (fun x => decide (¬ x < 0)) 4 else if w = 1 then zcn1 (S.2.1 41) (fun x => decide (¬ x = 0)) 5 else if w = 2 then S.1 8 else if w = 3 then S.1 0 else if w = 4 then S.1 46
    else if w = 5 then zcn2 (S.2.1 51) (fun x => decide (¬ x < 0)) 3 else -1) (tm o A S I)) : wp_X9_count D post o w (tm o A S I) := by
  unfold wp_X9_count
  rw [tgI (by decide) rfl, tgI (by decide) rfl, tgI (by decide) rfl]
  refine ⟨fun z => ?_, fun z => ?_, fun z => ?_, fun z => ?_, fun z => ?_, fun z => ?_, fun z => ?_⟩
  · subst z
    rw [if_pos rfl] at h
    have loop : ∀ f n : Nat, n ≤ 4 → 4 - n < f → wp_X9_count_L42 D post o f (zcn1 (S.2.1 9) (fun x => decide (¬ x < 0)) n) (nI n) (tm o A S I) := by
      intro f
      induction f with
      | zero => intro n _ hf; omega
      | succ f ih =>
        intro n hn hf
        unfold wp_X9_count_L42 wp_X9_count_L64
        rw [show (4 : Int32) = nI 4 from rfl, nI_leI (by decide) (by omega)]
        refine ifc (fun z => ?_) (fun z => ?_)
        · have : n = 4 := by omega
          subst this; exact h
        · simp (disch := first | decide | omega) only [tgI, tgR, tzd, taI hT, tsI hT, tp hT, tF_s, tF_n, tA_F, tF_A, tA_s, tA_n, tA_R, tsz, m8, m5, m6, m10, m30, m120, nI_1, nI_add, clT, vinT, true_and, updS, updN, if_true]
          have hr := ih (n + 1) (by omega) (by omega)
          rw [zcn1] at hr
          refine ifc (fun z2 => ?_) (fun z2 => ?_)
          · rw [decide_eq_false (fun y => y z2)] at hr; exact hr
          · rw [decide_eq_true z2] at hr; exact hr
    exact ⟨5, loop 5 0 (by omega) (by omega)⟩
  · subst z
    rw [if_neg (by decide), if_pos rfl] at h
    have loop : ∀ f n : Nat, n ≤ 5 → 5 - n < f → wp_X9_count_L76 D post o f (zcn1 (S.2.1 41) (fun x => decide (¬ x = 0)) n) (nI n) (tm o A S I) := by
      intro f
      induction f with
      | zero => intro n _ hf; omega
      | succ f ih =>
        intro n hn hf
        unfold wp_X9_count_L76 wp_X9_count_L98
        rw [show (5 : Int32) = nI 5 from rfl, nI_leI (by decide) (by omega)]
        refine ifc (fun z => ?_) (fun z => ?_)
        · have : n = 5 := by omega
          subst this; exact h
        · simp (disch := first | decide | omega) only [tgI, tgR, tzd, taI hT, tsI hT, tp hT, tF_s, tF_n, tA_F, tF_A, tA_s, tA_n, tA_R, tsz, m8, m5, m6, m10, m30, m120, nI_1, nI_add, clT, vinT, true_and, updS, updN, if_true]
          have hr := ih (n + 1) (by omega) (by omega)
          rw [zcn1] at hr
          refine ifc (fun z2 => ?_) (fun z2 => ?_)
          · rw [decide_eq_false (fun y => y z2)] at hr; exact hr
          · rw [decide_eq_true z2] at hr; exact hr
    exact ⟨6, loop 6 0 (by omega) (by omega)⟩
  · subst z; exact h
  · subst z; exact h
  · subst z; exact h
  · subst z
    rw [if_neg (by decide), if_neg (by decide), if_neg (by decide), if_neg (by decide), if_neg (by decide), if_pos rfl] at h
    have loop : ∀ f n : Nat, n ≤ 3 → 3 - n < f → wp_X9_count_L125 D post o f (zcn2 (S.2.1 51) (fun x => decide (¬ x < 0)) n) (nI n) (tm o A S I) := by
      intro f
      induction f with
      | zero => intro n _ hf; omega
      | succ f ih =>
        intro n hn hf
        unfold wp_X9_count_L125 wp_X9_count_L145
        rw [show (3 : Int32) = nI 3 from rfl, nI_leI (by decide) (by omega)]
        refine ifc (fun z => ?_) (fun z => ?_)
        · have : n = 3 := by omega
          subst this; exact h
        · simp (disch := first | decide | omega) only [tgI, tgR, tzd, taI hT, tsI hT, tp hT, tF_s, tF_n, tA_F, tF_A, tA_s, tA_n, tA_R, tsz, m8, m5, m6, m10, m30, m120, nI_1, nI_add, clT, vinT, true_and, updS, updN, if_true]
          have hr := ih (n + 1) (by omega) (by omega)
          rw [zcn2] at hr
          refine ifc (fun z2 => ?_) (fun z2 => ?_)
          · rw [decide_eq_false (fun y => y z2)] at hr; exact hr
          · rw [decide_eq_true z2] at hr; exact hr
    exact ⟨4, loop 4 0 (by omega) (by omega)⟩
  · rw [if_neg z.1, if_neg z.2.1, if_neg z.2.2.1, if_neg z.2.2.2.1, if_neg z.2.2.2.2.1, if_neg z.2.2.2.2.2] at h
    exact h
theorem t_out {post : Int32 → zM → Prop} {i : Int32} {n : Nat} (hT : tok D o A) (hn : S.1 46 = nI n) (hn2 : n ≤ 240) (h1 : zb i n = false → post (-2) (tm o A S I)) (h2 : ∀ j, j < n → i = nI j → post (S.2.1 45 j) (tm o A S I)) : wp_X9_out D post o i (tm o A S I) := by
  unfold wp_X9_out wp_X9_out_L27
  rw [tgI (by decide) rfl, hn]
  refine t_in ?_
  have hz : zin i.toInt64 0 (nI n - 1).toInt64 = zb i n := by
    refine zin_b ?_
    rw [Int32.toInt_toInt64]
    rcases Nat.eq_zero_or_pos n with rfl | hp
    · decide
    · obtain ⟨q, rfl⟩ : ∃ q, n = q + 1 := ⟨n - 1, by omega⟩
      rw [nI_pred, nI_toInt (by omega)]
      omega
  rw [hz]
  refine ifb' (fun e => ?_) (fun e => h1 e)
  obtain ⟨j, hj, rfl⟩ := zb_of e (by omega)
  simp (disch := first | decide | omega) only [tgI, tgR, tzd, taI hT, tsI hT, tp hT, tF_s, tF_n, tA_F, tF_A, tA_s, tA_n, tA_R, tsz, m8, m5, m6, m10, m30, m120, nI_1, nI_add, clT, vinT, true_and, updS, updN, if_true]
  exact h2 j hj rfl
end TR2
