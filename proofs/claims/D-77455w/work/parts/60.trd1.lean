/-! the twin reads: its small steps -/
def zwi (w : Option Nat) : Int32 := match w with | none => -1 | some p => nI p
/-- as the twin reads: base S0, arrays E but the types' -/
def zrd9 (S0 : zTS) (E : Nat → Nat → Int32) (n : Nat) (S : zTS) (r : zRh) (m dp : Nat) : Prop :=
  (∀ k, k < 23 ∨ 28 < k → k < 37 ∨ 40 < k → S.1 k = S0.1 k) ∧ (∀ k, k ≠ 29 → S.2.1 k = E k) ∧ S.2.2 = S0.2.2 ∧ S.1 23 = nI r.1 ∧ S.1 25 = nI r.2.1 ∧ S.1 28 = zwi r.2.2.1 ∧ S.1 27 = r.2.2.2.1 ∧ (∀ a, a < 5 → S.2.1 29 a = nI (r.2.2.2.2 a) ∧ r.2.2.2.2 a ≤ 3) ∧
  S.1 24 = nI m ∧ S.1 26 = nI dp ∧ S0.1 8 = nI n ∧ n ≤ 120 ∧ r.1 ≤ n ∧ r.2.1 ≤ 8 ∧ (∀ p, r.2.2.1 = some p → p ≤ 120)
theorem zrd9_at {S0 S : zTS} {E : Nat → Nat → Int32} {n m dp p : Nat} {r : zRh} (h : zrd9 S0 E n S r m dp) (hp : p ≤ n) : zrd9 S0 E n (tF S 23 (nI p)) (p, r.2) m dp := by
  obtain ⟨a1, a2, a3, a4, a5, a6, a7, a8, a9, a10, a11, a12, a13, a14, a15⟩ := h
  exact ⟨fun k x y => by rw [tF_n (by omega)]; exact a1 k x y, a2, a3, tF_s, by rw [tF_n (by decide)]; exact a5, by rw [tF_n (by decide)]; exact a6, by rw [tF_n (by decide)]; exact a7, a8, by rw [tF_n (by decide)]; exact a9, by rw [tF_n (by decide)]; exact a10, a11, a12, hp, a14, a15⟩
theorem zrd9_w {S0 S : zTS} {E : Nat → Nat → Int32} {n m dp : Nat} {r : zRh} {w : Option Nat} (h : zrd9 S0 E n S r m dp) (hw : ∀ p, w = some p → p ≤ 120) : zrd9 S0 E n (tF S 28 (zwi w)) (r.1, r.2.1, w, r.2.2.2) m dp := by
  obtain ⟨a1, a2, a3, a4, a5, a6, a7, a8, a9, a10, a11, a12, a13, a14, a15⟩ := h
  exact ⟨fun k x y => by rw [tF_n (by omega)]; exact a1 k x y, a2, a3, by rw [tF_n (by decide)]; exact a4, by rw [tF_n (by decide)]; exact a5, tF_s, by rw [tF_n (by decide)]; exact a7, a8, by rw [tF_n (by decide)]; exact a9, by rw [tF_n (by decide)]; exact a10, a11, a12, a13, a14, hw⟩
theorem zrd9_m {S0 S : zTS} {E : Nat → Nat → Int32} {n m m' dp : Nat} {r : zRh} (h : zrd9 S0 E n S r m dp) : zrd9 S0 E n (tF S 24 (nI m')) r m' dp := by
  obtain ⟨a1, a2, a3, a4, a5, a6, a7, a8, a9, a10, a11, a12, a13, a14, a15⟩ := h
  exact ⟨fun k x y => by rw [tF_n (by omega)]; exact a1 k x y, a2, a3, by rw [tF_n (by decide)]; exact a4, by rw [tF_n (by decide)]; exact a5, by rw [tF_n (by decide)]; exact a6, by rw [tF_n (by decide)]; exact a7, a8, tF_s, by rw [tF_n (by decide)]; exact a10, a11, a12, a13, a14, a15⟩
theorem zrd9_d {S0 S : zTS} {E : Nat → Nat → Int32} {n m dp dp' : Nat} {r : zRh} (h : zrd9 S0 E n S r m dp) : zrd9 S0 E n (tF S 26 (nI dp')) r m dp' := by
  obtain ⟨a1, a2, a3, a4, a5, a6, a7, a8, a9, a10, a11, a12, a13, a14, a15⟩ := h
  exact ⟨fun k x y => by rw [tF_n (by omega)]; exact a1 k x y, a2, a3, by rw [tF_n (by decide)]; exact a4, by rw [tF_n (by decide)]; exact a5, by rw [tF_n (by decide)]; exact a6, by rw [tF_n (by decide)]; exact a7, a8, by rw [tF_n (by decide)]; exact a9, tF_s, a11, a12, a13, a14, a15⟩
theorem zrd9_c {S0 S : zTS} {E : Nat → Nat → Int32} {n m dp c : Nat} {r : zRh} (h : zrd9 S0 E n S r m dp) (hc : c ≤ 8) : zrd9 S0 E n (tF S 25 (nI c)) (r.1, c, r.2.2) m dp := by
  obtain ⟨a1, a2, a3, a4, a5, a6, a7, a8, a9, a10, a11, a12, a13, a14, a15⟩ := h
  exact ⟨fun k x y => by rw [tF_n (by omega)]; exact a1 k x y, a2, a3, by rw [tF_n (by decide)]; exact a4, tF_s, by rw [tF_n (by decide)]; exact a6, by rw [tF_n (by decide)]; exact a7, a8, by rw [tF_n (by decide)]; exact a9, by rw [tF_n (by decide)]; exact a10, a11, a12, a13, hc, a15⟩
theorem zrd9_p {S0 S : zTS} {E : Nat → Nat → Int32} {n m dp k : Nat} {v : Int32} {r : zRh} (h : zrd9 S0 E n S r m dp) (hk : 37 ≤ k ∧ k ≤ 40) : zrd9 S0 E n (tF S k v) r m dp := by
  obtain ⟨a1, a2, a3, a4, a5, a6, a7, a8, a9, a10, a11, a12, a13, a14, a15⟩ := h
  exact ⟨fun q x y => by rw [tF_n (by omega)]; exact a1 q x y, a2, a3, by rw [tF_n (by omega)]; exact a4, by rw [tF_n (by omega)]; exact a5, by rw [tF_n (by omega)]; exact a6, by rw [tF_n (by omega)]; exact a7, a8, by rw [tF_n (by omega)]; exact a9, by rw [tF_n (by omega)]; exact a10, a11, a12, a13, a14, a15⟩
theorem zrd9_A {S0 S : zTS} {E : Nat → Nat → Int32} {n m dp k i : Nat} {v : Int32} {r : zRh} (h : zrd9 S0 E n S r m dp) (hk : k ≠ 29) : zrd9 S0 (fun j => if j = k then upd (E k) i v else E j) n (tA S k i v) r m dp := by
  obtain ⟨a1, a2, a3, a4, a5, a6, a7, a8, a9, a10, a11, a12, a13, a14, a15⟩ := h
  refine ⟨a1, fun q hq => ?_, a3, a4, a5, a6, a7, fun a ha => by rw [tA_n (fun z => hk z.symm)]; exact a8 a ha, a9, a10, a11, a12, a13, a14, a15⟩
  show (if q = k then upd (S.2.1 k) i v else S.2.1 q) = (if q = k then upd (E k) i v else E q)
  by_cases e : q = k
  · rw [if_pos e, if_pos e, a2 k hk]
  · rw [if_neg e, if_neg e, a2 q hq]
theorem zlie_b {w : Option Nat} {p : Nat} (hw : ∀ q, w = some q → q ≤ 120) (hp : p ≤ 120) : ∀ q, zlie w p = some q → q ≤ 120 := by
  intro q h
  unfold zlie at h
  cases w with
  | none => cases h; exact hp
  | some x => have := hw x rfl; simp at h; omega
section TR1
variable {D : zD} {o : Nat} {A : Nat → Nat} {S S0 : zTS} {I : zM} {E : Nat → Nat → Int32} {n m dp : Nat} {r : zRh}
theorem t_here {post : Int32 → zM → Prop} (hT : tok D o A) (h : zrd9 S0 E n S r m dp) (hp : post (zhr (E 7) n r.1) (tm o A S I)) : wp_X9_here D post o (tm o A S I) := by
  obtain ⟨a1, a2, a3, a4, a5, a6, a7, a8, a9, a10, a11, a12, a13, a14, a15⟩ := h
  have h8 : S.1 8 = nI n := by rw [a1 8 (by decide) (by decide)]; exact a11
  unfold wp_X9_here wp_X9_here_L24
  unfold zhr at hp
  simp (disch := first | decide | omega) only [tgI, tgR, tzd, taI hT, tsI hT, tp hT, tF_s, tF_n, tA_F, tF_A, tA_s, tA_n, tA_R, tsz, m8, m5, m6, m10, m30, m120, nI_1, nI_add, clT, vinT, true_and, updS, updN, if_true, a4, h8]
  rw [nI_leI (by omega) (by omega)]
  refine ifc (fun z => ?_) (fun z => ?_)
  · rw [if_neg (by omega)] at hp; exact hp
  · rw [if_pos (by omega)] at hp
    simp (disch := first | decide | omega) only [tgI, tgR, tzd, taI hT, tsI hT, tp hT, tF_s, tF_n, tA_F, tF_A, tA_s, tA_n, tA_R, tsz, m8, m5, m6, m10, m30, m120, nI_1, nI_add, clT, vinT, true_and, updS, updN, if_true]
    rw [a2 7 (by decide)]; exact hp
theorem zhr_n {tp : Nat → Int32} {n p : Nat} (h : zhr tp n p ≠ -1) : p < n := by
  unfold zhr at h
  by_cases z : p < n
  · exact z
  · rw [if_neg z] at h; exact absurd rfl h
theorem t_takes {post : Int32 → zM → Prop} {c : Int32} (hT : tok D o A) (h : zrd9 S0 E n S r m dp) (h1 : zhr (E 7) n r.1 = c → post 1 (tm o A (tF S 23 (nI (r.1 + 1))) I)) (h2 : zhr (E 7) n r.1 ≠ c → post 0 (tm o A S I)) : wp_X9_takes D post o c (tm o A S I) := by
  unfold wp_X9_takes
  refine ⟨tis _ (by decide), t_here hT h ⟨fun z => ?_, fun z => ⟨rfl, h2 z⟩⟩⟩
  have a4 := h.2.2.2.1
  have a13 := h.2.2.2.2.2.2.2.2.2.2.2.2.1
  simp (disch := first | decide | omega) only [tgI, tgR, tzd, taI hT, tsI hT, tp hT, tF_s, tF_n, tA_F, tF_A, tA_s, tA_n, tA_R, tsz, m8, m5, m6, m10, m30, m120, nI_1, nI_add, clT, vinT, true_and, updS, updN, if_true, a4]
  exact ⟨rfl, h1 z⟩
theorem t_isSign {post : Int32 → zM → Prop} {c : Int32} {M : zM} (h : post (b1 (zsg c)) M) : wp_X9_isSign D post c M := by
  unfold wp_X9_isSign wp_X9_isSign_L32 wp_X9_isSign_L37
  unfold zsg at h
  refine t_in (ifb (fun e => ?_) (fun e => ifc (fun z => ?_) (fun z => ifc (fun z2 => ?_) (fun z2 => ifn (fun z3 => ?_) (fun z3 => ?_)))))
  · rw [e] at h; exact ⟨rfl, h⟩
  · rw [e, decide_eq_true z] at h; exact ⟨rfl, h⟩
  · rw [e, decide_eq_false z, decide_eq_true z2] at h; exact ⟨rfl, h⟩
  · rw [e, decide_eq_false z, decide_eq_false z2, decide_eq_true z3] at h; exact ⟨rfl, h⟩
  · rw [e, decide_eq_false z, decide_eq_false z2, decide_eq_false z3] at h; exact ⟨rfl, h⟩
theorem t_isWrong {post : Unit → zM → Prop} {p : Nat} (hT : tok D o A) (h : zrd9 S0 E n S r m dp) (hp : p ≤ 120) (hq : post () (tm o A (tF S 28 (zwi (zlie r.2.2.1 p))) I)) : wp_X9_isWrong D post o (nI p) (tm o A S I) := by
  have a6 := h.2.2.2.2.2.1
  have a15 := h.2.2.2.2.2.2.2.2.2.2.2.2.2.2
  unfold wp_X9_isWrong wp_X9_isWrong_L16 wp_X9_isWrong_L24
  simp (disch := first | decide | omega) only [tgI, tgR, tzd, taI hT, tsI hT, tp hT, tF_s, tF_n, tA_F, tF_A, tA_s, tA_n, tA_R, tsz, m8, m5, m6, m10, m30, m120, nI_1, nI_add, clT, vinT, true_and, updS, updN, if_true, a6]
  unfold zlie at hq
  cases hw : r.2.2.1 with
  | none => rw [hw] at hq; exact ⟨fun _ => hq, fun z => absurd (by decide) z⟩
  | some x =>
    rw [hw] at hq
    have := a15 x hw
    refine ⟨fun z => absurd z (nI_pos (by omega)), fun _ => ?_⟩
    show (nI x ≤ nI p → post () (tm o A (tF S 28 (nI x)) I)) ∧ (¬ nI x ≤ nI p → post () (tm o A (tF S 28 (nI p)) I))
    rw [nI_leI (by omega) (by omega)]
    refine ifc (fun z => ?_) (fun z => ?_)
    · simp only [Nat.min_eq_left z] at hq; exact hq
    · simp only [Nat.min_eq_right (Nat.le_of_not_le z)] at hq; exact hq
theorem t_uses {post : Unit → zM → Prop} {a ty p : Nat} (hT : tok D o A) (h : zrd9 S0 E n S r m dp) (ha : a < 5) (hty : ty ≤ 3) (hp : p ≤ 120) (hq : ∀ S', zrd9 S0 E n S' (zuse r a ty p) m dp → post () (tm o A S' I)) : wp_X9_uses D post o (nI a) (nI p) (nI ty) (tm o A S I) := by
  have h0 := h
  obtain ⟨a1, a2, a3, a4, a5, a6, a7, a8, a9, a10, a11, a12, a13, a14, a15⟩ := h
  obtain ⟨b1', b2⟩ := a8 a ha
  unfold wp_X9_uses wp_X9_uses_L50
  simp (disch := first | decide | omega) only [tgI, tgR, tzd, taI hT, tsI hT, tp hT, tF_s, tF_n, tA_F, tF_A, tA_s, tA_n, tA_R, tsz, m8, m5, m6, m10, m30, m120, nI_1, nI_add, clT, vinT, true_and, updS, updN, if_true, a7, b1']
  have hmet : zrd9 S0 E n (tF S 27 (r.2.2.2.1 ||| (1 <<< (nI a &&& 31)))) (r.1, r.2.1, r.2.2.1, r.2.2.2.1 ||| (1 <<< (nI a &&& 31)), r.2.2.2.2) m dp :=
    ⟨fun k x y => by rw [tF_n (by omega)]; exact a1 k x y, a2, a3, by rw [tF_n (by decide)]; exact a4, by rw [tF_n (by decide)]; exact a5, by rw [tF_n (by decide)]; exact a6, tF_s, a8, by rw [tF_n (by decide)]; exact a9, by rw [tF_n (by decide)]; exact a10, a11, a12, a13, a14, a15⟩
  have e0 : ∀ x : Nat, x ≤ 3 → (nI x = 0 ↔ x = 0) := fun x hx => by rw [show (0 : Int32) = nI 0 from rfl, nI_eq (by omega) (by decide)]
  rw [e0 ty hty, e0 _ b2, nI_eq (by omega) (by omega)]
  unfold zuse at hq
  refine ifc (fun z => hq _ ?_) (fun z => ifn (fun z2 => ?_) (fun z2 => ⟨fun z3 => hq _ ?_, fun z3 => ⟨tis _ (by decide), t_isWrong hT hmet hp (hq _ ?_)⟩⟩))
  · rw [if_neg (fun y => y.1 z), if_neg (fun y => y.1 z)]; exact hmet
  · rw [if_neg (fun y => y.2.1 z2), if_pos ⟨z, z2⟩] at hq
    refine hq _ ?_
    obtain ⟨c1, c2, c3, c4, c5, c6, c7, c8, c9, c10, c11, c12, c13, c14, c15⟩ := hmet
    refine ⟨c1, fun k hk => by rw [tA_n hk]; exact c2 k hk, c3, c4, c5, c6, c7, fun b hb => ?_, c9, c10, c11, c12, c13, c14, c15⟩
    rw [tA_s]
    by_cases e : b = a
    · subst e; rw [updS]; show _ = nI (if b = b then ty else _) ∧ (if b = b then ty else _) ≤ 3; rw [if_pos rfl]; exact ⟨rfl, hty⟩
    · rw [updN e]; show _ = nI (if b = a then ty else _) ∧ (if b = a then ty else _) ≤ 3; rw [if_neg e]; exact c8 b hb
  · rw [if_neg (fun y => y.2.2 z3), if_neg (fun y => z2 y.2)]; exact hmet
  · rw [if_pos ⟨z, z2, z3⟩, if_neg (fun y => z2 y.2)]
    exact zrd9_w hmet (zlie_b a15 hp)
theorem t_zeros {post : Int32 → zM → Prop} {c : Int32} (hT : tok D o A) (hc : c ≠ -1) : ∀ (mx : Nat) (i : Nat) (S : zTS) (r : zRh), i + mx ≤ 10 → zrd9 S0 E n S r m dp → (∀ S', zrd9 S0 E n S' (r.1 + zcnt (E 7) n c mx r.1, r.2) m dp → (∀ k, 37 ≤ k → S'.1 k = S.1 k) → r.1 + zcnt (E 7) n c mx r.1 ≤ n → post (nI (i + zcnt (E 7) n c mx r.1)) (tm o A S' I)) →
    wp_X9_zeros_L2 D post o (mx + 1) c (nI (i + mx)) (nI i) (tm o A S I) := by
  intro mx
  induction mx with
  | zero =>
    intro i S r hi h hq
    unfold wp_X9_zeros_L2 wp_X9_zeros_L31
    refine ⟨fun _ => ?_, fun z => absurd (nI_le (by omega) (by omega)) z⟩
    exact hq S h (fun _ _ => rfl) h.2.2.2.2.2.2.2.2.2.2.2.2.1
  | succ mx ih =>
    intro i S r hi h hq
    unfold wp_X9_zeros_L2 wp_X9_zeros_L31
    rw [nI_leI (by omega) (by omega)]
    refine ⟨fun z => by omega, fun _ => ⟨tis _ (by decide), t_here hT h ⟨fun z => ?_, fun z => ?_⟩⟩⟩
    · rw [zcnt, if_neg z] at hq
      exact hq S h (fun _ _ => rfl) h.2.2.2.2.2.2.2.2.2.2.2.2.1
    · rw [zcnt, if_pos z] at hq
      have hlt : r.1 < n := zhr_n (tp := E 7) (by rw [z]; exact hc)
      have a4 := h.2.2.2.1
      have hn := h.2.2.2.2.2.2.2.2.2.2.2.1
      simp (disch := first | decide | omega) only [tgI, tgR, tzd, taI hT, tsI hT, tp hT, tF_s, tF_n, tA_F, tF_A, tA_s, tA_n, tA_R, tsz, m8, m5, m6, m10, m30, m120, nI_1, nI_add, clT, vinT, true_and, updS, updN, if_true, a4]
      have hr := ih (i + 1) (tF S 23 (nI (r.1 + 1))) (r.1 + 1, r.2) (by omega) (zrd9_at h hlt) fun S' h1 h2 h3 => ?_
      · rw [show i + 1 + mx = i + (mx + 1) by omega] at hr
        exact hr
      · have := hq S' (by rw [show r.1 + (zcnt (E 7) n c mx (r.1 + 1) + 1) = r.1 + 1 + zcnt (E 7) n c mx (r.1 + 1) by omega]; exact h1) (fun k hk => by rw [h2 k hk, tF_n (by omega)]) (by have h3' : r.1 + 1 + zcnt (E 7) n c mx (r.1 + 1) ≤ n := h3; omega)
        rw [show i + (zcnt (E 7) n c mx (r.1 + 1) + 1) = i + 1 + zcnt (E 7) n c mx (r.1 + 1) by omega] at this
        exact this
theorem t_zero {post : Int32 → zM → Prop} {c : Int32} {mx : Nat} (hT : tok D o A) (hc : c ≠ -1) (hm : mx ≤ 10) (h : zrd9 S0 E n S r m dp) (hq : ∀ S', zrd9 S0 E n S' (r.1 + zcnt (E 7) n c mx r.1, r.2) m dp → (∀ k, 37 ≤ k → S'.1 k = S.1 k) → r.1 + zcnt (E 7) n c mx r.1 ≤ n → post (nI (zcnt (E 7) n c mx r.1)) (tm o A S' I)) : wp_X9_zeros D post o c (nI mx) (tm o A S I) := by
  have := t_zeros (post := post) (I := I) hT hc mx 0 S r (by omega) h (fun S' a b c => by rw [Nat.zero_add]; exact hq S' a b c)
  rw [Nat.zero_add] at this
  exact ⟨_, this⟩
theorem zcnt_le {tp : Nat → Int32} {n : Nat} {c : Int32} : ∀ (mx p : Nat), zcnt tp n c mx p ≤ mx
  | 0, _ => Nat.le_refl 0
  | mx + 1, p => by unfold zcnt; split; have := zcnt_le (tp := tp) (n := n) (c := c) mx (p + 1); omega; omega
end TR1
