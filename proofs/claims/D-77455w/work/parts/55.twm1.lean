/-! what a message writes; the twin's steps through a text -/
/-- an argument: its type, digits or gender or how many, scale, ints -/
abbrev zTh : Type := Nat × Int32 × Nat × List Int32
def ztx (l : Nat) (t : zTh) : List Int32 := if t.1 = 1 then zpd l t.2.1 t.2.2.1 else if t.1 = 2 then [if t.2.1 = 0 then 109 else if t.2.1 = 1 then 102 else 110] else zlsF l t.2.2.2.length 0 t.2.2.2
def zwF (l : Nat) (th : Nat → zTh) (pl : Int32 × Nat) (q : zLf) (out : List Int32) : Int32 × List Int32 := match q with
  | (0, c, _) => (0, out ++ [c])
  | (1, _) => (0, out ++ zpd l pl.1 pl.2)
  | (2, _, a, _) => if (th a).1 = 0 then (-20 - nI a, out) else (0, out ++ ztx l (th a))
  | (3, _, a, _) => if (th a).1 = 3 then (0, out ++ ztx l (th a)) else (-20 - nI a, out)
  | (_, _, a, g, w, e, m) => if (th a).1 = 1 then (0, out ++ zsh l (th a).2.1 (th a).2.2.1 g w e (e + m)) else (-20 - nI a, out)
def zwL {α : Type} (one : α → List Int32 → Int32 × List Int32) : List α → List Int32 → Int32 × List Int32
  | [], out => (0, out)
  | q :: t, out => if (one q out).1 ≠ 0 then one q out else if 240 < (one q out).2.length then (-5, (one q out).2) else zwL one t (one q out).2
/-- the branch that a choice comes to -/
def zpick (own : List zCo) (l : Nat) (k : Bool) (t : zTh) (ks : List Nat) : Option Nat :=
  if k then zbo t.2.1 t.2.2.1 (zoth ks (zca (zof own l) t.2.1 t.2.2.1) 5) 0 ks else zoth ks t.2.1.toNatClampNeg 3
def zwN (own : List zCo) (l : Nat) (th : Nat → zTh) : (d : Nat) → Int32 × Nat → zN d → List Int32 → Int32 × List Int32
  | 0, pl, q, out => zwF l th pl q out
  | d + 1, pl, q, out => Sum.elim (fun q => zwF l th pl q out) (fun q =>
      if (th q.2.1).1 = (if q.1 then 1 else 2) then
        zwL (zwN own l th d (if q.1 then ((th q.2.1).2.1, (th q.2.1).2.2.1) else pl)) (((zpick own l q.1 (th q.2.1) (q.2.2.map fun b => zkv q.1 b.1)).bind fun i => q.2.2[i]?).elim [] fun b => b.2) out
      else (-20 - nI q.2.1, out)) q
def zth9 (S : zTS) (th : Nat → zTh) : Prop := ∀ a, a < 5 → S.2.1 41 a = nI (th a).1 ∧ S.2.1 42 a = (th a).2.1 ∧ S.2.1 43 a = nI (th a).2.2.1 ∧ (th a).1 ≤ 3 ∧ (th a).2.2.1 ≤ 6 ∧ ((th a).1 = 2 → ∃ g, g < 3 ∧ (th a).2.1 = nI g) ∧
  ((th a).1 = 3 → (th a).2.2.2.length ≤ 6 ∧ (th a).2.1 = nI (th a).2.2.2.length ∧ ∀ i v, (th a).2.2.2[i]? = some v → S.2.1 44 (6 * a + i) = v)
def zAt (S : zTS) (j p : Nat) (L : List Int32) : Prop := ∀ i c, L[i]? = some c → S.2.1 10 (120 * j + (p + i)) = c
theorem zAt_a {S : zTS} {j p : Nat} {a b : List Int32} (h : zAt S j p (a ++ b)) : zAt S j p a ∧ zAt S j (p + a.length) b := by
  refine ⟨fun i c hc => h i c ?_, fun i c hc => ?_⟩
  · rw [List.getElem?_append_left (List.getElem?_eq_some_iff.mp hc).1]; exact hc
  · rw [Nat.add_assoc]
    refine h (a.length + i) c ?_
    rw [List.getElem?_append_right (by omega), Nat.add_sub_cancel_left]; exact hc
theorem zAt_c {S : zTS} {j p : Nat} {c : Int32} {b : List Int32} (h : zAt S j p (c :: b)) : S.2.1 10 (120 * j + p) = c ∧ zAt S j (p + 1) b :=
  ⟨h 0 c rfl, (zAt_a (a := [c]) (b := b) h).2⟩
theorem zAt_s {S S' : zTS} {j p : Nat} {L : List Int32} (h : S'.2.1 10 = S.2.1 10) (hA : zAt S j p L) : zAt S' j p L := fun i c hc => by rw [h]; exact hA i c hc
/-- a pattern's fields alone differ -/
def zs4 (S0 S : zTS) : Prop := (∀ k, k ≠ 37 → k ≠ 38 → k ≠ 39 → k ≠ 40 → S.1 k = S0.1 k) ∧ S.2 = S0.2
theorem zs4_r {S : zTS} : zs4 S S := ⟨fun _ _ _ _ _ => rfl, rfl⟩
theorem zs4_F {S0 S : zTS} {k : Nat} {v : Int32} (h : zs4 S0 S) (hk : k = 37 ∨ k = 38 ∨ k = 39 ∨ k = 40) : zs4 S0 (tF S k v) :=
  ⟨fun j h1 h2 h3 h4 => by rw [tF_n (by omega)]; exact h.1 j h1 h2 h3 h4, h.2⟩
section TM1
variable {D : zD} {o : Nat} {A : Nat → Nat} {S : zTS} {I : zM}
theorem t_behind {post : Int32 → zM → Prop} {j p : Nat} {L : List Int32} (hT : tok D o A) (hj : j < 4) (hA : zAt S j p L) (hL : zin1 L) (hp : p + L.length ≤ 120) (h : post (nI (p + L.length)) (tm o A S I)) : wp_X9_behindBrace D post o (nI j) (nI p) (tm o A S I) := by
  have loop : ∀ (m : List Int32) (p c f : Nat), c ≤ p → m.length < f → zbl c m = some 0 → zAt S j p (m ++ [125]) → p + m.length + 1 ≤ 120 → post (nI (p + m.length + 1)) (tm o A S I) → wp_X9_behindBrace_L5 D post o f (nI j) (nI (c + 1)) (nI p) (tm o A S I) := by
    intro m
    induction m with
    | nil =>
      intro p c f hc hf hb hA hp h
      obtain ⟨f, rfl⟩ : ∃ g, f = g + 1 := ⟨f - 1, by simp at hf; omega⟩
      have hc0 : c = 0 := by cases hb; rfl
      subst hc0
      obtain ⟨h1, -⟩ := zAt_c hA
      unfold wp_X9_behindBrace_L5 wp_X9_behindBrace_L43
      simp only [List.length_nil] at hp h
      simp (disch := first | decide | omega) only [tgI, tgR, tzd, taI hT, tsI hT, tp hT, tF_s, tF_n, tA_F, tF_A, tA_s, tA_n, tA_R, tsz, m8, m5, m6, m10, m30, m120, nI_1, nI_add, clT, vinT, true_and, updS, updN, if_true, h1]
      refine ⟨fun _ => ⟨fun z => absurd trivial z, fun _ => ⟨fun z => absurd (by decide) z, fun _ => h⟩⟩, fun z => absurd z (by decide)⟩
    | cons x m ih =>
      intro p c f hc hf hb hA hp h
      obtain ⟨f, rfl⟩ : ∃ g, f = g + 1 := ⟨f - 1, by simp at hf; omega⟩
      rw [List.cons_append] at hA
      obtain ⟨h1, h2⟩ := zAt_c hA
      simp only [List.length_cons] at hp h hf
      rw [zbl] at hb
      unfold wp_X9_behindBrace_L5 wp_X9_behindBrace_L43
      simp (disch := first | decide | omega) only [tgI, tgR, tzd, taI hT, tsI hT, tp hT, tF_s, tF_n, tA_F, tF_A, tA_s, tA_n, tA_R, tsz, m8, m5, m6, m10, m30, m120, nI_1, nI_add, clT, vinT, true_and, updS, updN, if_true, h1]
      have next : ∀ c', c' ≤ p + 1 → zbl c' m = some 0 → wp_X9_behindBrace_L5 D post o f (nI j) (nI (c' + 1)) (nI (p + 1)) (tm o A S I) := fun c' hc' hb' =>
        ih (p + 1) c' f hc' (by omega) hb' h2 (by omega) (by rw [show p + 1 + m.length + 1 = p + (m.length + 1) + 1 by omega]; exact h)
      have e0 : ∀ n : Nat, n < 200 → (nI n = 0 ↔ n = 0) := fun n hn => by rw [show (0 : Int32) = nI 0 from rfl, nI_eq (by omega) (by decide)]
      refine ⟨fun z1 => ⟨fun z2 => ?_, fun z2 => ?_⟩, fun z1 => ?_⟩
      · rw [if_neg z1, if_neg z2] at hb
        rw [show nI (c + 1) + (0 : Int32) = nI (c + 1) from by rw [show (0 : Int32) = nI 0 from rfl, nI_add], e0 _ (by omega)]
        exact ⟨fun _ => next c (by omega) hb, fun z => by omega⟩
      · rw [if_neg z1, if_pos z2] at hb
        have hc0 : c ≠ 0 := fun z => by rw [if_pos z] at hb; cases hb
        rw [if_neg hc0] at hb
        rw [← Int32.sub_eq_add_neg, nI_pred, e0 _ (by omega)]
        refine ⟨fun _ => ?_, fun z => absurd z hc0⟩
        have := next (c - 1) (by omega) hb
        rw [show c - 1 + 1 = c by omega] at this
        exact this
      · rw [if_pos z1] at hb
        rw [e0 _ (by omega)]
        exact ⟨fun _ => next (c + 1) (by omega) hb, fun z => by omega⟩
  obtain ⟨m, rfl, hb⟩ := hL
  obtain ⟨h1, h2⟩ := zAt_c hA
  simp only [List.length_cons, List.length_append, List.length_nil] at hp h
  refine ⟨m.length + 2, ?_⟩
  unfold wp_X9_behindBrace_L5 wp_X9_behindBrace_L43
  simp (disch := first | decide | omega) only [tgI, tgR, tzd, taI hT, tsI hT, tp hT, tF_s, tF_n, tA_F, tF_A, tA_s, tA_n, tA_R, tsz, m8, m5, m6, m10, m30, m120, nI_1, nI_add, clT, vinT, true_and, updS, updN, if_true, h1]
  refine ⟨fun z => absurd trivial z, fun _ => ⟨fun _ => ?_, fun z => absurd z (by decide)⟩⟩
  exact loop m (p + 1) 0 (m.length + 1) (by omega) (by omega) hb h2 (by omega) (by rw [show p + 1 + m.length + 1 = p + (m.length + (0 + 1) + 1) by omega]; exact h)
theorem t_choiceAt {post : Int32 → zM → Prop} {j p c0 lo hi : Nat} {cs : List zCh} {x : zCh} (hT : tok D o A) (hj : j < 4) (hc8 : cs.length ≤ 8) (hr : zri lo hi cs) (hhi : hi ≤ 200) (hcs : ∀ c y, cs[c]? = some y → S.2.1 22 (8 * j + c) = nI y.2.2.2.1) (hx : cs[c0]? = some x) (hp : x.2.2.2.1 = p)
    (h : post (nI c0) (tm o A S I)) : wp_X9_choiceAt D post o (nI j) (nI p) (tm o A S I) := by
  have hc0 := (List.getElem?_eq_some_iff.mp hx).1
  have loop : ∀ f c : Nat, c0 - c < f → c ≤ c0 → wp_X9_choiceAt_L2 D post o f (nI j) (nI p) (nI c) (tm o A S I) := by
    intro f
    induction f with
    | zero => intro c hf; omega
    | succ f ih =>
      intro c hf hc
      obtain ⟨y, hy⟩ : ∃ y, cs[c]? = some y := ⟨cs[c]'(by omega), List.getElem?_eq_getElem (by omega)⟩
      have hpy := hr.2 y (List.mem_of_getElem? hy)
      have hpx := hr.2 x (List.mem_of_getElem? hx)
      have h1 := hcs c y hy
      unfold wp_X9_choiceAt_L2
      simp (disch := first | decide | omega) only [tgI, tgR, tzd, taI hT, tsI hT, tp hT, tF_s, tF_n, tA_F, tF_A, tA_s, tA_n, tA_R, tsz, m8, m5, m6, m10, m30, m120, nI_1, nI_add, clT, vinT, true_and, updS, updN, if_true, h1]
      rw [nI_eq (by omega) (by omega)]
      refine ⟨fun z => ?_, fun z => ?_⟩
      · have := zri_u hr hy hx (by rw [z, hp])
        rw [this]; exact h
      · rcases Nat.eq_or_lt_of_le hc with e | e
        · subst e
          rw [hx] at hy; cases hy
          exact absurd hp z
        · exact ih (c + 1) (by omega) e
  exact ⟨c0 + 1, loop _ 0 (by omega) (Nat.zero_le _)⟩
theorem t_shL {post : Unit → zM → Prop} {j : Nat} (hT : tok D o A) (hj : j < 4) : ∀ (m : Nat) (S : zTS) (p v f : Nat) (c : Int32) (r : List Int32), c ≠ 35 → m < f → v + m < 1000 → S.1 40 = nI v → zAt S j p (zrp m 35 ++ c :: r) → p + m + 1 ≤ 120 → (∀ S', zs4 S S' → (∀ k, k ≠ 40 → S'.1 k = S.1 k) → S'.1 40 = nI (v + m) → post () (tm o A S' I)) →
    wp_X9_shapes_L125 D post o f (nI (120 * j + p)) (tm o A S I) := by
  intro m
  induction m with
  | zero =>
    intro S p v f c r hc hf hv h40 hA hp h
    obtain ⟨f, rfl⟩ : ∃ g, f = g + 1 := ⟨f - 1, by omega⟩
    obtain ⟨h1, -⟩ := zAt_c (show zAt S j p (c :: r) from hA)
    unfold wp_X9_shapes_L125 wp_X9_shapes_L152
    simp (disch := first | decide | omega) only [tgI, tgR, tzd, taI hT, tsI hT, tp hT, tF_s, tF_n, tA_F, tF_A, tA_s, tA_n, tA_R, tsz, m8, m5, m6, m10, m30, m120, nI_1, nI_add, clT, vinT, true_and, updS, updN, if_true, h1]
    exact ⟨fun _ => h S zs4_r (fun _ _ => rfl) h40, fun z => absurd z hc⟩
  | succ m ih =>
    intro S p v f c r hc hf hv h40 hA hp h
    obtain ⟨f, rfl⟩ : ∃ g, f = g + 1 := ⟨f - 1, by omega⟩
    obtain ⟨h1, h2⟩ := zAt_c (show zAt S j p (35 :: (zrp m 35 ++ c :: r)) from hA)
    unfold wp_X9_shapes_L125 wp_X9_shapes_L152
    simp (disch := first | decide | omega) only [tgI, tgR, tzd, taI hT, tsI hT, tp hT, tF_s, tF_n, tA_F, tF_A, tA_s, tA_n, tA_R, tsz, m8, m5, m6, m10, m30, m120, nI_1, nI_add, clT, vinT, true_and, updS, updN, if_true, h1, h40]
    refine ⟨fun z => absurd trivial z, fun _ => ?_⟩
    refine ih (tF S 40 (nI (v + 1))) (p + 1) (v + 1) f c r hc (by omega) (by omega) tF_s (zAt_s (by rw [tF_A]) h2) (by omega) fun S' hs hk h9 => ?_
    refine h S' ⟨fun k a b c d => ?_, ?_⟩ (fun k hk2 => by rw [hk k hk2, tF_n hk2]) (by rw [h9]; congr 1; omega)
    · rw [hs.1 k a b c d, tF_n d]
    · rw [hs.2, tF_A]
theorem t_shL2 {post : Unit → zM → Prop} {j : Nat} (hT : tok D o A) (hj : j < 4) : ∀ (e : Nat) (S : zTS) (p v f m : Nat) (r : List Int32), e < f → v + e + m < 500 → S.1 39 = nI v → zAt S j p (zrp e 48 ++ (zrp m 35 ++ 125 :: r)) → p + e + m + 1 ≤ 120 → (∀ S', zs4 S S' → (∀ k, k ≠ 39 → k ≠ 40 → S'.1 k = S.1 k) → S'.1 39 = nI (v + e) → S'.1 40 = nI (v + e + m) → post () (tm o A S' I)) →
    wp_X9_shapes_L90 D post o f (nI (120 * j + p)) (tm o A S I) := by
  intro e
  induction e with
  | zero =>
    intro S p v f m r hf hv h39 hA hp h
    obtain ⟨f, rfl⟩ : ∃ g, f = g + 1 := ⟨f - 1, by omega⟩
    have hA' : zAt S j p (zrp m 35 ++ 125 :: r) := hA
    have h1 : S.2.1 10 (120 * j + p) ≠ 48 := by
      cases m with
      | zero => rw [(zAt_c (show zAt S j p (125 :: r) from hA')).1]; decide
      | succ m => rw [(zAt_c (show zAt S j p (35 :: (zrp m 35 ++ 125 :: r)) from hA')).1]; decide
    unfold wp_X9_shapes_L90
    simp (disch := first | decide | omega) only [tgI, tgR, tzd, taI hT, tsI hT, tp hT, tF_s, tF_n, tA_F, tF_A, tA_s, tA_n, tA_R, tsz, m8, m5, m6, m10, m30, m120, nI_1, nI_add, clT, vinT, true_and, updS, updN, if_true, h39]
    refine ⟨fun _ => ⟨m + 1, ?_⟩, fun z => absurd z h1⟩
    refine t_shL hT hj m (tF S 40 (nI v)) p v (m + 1) 125 r (by decide) (by omega) (by omega) tF_s (zAt_s (by rw [tF_A]) hA') (by omega) fun S' hs hk h9 => ?_
    refine h S' ⟨fun k a b c d => ?_, ?_⟩ (fun k a b => by rw [hk k b, tF_n b]) (by rw [hk 39 (by decide), tF_n (by decide), h39]; rfl) (by rw [h9]; rfl)
    · rw [hs.1 k a b c d, tF_n d]
    · rw [hs.2, tF_A]
  | succ e ih =>
    intro S p v f m r hf hv h39 hA hp h
    obtain ⟨f, rfl⟩ : ∃ g, f = g + 1 := ⟨f - 1, by omega⟩
    obtain ⟨h1, h2⟩ := zAt_c (show zAt S j p (48 :: (zrp e 48 ++ (zrp m 35 ++ 125 :: r))) from hA)
    unfold wp_X9_shapes_L90
    simp (disch := first | decide | omega) only [tgI, tgR, tzd, taI hT, tsI hT, tp hT, tF_s, tF_n, tA_F, tF_A, tA_s, tA_n, tA_R, tsz, m8, m5, m6, m10, m30, m120, nI_1, nI_add, clT, vinT, true_and, updS, updN, if_true, h1, h39]
    refine ⟨fun z => absurd trivial z, fun _ => ?_⟩
    refine ih (tF S 39 (nI (v + 1))) (p + 1) (v + 1) f m r (by omega) (by omega) tF_s (zAt_s (by rw [tF_A]) h2) (by omega) fun S' hs hk h9 h10 => ?_
    refine h S' ⟨fun k a b c d => ?_, ?_⟩ (fun k a b => by rw [hk k a b, tF_n a]) (by rw [h9]; congr 1; omega) (by rw [h10]; congr 1; omega)
    · rw [hs.1 k a b c d, tF_n c]
    · rw [hs.2, tF_A]
theorem t_shL3 {post : Unit → zM → Prop} {j e m : Nat} (hT : tok D o A) (hj : j < 4) : ∀ (w : Nat) (S : zTS) (p v f : Nat), w < f → v + w < 500 → e ≤ 3 → m ≤ 3 → S.1 38 = nI v → zAt S j p (zrp w 48 ++ ((if e + m = 0 then [] else 46 :: (zrp e 48 ++ zrp m 35)) ++ [125])) → p + w + (if e + m = 0 then 0 else e + m + 1) + 1 ≤ 120 → (∀ S', zs4 S S' → S'.1 37 = S.1 37 → S'.1 38 = nI (v + w) → S'.1 39 = nI e → S'.1 40 = nI (e + m) → post () (tm o A S' I)) →
    wp_X9_shapes_L39 D post o f (nI (120 * j + p)) (tm o A S I) := by
  intro w
  induction w with
  | zero =>
    intro S p v f hf hv he hm h38 hA hp h
    obtain ⟨f, rfl⟩ : ∃ g, f = g + 1 := ⟨f - 1, by omega⟩
    have hA' : zAt S j p ((if e + m = 0 then [] else 46 :: (zrp e 48 ++ zrp m 35)) ++ [125]) := hA
    unfold wp_X9_shapes_L39 wp_X9_shapes_L152
    by_cases hz : e + m = 0
    · rw [if_pos hz] at hp
      rw [if_pos hz, List.nil_append] at hA'
      obtain ⟨h1, -⟩ := zAt_c hA'
      simp (disch := first | decide | omega) only [tgI, tgR, tzd, taI hT, tsI hT, tp hT, tF_s, tF_n, tA_F, tF_A, tA_s, tA_n, tA_R, tsz, m8, m5, m6, m10, m30, m120, nI_1, nI_add, clT, vinT, true_and, updS, updN, if_true, h1]
      refine ⟨fun _ => ⟨fun _ => ?_, fun z => absurd z (by decide)⟩, fun z => absurd z (by decide)⟩
      have he0 : e = 0 := by omega
      have hm0 : m = 0 := by omega
      subst he0 hm0
      exact h _ (zs4_F (zs4_F zs4_r (by decide)) (by decide)) rfl h38 rfl rfl
    · rw [if_neg hz] at hp
      rw [if_neg hz, List.cons_append] at hA'
      obtain ⟨h1, h2⟩ := zAt_c hA'
      simp (disch := first | decide | omega) only [tgI, tgR, tzd, taI hT, tsI hT, tp hT, tF_s, tF_n, tA_F, tF_A, tA_s, tA_n, tA_R, tsz, m8, m5, m6, m10, m30, m120, nI_1, nI_add, clT, vinT, true_and, updS, updN, if_true, h1]
      refine ⟨fun _ => ⟨fun z => absurd trivial z, fun _ => ⟨e + 1, ?_⟩⟩, fun z => absurd z (by decide)⟩
      rw [List.append_assoc] at h2
      refine t_shL2 hT hj e (tF (tF S 39 0) 40 0) (p + 1) 0 (e + 1) m [] (by omega) (by omega) rfl (zAt_s rfl h2) (by omega) fun S' hs hk h9 h10 => ?_
      refine h S' ⟨fun k a b c d => ?_, ?_⟩ (by rw [hk 37 (by decide) (by decide)]; rfl) (by rw [hk 38 (by decide) (by decide)]; exact h38) (by rw [h9, Nat.zero_add]) (by rw [h10, Nat.zero_add])
      · rw [hs.1 k a b c d, tF_n d, tF_n c]
      · rw [hs.2]; rfl
  | succ w ih =>
    intro S p v f hf hv he hm h38 hA hp h
    obtain ⟨f, rfl⟩ : ∃ g, f = g + 1 := ⟨f - 1, by omega⟩
    obtain ⟨h1, h2⟩ := zAt_c (show zAt S j p (48 :: (zrp w 48 ++ ((if e + m = 0 then [] else 46 :: (zrp e 48 ++ zrp m 35)) ++ [125]))) from hA)
    unfold wp_X9_shapes_L39
    simp (disch := first | decide | omega) only [tgI, tgR, tzd, taI hT, tsI hT, tp hT, tF_s, tF_n, tA_F, tF_A, tA_s, tA_n, tA_R, tsz, m8, m5, m6, m10, m30, m120, nI_1, nI_add, clT, vinT, true_and, updS, updN, if_true, h1, h38]
    refine ⟨fun z => absurd trivial z, fun _ => ?_⟩
    refine ih (tF S 38 (nI (v + 1))) (p + 1) (v + 1) f (by omega) (by omega) he hm tF_s (zAt_s (by rw [tF_A]) h2) (by omega) fun S' hs h37 h9 h10 h11 => ?_
    refine h S' ⟨fun k a b c d => ?_, ?_⟩ (by rw [h37, tF_n (by decide)]) (by rw [h9]; congr 1; omega) h10 h11
    · rw [hs.1 k a b c d, tF_n b]
    · rw [hs.2, tF_A]
theorem t_shapes {post : Unit → zM → Prop} {j p w e m : Nat} {g : Bool} (hT : tok D o A) (hj : j < 4) (hw1 : 1 ≤ w) (hw : w ≤ 4) (he : e ≤ 3) (hm : m ≤ 3) (hA : zAt S j p (zpl g w e m ++ [125])) (hp : p + (zpl g w e m).length + 1 ≤ 120)
    (h : ∀ S', zs4 S S' → S'.1 37 = b1 g → S'.1 38 = nI w → S'.1 39 = nI e → S'.1 40 = nI (e + m) → post () (tm o A S' I)) : wp_X9_shapes D post o (nI j) (nI p) (tm o A S I) := by
  have hlen : (zpl g w e m).length = (if g then 1 else 0) + w + (if e + m = 0 then 0 else e + m + 1) := by
    unfold zpl zrp
    simp only [List.length_append, List.length_replicate]
    congr 1
    · congr 1
      cases g <;> rfl
    · split
      · rfl
      · simp
  unfold zpl at hA
  rw [List.append_assoc, List.append_assoc] at hA
  have key : ∀ (q : Nat) (gi : Int32), gi = b1 g → nI (120 * j + p) + gi = nI (120 * j + q) → q = p + (if g then 1 else 0) → zAt S j q (zrp w 48 ++ ((if e + m = 0 then [] else 46 :: (zrp e 48 ++ zrp m 35)) ++ [125])) → wp_X9_shapes_L24 D post o (nI (120 * j + p)) (some o) gi (tm o A S I) := by
    intro q gi hgi hq hqp hA2
    unfold wp_X9_shapes_L24
    refine tzd.mpr ?_
    simp (disch := first | decide | omega) only [tgI, tgR, tzd, taI hT, tsI hT, tp hT, tF_s, tF_n, tA_F, tF_A, tA_s, tA_n, tA_R, tsz, m8, m5, m6, m10, m30, m120, nI_1, nI_add, clT, vinT, true_and, updS, updN, if_true]
    rw [hq]
    refine ⟨w + 1, t_shL3 hT hj w (tF (tF S 37 gi) 38 0) q 0 (w + 1) (by omega) (by omega) he hm rfl (zAt_s rfl hA2) (by omega) fun S' hs h37 h9 h10 h11 => ?_⟩
    refine h S' ⟨fun k a b c d => ?_, ?_⟩ (by rw [h37]; exact hgi) (by rw [h9, Nat.zero_add]) h10 h11
    · rw [hs.1 k a b c d, tF_n b, tF_n a]
    · rw [hs.2]; rfl
  unfold wp_X9_shapes
  simp (disch := first | decide | omega) only [tgI, tgR, tzd, taI hT, tsI hT, tp hT, tF_s, tF_n, tA_F, tF_A, tA_s, tA_n, tA_R, tsz, m8, m5, m6, m10, m30, m120, nI_1, nI_add, clT, vinT, true_and, updS, updN, if_true]
  cases g
  · rw [if_neg (by decide), List.nil_append] at hA
    have h1 : S.2.1 10 (120 * j + p) = 48 := by
      obtain ⟨w', rfl⟩ : ∃ w', w = w' + 1 := ⟨w - 1, by omega⟩
      exact (zAt_c (show zAt S j p (48 :: (zrp w' 48 ++ _)) from hA)).1
    rw [h1]
    exact ⟨fun _ => key p 0 rfl (by rw [show (0 : Int32) = nI 0 from rfl, nI_add]; rfl) rfl hA, fun z => absurd z (by decide)⟩
  · rw [if_pos rfl, List.singleton_append] at hA
    obtain ⟨h1, h2⟩ := zAt_c hA
    rw [h1]
    exact ⟨fun z => absurd rfl z, fun _ => key (p + 1) 1 rfl (by rw [nI_1]; rfl) rfl h2⟩
end TM1
