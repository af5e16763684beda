/-! the twin reads: parts out of braces -/
def zfr (S0 S : zTS) : Prop := (∀ k, k < 23 ∨ 28 < k → k < 37 ∨ 40 < k → S.1 k = S0.1 k) ∧ (∀ k, k < 29 ∨ 36 < k → S.2.1 k = S0.2.1 k) ∧ S.2.2 = S0.2.2
def zE0 (S0 : zTS) (E : Nat → Nat → Int32) : Prop := ∀ k, k < 29 ∨ 36 < k → E k = S0.2.1 k
theorem zfr_of {S0 S : zTS} {E : Nat → Nat → Int32} {n m dp : Nat} {r : zRh} (h : zrd9 S0 E n S r m dp) (hE : zE0 S0 E) : zfr S0 S :=
  ⟨h.1, fun k hk => by rw [h.2.1 k (by omega)]; exact hE k hk, h.2.2.1⟩
/-- a choice's entries -/
def zEe (E : Nat → Nat → Int32) (c : Nat) (x : zCh) : Prop := E 30 c = nI x.1 ∧ E 31 c = nI x.2.1 ∧ E 32 c = nI x.2.2.1 ∧ E 36 c = nI x.2.2.2.1 ∧ E 33 c = nI x.2.2.2.2.length ∧ x.2.2.2.2.length ≤ 10 ∧ ∀ b y, x.2.2.2.2[b]? = some y → E 34 (10 * c + b) = nI y.1 ∧ E 35 (10 * c + b) = nI y.2
def zEk (E E' : Nat → Nat → Int32) (c0 : Nat) : Prop := (∀ k, k < 30 ∨ 36 < k → E' k = E k) ∧ (∀ k, k ≠ 34 → k ≠ 35 → ∀ i, i < c0 → E' k i = E k i) ∧ ∀ k, k = 34 ∨ k = 35 → ∀ i, i < 10 * c0 → E' k i = E k i
def zEn (E E' : Nat → Nat → Int32) (c0 : Nat) (l : List zCh) : Prop := zEk E E' c0 ∧ ∀ i x, l[i]? = some x → zEe E' (c0 + i) x
theorem zEk_r {E : Nat → Nat → Int32} {c : Nat} : zEk E E c := ⟨fun _ _ => rfl, fun _ _ _ _ _ => rfl, fun _ _ _ _ => rfl⟩
theorem zEk_t {E E1 E2 : Nat → Nat → Int32} {c c' : Nat} (h1 : zEk E E1 c) (h2 : zEk E1 E2 c') (hc : c ≤ c') : zEk E E2 c :=
  ⟨fun k hk => by rw [h2.1 k hk, h1.1 k hk], fun k a b i hi => by rw [h2.2.1 k a b i (by omega), h1.2.1 k a b i hi], fun k a i hi => by rw [h2.2.2 k a i (by omega), h1.2.2 k a i hi]⟩
theorem zEe_k {E E' : Nat → Nat → Int32} {c c0 : Nat} {x : zCh} (h : zEe E c x) (hk : zEk E E' c0) (hc : c < c0) : zEe E' c x := by
  obtain ⟨a1, a2, a3, a4, a5, a6, a7⟩ := h
  refine ⟨by rw [hk.2.1 30 (by decide) (by decide) c hc]; exact a1, by rw [hk.2.1 31 (by decide) (by decide) c hc]; exact a2, by rw [hk.2.1 32 (by decide) (by decide) c hc]; exact a3, by rw [hk.2.1 36 (by decide) (by decide) c hc]; exact a4, by rw [hk.2.1 33 (by decide) (by decide) c hc]; exact a5, a6, fun b y hy => ?_⟩
  have := (List.getElem?_eq_some_iff.mp hy).1
  rw [hk.2.2 34 (by decide) (10 * c + b) (by omega), hk.2.2 35 (by decide) (10 * c + b) (by omega)]
  exact a7 b y hy
theorem zEn_nil {E : Nat → Nat → Int32} {c : Nat} : zEn E E c [] := ⟨zEk_r, fun i x h => by simp at h⟩
theorem zEn_app {E E1 E2 : Nat → Nat → Int32} {c : Nat} {a b : List zCh} (h1 : zEn E E1 c a) (h2 : zEn E1 E2 (c + a.length) b) : zEn E E2 c (a ++ b) := by
  refine ⟨zEk_t h1.1 h2.1 (by omega), fun i x hx => ?_⟩
  by_cases hi : i < a.length
  · rw [List.getElem?_append_left hi] at hx
    exact zEe_k (h1.2 i x hx) h2.1 (by omega)
  · rw [List.getElem?_append_right (by omega)] at hx
    have := h2.2 (i - a.length) x hx
    rw [show c + a.length + (i - a.length) = c + i by omega] at this
    exact this
theorem zEn_0 {S0 : zTS} {E E' : Nat → Nat → Int32} {c : Nat} (h : zEk E E' c) (h0 : zE0 S0 E) : zE0 S0 E' := fun k hk => by rw [h.1 k (by omega)]; exact h0 k hk
/-- how deep, after parts of depth D at level u -/
def zdx (dp u D : Nat) : Nat := if D = 0 then dp else max dp (u + D)
theorem zdx_0 {dp u : Nat} : zdx dp u 0 = dp := rfl
theorem zdx_max {dp u a b : Nat} : zdx (zdx dp u a) u b = zdx dp u (max a b) := by
  unfold zdx
  split <;> split <;> split <;> omega
def zmk : (d : Nat) → zLf → zN d
  | 0, q => q
  | _ + 1, q => .inl q
def zon (tp : Nat → Int32) (n : Nat) : (d : Nat) → Bool → zRh → Nat ⊕ (zN d × zRh)
  | 0, _ => fun r => match zr0 tp n r with | .inl e => .inl e | .inr (.inl x) => .inr x | .inr (.inr _) => .inl (r.1 + 2)
  | d + 1, pl => fun r => match zr0 tp n r with | .inl e => .inl e | .inr (.inl (q, r1)) => .inr (.inl q, r1) | .inr (.inr (a, c)) => zrC tp n (zrd tp n d) pl r a c
theorem zrd_e {tp : Nat → Int32} {n d : Nat} {pl : Bool} : zrd tp n d pl = zrL tp n (zmk d) (zon tp n d pl) pl (n + 1) := by cases d <;> rfl
theorem zlL_pos : ∀ q : zLf, 1 ≤ (zlL q).length
  | (0, _, _) => Nat.le_refl 1
  | (1, _, _) => Nat.le_refl 1
  | (2, _, _, _) => by show 1 ≤ 3; decide
  | (3, _, _, _) => by show 1 ≤ 4; decide
  | (t + 4, _, a, g, w, l, m) => by show 1 ≤ (123 :: nI (65 + a) :: 110 :: (zpl g w l m ++ [125])).length; simp
theorem znL_ps : ∀ (d : Nat) (q : zN d), 1 ≤ (znL d q).length
  | 0, q => zlL_pos q
  | d + 1, .inl q => zlL_pos q
  | d + 1, .inr (k, a, bs) => by show 1 ≤ (123 :: nI (65 + a) :: (if k then 112 else 103) :: (_ ++ [125])).length; simp
theorem zmk_L (d : Nat) (q : zLf) : znL d (zmk d q) = zlL q := by cases d <;> rfl
theorem zmk_M (d : Nat) (q : zLf) : znM d (zmk d q) = 1 := by cases d <;> rfl
theorem zmk_D (d : Nat) (q : zLf) : znD d (zmk d q) = 0 := by cases d <;> rfl
theorem zmk_c (d u p : Nat) (q : zLf) : zcN d u p (zmk d q) = [] := by cases d <;> rfl
section TR3
variable {D : zD} {o : Nat} {A : Nat → Nat} {S0 : zTS} {I : zM} {n : Nat}
def zRM (D : zD) (o : Nat) (A : Nat → Nat) (S0 : zTS) (I : zM) (n d : Nat) : Prop :=
  ∀ (pl : Bool) (u : Nat) (r : zRh) (m dp : Nat) (S : zTS) (E : Nat → Nat → Int32) (dd : Nat) (post : Int32 → zM → Prop), u + d = 3 → d < dd → zrd9 S0 E n S r m dp → zE0 S0 E → m ≤ r.1 → dp ≤ 3 →
    (∀ e S', zrd (E 7) n d pl r = .inl e → S'.1 23 = nI e → e ≤ n → zfr S0 S' → post 0 (tm o A S' I)) →
    (∀ t r' S' E', zrd (E 7) n d pl r = .inr (t, r') → zrd9 S0 E' n S' r' (m + ztM d t) (zdx dp u (ztD d t)) → m + ztM d t ≤ r'.1 → zEn E E' r.2.1 (zcs d u r.1 t) → r'.1 = r.1 + (ztL d t).length → r'.2.1 = r.2.1 + (zcs d u r.1 t).length → zdx dp u (ztD d t) ≤ 3 → post 1 (tm o A S' I)) →
    wp_X9_readsMessage D dd post o (nI u) (b1 pl) (tm o A S I)
def zRB (D : zD) (o : Nat) (A : Nat → Nat) (S0 : zTS) (I : zM) (n d : Nat) : Prop :=
  ∀ (pl : Bool) (u : Nat) (r : zRh) (m dp : Nat) (S : zTS) (E : Nat → Nat → Int32) (dd : Nat) (post : Int32 → zM → Prop), u + d = 3 → d ≤ dd → zrd9 S0 E n S r m dp → zE0 S0 E → m ≤ r.1 → dp ≤ 3 → r.1 < n →
    (∀ e S', zon (E 7) n d pl r = .inl e → S'.1 23 = nI e → e ≤ n → zfr S0 S' → post 0 (tm o A S' I)) →
    (∀ q r' S' E', zon (E 7) n d pl r = .inr (q, r') → zrd9 S0 E' n S' r' (m + znM d q - 1) (zdx dp u (znD d q)) → m + znM d q ≤ r'.1 → zEn E E' r.2.1 (zcN d u r.1 q) → r'.1 = r.1 + (znL d q).length → r'.2.1 = r.2.1 + (zcN d u r.1 q).length → zdx dp u (znD d q) ≤ 3 → 1 ≤ znM d q → post 1 (tm o A S' I)) →
    wp_X9_readsBrace D (wp_X9_readsMessage D dd) post o (nI u) (b1 pl) (tm o A S I)
theorem zRM_of {d : Nat} (hT : tok D o A) (hB : zRB D o A S0 I n d) : zRM D o A S0 I n d := by
  intro pl u r m dp S E dd post hu hdd h hE hm hdp hf hok
  obtain ⟨dd, rfl⟩ : ∃ x, dd = x + 1 := ⟨dd - 1, by omega⟩
  rw [zrd_e] at hf hok
  have loop : ∀ (f : Nat) (r : zRh) (m dp : Nat) (S : zTS) (E : Nat → Nat → Int32) (post : Int32 → zM → Prop), n - r.1 < f → zrd9 S0 E n S r m dp → zE0 S0 E → m ≤ r.1 → dp ≤ 3 →
      (∀ e S', zrL (E 7) n (zmk d) (zon (E 7) n d pl) pl f r = .inl e → S'.1 23 = nI e → e ≤ n → zfr S0 S' → post 0 (tm o A S' I)) →
      (∀ t r' S' E', zrL (E 7) n (zmk d) (zon (E 7) n d pl) pl f r = .inr (t, r') → zrd9 S0 E' n S' r' (m + ztM d t) (zdx dp u (ztD d t)) → m + ztM d t ≤ r'.1 → zEn E E' r.2.1 (zcs d u r.1 t) → r'.1 = r.1 + (ztL d t).length → r'.2.1 = r.2.1 + (zcs d u r.1 t).length → zdx dp u (ztD d t) ≤ 3 → post 1 (tm o A S' I)) →
      wp_X9_readsMessage_L0 D (wp_X9_readsMessage D dd) post o f (nI u) (b1 pl) (tm o A S I) := by
    intro f
    induction f with
    | zero => intro r m dp S E post hf; omega
    | succ f ih =>
      intro r m dp S E post hn h hE hm hdp hf hok
      rw [zrL] at hf hok
      have a24 := h.2.2.2.2.2.2.2.2.1
      have a23 := h.2.2.2.1
      have hn120 := h.2.2.2.2.2.2.2.2.2.2.2.1
      have h13 := h.2.2.2.2.2.2.2.2.2.2.2.2.1
      -- one letter
      have one : ∀ q : zLf, zlL q = [zhr (E 7) n r.1] → zhr (E 7) n r.1 ≠ -1 → (∀ e S', zrL (E 7) n (zmk d) (zon (E 7) n d pl) pl f (r.1 + 1, r.2) = .inl e → S'.1 23 = nI e → e ≤ n → zfr S0 S' → post 0 (tm o A S' I)) →
          (∀ t r' S' E', zrL (E 7) n (zmk d) (zon (E 7) n d pl) pl f (r.1 + 1, r.2) = .inr (t, r') → zrd9 S0 E' n S' r' (m + ztM d (zmk d q :: t)) (zdx dp u (ztD d (zmk d q :: t))) → m + ztM d (zmk d q :: t) ≤ r'.1 → zEn E E' r.2.1 (zcs d u r.1 (zmk d q :: t)) → r'.1 = r.1 + (ztL d (zmk d q :: t)).length → r'.2.1 = r.2.1 + (zcs d u r.1 (zmk d q :: t)).length → zdx dp u (ztD d (zmk d q :: t)) ≤ 3 → post 1 (tm o A S' I)) →
          wp_X9_readsMessage_L22 D (wp_X9_readsMessage D dd) post o (wp_X9_readsMessage_L0 D (wp_X9_readsMessage D dd) post o f) (nI u) (b1 pl) (tm o A S I) := by
        intro q hq hne g1 g2
        have hlt : r.1 < n := zhr_n (tp := E 7) hne
        unfold wp_X9_readsMessage_L22 wp_X9_readsMessage_L54
        simp (disch := first | decide | omega) only [tgI, tgR, tzd, taI hT, tsI hT, tp hT, tF_s, tF_n, tA_F, tF_A, tA_s, tA_n, tA_R, tsz, m8, m5, m6, m10, m30, m120, nI_1, nI_add, clT, vinT, true_and, updS, updN, if_true, a23, a24]
        have h2 := zrd9_m (m' := m + 1) (zrd9_at (p := r.1 + 1) h hlt)
        have eM : ∀ t, ztM d (zmk d q :: t) = 1 + ztM d t := fun t => by unfold ztM; rw [List.map_cons, List.sum_cons, zmk_M]
        have eD : ∀ t, ztD d (zmk d q :: t) = ztD d t := fun t => by unfold ztD zmx; rw [List.map_cons, List.foldr_cons, zmk_D, Nat.zero_max]
        have eL : ∀ t, ztL d (zmk d q :: t) = zhr (E 7) n r.1 :: ztL d t := fun t => by unfold ztL; rw [List.flatMap_cons, zmk_L, hq]; rfl
        have eC : ∀ t, zcs d u r.1 (zmk d q :: t) = zcs d u (r.1 + 1) t := fun t => by unfold zcs; rw [zalg, zmk_c, List.nil_append, zmk_L, hq]; rfl
        refine ih (r.1 + 1, r.2) (m + 1) dp _ E post (by show n - (r.1 + 1) < f; omega) h2 hE (by show m + 1 ≤ r.1 + 1; omega) hdp g1 fun t r' S' E' k1 k2 k3 k4 k5 k6 k7 => ?_
        refine g2 t r' S' E' k1 ?_ ?_ ?_ ?_ ?_ ?_
        · rw [eM, eD, ← Nat.add_assoc]; exact k2
        · rw [eM, ← Nat.add_assoc]; exact k3
        · rw [eC]; exact k4
        · rw [eL, List.length_cons, k5]; show r.1 + 1 + _ = _; omega
        · rw [eC]; exact k6
        · rw [eD]; exact k7
      unfold wp_X9_readsMessage_L0
      refine ⟨tis _ (by decide), t_here hT h (t_isSign (ifb (fun e => ?_) (fun e => ?_)))⟩
      · simp only [e, Bool.true_or, if_true] at hf hok
        refine one (0, zhr (E 7) n r.1, 0, false, 0, 0, 0) rfl (fun z => by rw [z] at e; exact absurd e (by decide)) (fun e2 S' k => hf e2 S' (by rw [k])) (fun t r' S' E' k => hok _ r' S' E' (by rw [k]))
      · simp only [e, Bool.false_or] at hf hok
        have h35 : zhr (E 7) n r.1 ≠ 35 ∨ pl = false → wp_X9_readsMessage_L35 D (wp_X9_readsMessage D dd) post o (wp_X9_readsMessage_L0 D (wp_X9_readsMessage D dd) post o f) (nI u) (b1 pl) (zhr (E 7) n r.1) (tm o A S I) := by
          intro hc
          have hcf : (decide (zhr (E 7) n r.1 = 35) && pl) = false := by
            rcases hc with hc | hc
            · rw [decide_eq_false hc]; rfl
            · rw [hc, Bool.and_false]
          rw [hcf] at hf hok
          simp only [Bool.false_eq_true, if_false] at hf hok
          unfold wp_X9_readsMessage_L35
          refine ⟨fun z => ⟨rfl, ?_⟩, fun z => ⟨tis _ (by decide), ?_⟩⟩
          · rw [if_neg z] at hok
            refine hok [] r S E rfl h hm zEn_nil rfl rfl hdp
          · rw [if_pos z] at hf hok
            have hlt : r.1 < n := zhr_n (tp := E 7) (by rw [z]; decide)
            refine hB pl u r m dp S E dd _ hu (by omega) h hE hm hdp hlt (fun e2 S' k1 k2 k3 k4 => ⟨fun y => absurd rfl y, fun _ => ⟨rfl, hf e2 S' (by rw [k1]) k2 k3 k4⟩⟩) fun q r1 S1 E1 k1 k2 k3 k4 k5 k6 k7 k8 => ⟨fun _ => ?_, fun y => absurd y (by decide)⟩
            unfold wp_X9_readsMessage_L54
            have b24 := k2.2.2.2.2.2.2.2.2.1
            have b13 := k2.2.2.2.2.2.2.2.2.2.2.2.2.1
            simp (disch := first | decide | omega) only [tgI, tgR, tzd, taI hT, tsI hT, tp hT, tF_s, tF_n, tA_F, tF_A, tA_s, tA_n, tA_R, tsz, m8, m5, m6, m10, m30, m120, nI_1, nI_add, clT, vinT, true_and, updS, updN, if_true, b24]
            rw [show m + znM d q - 1 + 1 = m + znM d q by omega]
            have h2 := zrd9_m (m' := m + znM d q) k2
            have e7 : E1 7 = E 7 := k4.1.1 7 (by decide)
            have hps := znL_ps d q
            refine ih r1 (m + znM d q) (zdx dp u (znD d q)) _ E1 post (by omega) h2 (zEn_0 k4.1 hE) k3 k7 (fun e2 S' j1 => hf e2 S' (by rw [k1]; simp only; rw [← e7, j1])) fun t r' S' E' j1 j2 j3 j4 j5 j6 j7 => ?_
            rw [e7] at j1
            refine hok (q :: t) r' S' E' (by rw [k1]; simp only; rw [j1]) ?_ ?_ ?_ ?_ ?_ ?_
            · have : ztM d (q :: t) = znM d q + ztM d t := by unfold ztM; rw [List.map_cons, List.sum_cons]
              have e2 : ztD d (q :: t) = max (znD d q) (ztD d t) := by unfold ztD zmx; rw [List.map_cons, List.foldr_cons]
              rw [this, e2, ← zdx_max, ← Nat.add_assoc]; exact j2
            · have : ztM d (q :: t) = znM d q + ztM d t := by unfold ztM; rw [List.map_cons, List.sum_cons]
              rw [this, ← Nat.add_assoc]; exact j3
            · have : zcs d u r.1 (q :: t) = zcN d u r.1 q ++ zcs d u r1.1 t := by unfold zcs; rw [zalg, k5]
              rw [this]
              refine zEn_app k4 ?_
              rw [← k6]; exact j4
            · have : ztL d (q :: t) = znL d q ++ ztL d t := by unfold ztL; rw [List.flatMap_cons]
              rw [this, List.length_append, j5, k5, Nat.add_assoc]
            · have : zcs d u r.1 (q :: t) = zcN d u r.1 q ++ zcs d u r1.1 t := by unfold zcs; rw [zalg, k5]
              rw [this, List.length_append, j6, k6, Nat.add_assoc]
            · have e2 : ztD d (q :: t) = max (znD d q) (ztD d t) := by unfold ztD zmx; rw [List.map_cons, List.foldr_cons]
              rw [e2, ← zdx_max]; exact j7
        refine ifn (fun z => ifc (fun y => h35 (Or.inr (b1_0.mp y))) (fun y => ?_)) (fun z => h35 (Or.inl z))
        have hpl := b1_n y
        rw [z, hpl] at hf hok
        simp only [decide_true, Bool.true_and, if_true] at hf hok
        refine one (1, 0, 0, false, 0, 0, 0) (by rw [z]; rfl) (by rw [z]; decide) (fun e2 S' k => hf e2 S' (by rw [hpl] at k; rw [k])) (fun t r' S' E' k => hok _ r' S' E' (by rw [hpl] at k; rw [k]; rfl))
  exact ⟨n + 1, loop (n + 1) r m dp S E post (by omega) h hE hm hdp hf hok⟩
end TR3
