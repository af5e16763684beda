/-! the component writes a message's tree -/
section SH5
variable {D : zD} {M0 M : zM} {s b L : Nat} {T h : Option Nat} {txt : List Int32} {own : List zCo} {l Tt : Nat} {th : Nat → zTh}
def zQc (M0 : zM) (pl : Bool) (pq : Int32 × Nat) (h : Option Nat) : Prop := pl = true → ∃ c, h = some c ∧ zDe M0 c pq.1 pq.2 ∧ pq.2 ≤ 6
def zdis (D : zD) (P : (Unit → zM → Prop) → (Nat → zM → Prop) → Nat → Nat → Nat → Option Nat → zM → Prop) (Q : Nat → Nat → zM → Prop) (xp : Nat → zM → Prop) (k n a : Nat) (x1 : Option Nat) (M : zM) : Prop :=
  (zis M a [12] ∧ wp_X14_write D (fun _ M => Q k n M) a x1 M) ∨ (zis M a [14] ∧ (∃ k24 n25, k24 ≤ k ∧ n25 ≤ n ∧ wp_X16_write D (fun _ M => Q (k - k24) (n - n25) M) xp k24 n25 a x1 M)) ∨ (zis M a [15] ∧ (∃ k27 n28, k27 ≤ k ∧ n28 ≤ n ∧ wp_X17_write D (fun _ M => Q (k - k27) (n - n28) M) xp k27 n28 a x1 M)) ∨
    (zis M a [16] ∧ (∃ k30 n31, k30 ≤ k ∧ n31 ≤ n ∧ wp_X18_write D (fun _ M => Q (k - k30) (n - n31) M) xp k30 n31 a x1 M)) ∨ (zis M a [18] ∧ (∃ k33 n34, k33 ≤ k ∧ n34 ≤ n ∧ wp_X21_write D P (fun _ M => Q (k - k33) (n - n34) M) xp k33 n34 a x1 M)) ∨
    (zis M a [19] ∧ (∃ k36 n37, k36 ≤ k ∧ n37 ≤ n ∧ wp_X22_write D P (fun _ M => Q (k - k36) (n - n37) M) xp k36 n37 a x1 M)) ∨ (zis M a [21] ∧ wp_X24_write D (fun _ M => Q k n M) a x1 M)
/-- what the writer has at hand -/
def zcw (D : zD) (M0 : zM) (L : Nat) (T : Option Nat) (own : List zCo) (l Tt : Nat) (th : Nat → zTh) : Prop := zJs D M0 ∧ zla D M0 L l ∧ zLa M0 L (zLc l) (zof own l) Tt ∧ zTs M0 T th
theorem zsg_b {c : Int32} (h : zsg c = true) : zb c 128 = true := by
  unfold zsg at h
  rw [Bool.or_eq_true, Bool.or_eq_true, Bool.or_eq_true, decide_eq_true_eq, decide_eq_true_eq, decide_eq_true_eq] at h
  rcases h with ((h | h) | h) | h
  · unfold zin at h
    rw [Bool.and_eq_true, decide_eq_true_eq, decide_eq_true_eq, Int64.le_iff_toInt_le, Int64.le_iff_toInt_le, Int32.toInt_toInt64] at h
    have x1 : (97 : Int64).toInt = 97 := by decide
    have x4 : (122 : Int64).toInt = 122 := by decide
    unfold zb
    rw [Bool.and_eq_true, decide_eq_true_eq, decide_eq_true_eq]
    omega
  · subst h; decide
  · subst h; decide
  · subst h; decide
theorem c_leaf {P : (Unit → zM → Prop) → (Nat → zM → Prop) → Nat → Nat → Nat → Option Nat → zM → Prop} {Q : Nat → Nat → zM → Prop} {xp : Nat → zM → Prop} {k n a : Nat} {pl : Bool} {pq : Int32 × Nat} {q : zLf} (hC : zcw D M0 L T own l Tt th) (hq : zLe M0 a q) (hw : zwfF pl q) (hpl : zQc M0 pl pq h)
    (hs : she D M0 s b L T h txt M) (hl : txt.length ≤ 240) (hk : 12 ≤ k) (hn : 80 ≤ n) (h0 : (zwF l th pq q txt).1 = 0 → ∀ k' n' M', k ≤ k' + 11 → n ≤ n' + 73 → she D M0 s b L T h (zwF l th pq q txt).2 M' → Q k' n' M') (h1 : (zwF l th pq q txt).1 ≠ 0 → zxp D M0 s b L T (zwF l th pq q txt).1 xp) :
    zdis D P Q xp k n a (some s) M ∧ ∀ w, some a = some w → zis M w [12, 14, 15, 16, 18, 19, 21] := by
  obtain ⟨hJ, hla, hLa, hT⟩ := hC
  have e20 : ∀ x : Nat, x < 5 → ¬ (-20 - nI x : Int32) = 0 := by
    intro x hx
    match x, hx with
    | 0, _ => decide
    | 1, _ => decide
    | 2, _ => decide
    | 3, _ => decide
    | 4, _ => decide
  match q, hq, hw with
  | (0, c, r), hq, hw =>
    have hq' : M0 a = some (.inr (21, [.int c])) := hq
    refine ⟨Or.inr (Or.inr (Or.inr (Or.inr (Or.inr (Or.inr ⟨cis (she_l hs _ _ hq') (by decide), ?_⟩))))), fun w e => by cases e; exact cis (she_l hs _ _ hq') (by decide)⟩
    unfold wp_X24_write
    exact cgI (she_l hs _ _ hq') rfl (czd (c_put hs (zsg_b hw) (by omega) fun M' hs' => h0 rfl k n M' (by omega) (by omega) hs'))
  | (1, c, r), hq, hw =>
    have hq' : M0 a = some (.inr (12, [])) := hq
    refine ⟨Or.inl ⟨cis (she_l hs _ _ hq') (by decide), ?_⟩, fun w e => by cases e; exact cis (she_l hs _ _ hq') (by decide)⟩
    obtain ⟨c', hc1, hc2, hc3⟩ := hpl hw
    subst hc1
    unfold wp_X14_write
    exact czd (she_h hs (c_plainly hc2 hc3 hla hs (by omega) fun M' hs' => h0 rfl k n M' (by omega) (by omega) hs'))
  | (2, c, x, r), hq, ha =>
    have hq' : M0 a = some (.inr (14, [.int (nI x)])) := hq
    have ha' : x < 5 := ha
    refine ⟨Or.inr (Or.inl ⟨cis (she_l hs _ _ hq') (by decide), 11, 73, by omega, by omega, ?_⟩), fun w e => by cases e; exact cis (she_l hs _ _ hq') (by decide)⟩
    have hz : zwF l th pq (2, c, x, r) txt = if (th x).1 = 0 then (-20 - nI x, txt) else (0, txt ++ ztx l (th x)) := rfl
    rw [hz] at h0 h1
    refine c_wthing hT ⟨14, 0, _, by decide, hq', rfl⟩ (cis hq' (by decide)) ha' (by decide) (by decide) hJ hla hs hl (fun z => ?_) (fun z M' hs' => ?_)
    · rw [if_pos z] at h1
      exact h1 (e20 x ha')
    · rw [if_neg z] at h0
      exact h0 rfl _ _ M' (by omega) (by omega) hs'
  | (3, c, x, r), hq, ha =>
    have hq' : M0 a = some (.inr (15, [.int (nI x)])) := hq
    have ha' : x < 5 := ha
    refine ⟨Or.inr (Or.inr (Or.inl ⟨cis (she_l hs _ _ hq') (by decide), 11, 73, by omega, by omega, ?_⟩)), fun w e => by cases e; exact cis (she_l hs _ _ hq') (by decide)⟩
    have hz : zwF l th pq (3, c, x, r) txt = if (th x).1 = 3 then (0, txt ++ ztx l (th x)) else (-20 - nI x, txt) := rfl
    rw [hz] at h0 h1
    have hx : (th x).1 ≠ 3 → zxp D M0 s b L T (-20 - nI x) xp := fun z => by
      rw [if_neg z] at h1
      exact h1 (e20 x ha')
    have hpa : zPa M0 a x := ⟨15, 0, _, by decide, hq', rfl⟩
    unfold wp_X17_write
    refine ⟨cis (she_l hs _ _ hq') (by decide), 1, 7, by decide, by decide, c_thing hT hpa ha' (Nat.le_refl _) (Nat.le_refl _) hs (fun z => hx (by omega)) fun t ht hne => ?_⟩
    by_cases z3 : (th x).1 = 3
    · rw [if_pos z3] at h0
      obtain ⟨-, y2, y3, w, e, c', g, q1, -⟩ := zTg_lt ht z3
      cases e
      refine Or.inl ⟨t, _, rfl, she_l hs _ _ q1, cgI (she_l hs _ _ hq') rfl ⟨0, 0, by decide, by decide, c_need1 ⟨_, she_l hs _ _ hq', 8, 50, by decide, by decide, c_wthing hT hpa (cis hq' (by decide)) ha' (by decide) (by decide) hJ hla hs hl (fun z => by omega) fun z M' hs' => h0 rfl _ _ M' (by omega) (by omega) hs'⟩⟩⟩
    · refine Or.inr ⟨fun w e => ?_, cgI (she_l hs _ _ hq') rfl ⟨1, 7, by decide, by decide, c_need0 (Nat.le_refl _) (Nat.le_refl _) (hx z3) hs⟩⟩
      cases e
      rcases ht with ⟨z, -⟩ | ⟨z1, z2, w, c, e, z4, z5⟩ | ⟨z1, z2, w, g, e, z4, z5, z6⟩ | ⟨z, -⟩
      · exact absurd z hne
      · cases e; exact cis (she_l hs _ _ z4) (by decide)
      · cases e; exact cis (she_l hs _ _ z4) (by decide)
      · exact absurd z z3
  | (t + 4, c, x, g, w, e, m), hq, hw =>
    obtain ⟨ht, ha', hw1, hw4, he, hm⟩ := hw
    obtain ⟨p, hq', hq2⟩ := hq
    refine ⟨Or.inr (Or.inr (Or.inr (Or.inl ⟨cis (she_l hs _ _ hq') (by decide), 11, 73, by omega, by omega, ?_⟩))), fun w e => by cases e; exact cis (she_l hs _ _ hq') (by decide)⟩
    have hz : zwF l th pq (t + 4, c, x, g, w, e, m) txt = if (th x).1 = 1 then (0, txt ++ zsh l (th x).2.1 (th x).2.2.1 g w e (e + m)) else (-20 - nI x, txt) := rfl
    rw [hz] at h0 h1
    have hx : (th x).1 ≠ 1 → zxp D M0 s b L T (-20 - nI x) xp := fun z => by
      rw [if_neg z] at h1
      exact h1 (e20 x ha')
    unfold wp_X18_write wp_X18_write_L18
    refine cgR (x := some p) (she_l hs _ _ hq') rfl ⟨cis (she_l hs _ _ hq') (by decide), 1, 7, by decide, by decide, c_thing hT ⟨16, 0, _, by decide, hq', rfl⟩ ha' (Nat.le_refl _) (Nat.le_refl _) hs (fun z => hx (by omega)) fun t ht hne => cgI (she_l hs _ _ hq') rfl (czd ?_)⟩
    rcases ht with ⟨z, -⟩ | ⟨z1, z2, w', c', e', z4, z5⟩ | ⟨z1, z2, w', g', e', z4, z5, z6⟩ | ⟨z1, -, -, -, w', c', g', e', z4, -⟩
    · exact absurd z hne
    · cases e'
      rw [if_pos z1] at h0
      refine Or.inl ⟨cis (she_l hs _ _ z4) (by decide), ?_⟩
      unfold wp_X25_decimal
      exact cgR (x := some c') (she_l hs _ _ z4) rfl (czd (c_shaped hq2 z5 z2 hw4 hw1 he hm hla hs (by omega) fun M' hs' => h0 rfl _ _ M' (by omega) (by omega) hs'))
    · cases e'
      exact Or.inr ⟨cis (she_l hs _ _ z4) (by decide), 1, 7, by decide, by decide, c_noDec (Nat.le_refl _) (Nat.le_refl _) (hx (by omega)) hs⟩
    · cases e'
      exact Or.inr ⟨cis (she_l hs _ _ z4) (by decide), 1, 7, by decide, by decide, c_noDec (Nat.le_refl _) (Nat.le_refl _) (hx (by omega)) hs⟩
/-- one part at depth d -/
def zW1 (D : zD) (M0 : zM) (s b L : Nat) (T : Option Nat) (own : List zCo) (l : Nat) (th : Nat → zTh) (d e : Nat) : Prop := ∀ (q : zN d) (a : Nat) (pl : Bool) (pq : Int32 × Nat) (h : Option Nat) (txt : List Int32) (M : zM) (Q : Nat → Nat → zM → Prop) (xp : Nat → zM → Prop) (k n : Nat), zNd M0 d a q → zwfN d pl q → zQc M0 pl pq h → she D M0 s b L T h txt M →
  txt.length ≤ 240 → 12 * znM d q ≤ k → 80 * znM d q ≤ n → ((zwN own l th d pq q txt).1 = 0 → ∀ k' n' M', k ≤ k' + 12 * znM d q - 1 → n ≤ n' + 80 * znM d q - 7 → she D M0 s b L T h (zwN own l th d pq q txt).2 M' → Q k' n' M') → ((zwN own l th d pq q txt).1 ≠ 0 → zxp D M0 s b L T (zwN own l th d pq q txt).1 xp) →
  zdis D (wp_X12_write D e) Q xp k n a (some s) M ∧ ∀ w, some a = some w → zis M w [12, 14, 15, 16, 18, 19, 21]
/-- parts at depth d -/
def zWT (D : zD) (M0 : zM) (s b L : Nat) (T : Option Nat) (own : List zCo) (l : Nat) (th : Nat → zTh) (d e : Nat) : Prop := ∀ (t : List (zN d)) (a : Nat) (pl : Bool) (pq : Int32 × Nat) (h : Option Nat) (txt : List Int32) (M : zM) (post : Unit → zM → Prop) (xp : Nat → zM → Prop) (k n : Nat), zPs M0 (zNd M0 d) a t → zwfT d pl t → zQc M0 pl pq h → she D M0 s b L T h txt M →
  txt.length ≤ 240 → 12 * ztM d t ≤ k → 80 * ztM d t ≤ n → ((zwL (zwN own l th d pq) t txt).1 = 0 → ∀ M', she D M0 s b L T h (zwL (zwN own l th d pq) t txt).2 M' → post () M') → ((zwL (zwN own l th d pq) t txt).1 ≠ 0 → zxp D M0 s b L T (zwL (zwN own l th d pq) t txt).1 xp) →
  zis M a [11] ∧ wp_X12_write D e post xp k n a (some s) M
theorem znM_pos : ∀ (d : Nat) (q : zN d), 1 ≤ znM d q
  | 0, _ => Nat.le_refl 1
  | d + 1, .inl _ => Nat.le_refl 1
  | d + 1, .inr q => Nat.le_add_right 1 _
theorem zW1_0 {e : Nat} (hC : zcw D M0 L T own l Tt th) : zW1 D M0 s b L T own l th 0 e := fun q a pl pq h txt M Q xp k n hq hw hpl hs hl hk hn h0 h1 =>
  c_leaf hC hq hw hpl hs hl hk hn (fun z k' n' M' y1 y2 => h0 z k' n' M' (by show k ≤ k' + 12 * 1 - 1; omega) (by show n ≤ n' + 80 * 1 - 7; omega)) h1
theorem zWT_of {d e : Nat} (h : zW1 D M0 s b L T own l th d e) : zWT D M0 s b L T own l th d (e + 1) := by
  intro t a pl pq hh txt M post xp k n hP hw hpl hs hl hk hn h0 h1
  obtain ⟨Lp, hP1, hP2⟩ := hP
  have loop : ∀ f i : Nat, i ≤ t.length → t.length - i < f → ∀ (txt : List Int32) (M : zM) (k n : Nat), she D M0 s b L T hh txt M → txt.length ≤ 240 → 12 * ztM d (t.drop i) ≤ k → 80 * ztM d (t.drop i) ≤ n → ((zwL (zwN own l th d pq) (t.drop i) txt).1 = 0 → ∀ M', she D M0 s b L T hh (zwL (zwN own l th d pq) (t.drop i) txt).2 M' → post () M') →
      ((zwL (zwN own l th d pq) (t.drop i) txt).1 ≠ 0 → zxp D M0 s b L T (zwL (zwN own l th d pq) (t.drop i) txt).1 xp) → wp_X12_write_L2 D (wp_X12_write D e) post xp a f k n (some s) (nI i) M := by
    intro f
    induction f with
    | zero => intro i _ hf; omega
    | succ f ih =>
      intro i hi hf txt M k n hs hl hk hn h0 h1
      have hP2' := zLs_m (she_l hs) (fun a q _ hq => hq) hP2
      have hlen : t.length < 2 ^ 31 := by obtain ⟨g, ⟨mc, E, cap, -, -, y1, y2⟩, -⟩ := hP2; omega
      unfold wp_X12_write_L2
      refine cgR (x := some Lp) (she_l hs _ _ hP1) rfl (czd (c_size' hP2' ?_))
      rw [nI_leI (by omega) (by omega)]
      refine ⟨fun z => ?_, fun z => ?_⟩
      · rw [List.drop_eq_nil_of_le z, zwL] at h0
        exact h0 rfl M hs
      · obtain ⟨q, hq⟩ : ∃ q, t[i]? = some q := ⟨t[i]'(by omega), List.getElem?_eq_getElem (by omega)⟩
        have hdr : t.drop i = q :: t.drop (i + 1) := by
          rw [List.drop_eq_getElem_cons (by omega)]
          congr 1
          exact Option.some.inj ((List.getElem?_eq_getElem (by omega)).symm.trans hq)
        have hM : ztM d (q :: t.drop (i + 1)) = znM d q + ztM d (t.drop (i + 1)) := by unfold ztM; rw [List.map_cons, List.sum_cons]
        have hpos := znM_pos d q
        rw [hdr] at h0 h1 hk hn
        rw [hM] at hk hn
        rw [zwL] at h0 h1
        refine cgR (x := some Lp) (she_l hs _ _ hP1) rfl (czd (c_get' hP2' hq fun c hc => ?_))
        have main := h q c pl pq hh txt M (fun k' n' M' => wp_X12_write_L28 D (wp_X12_write D e) post xp a (wp_X12_write_L2 D (wp_X12_write D e) post xp a f) k' n' (some s) (nI i) M') xp k n hc (hw q (List.mem_of_getElem? hq)) hpl hs hl (by omega) (by omega) (fun z k' n' M' hk' hn' hs' => ?_) (fun z => ?_)
        · exact ⟨main.2, czd main.1⟩
        · rw [if_neg (by rw [z]; simp)] at h0 h1
          unfold wp_X12_write_L28 wp_X28_checks wp_X28_checks_L15
          have h9 := she_9 hs'
          refine czd ⟨she_i hs', 1, 7, by omega, by omega, she_n hs' ?_⟩
          rw [show (240 : Int32) = nI 240 from rfl, nI_ltI (by decide) (by omega)]
          refine ⟨fun z2 => ⟨1, 7, Nat.le_refl _, Nat.le_refl _, ?_⟩, fun z2 => ⟨0, 0, by omega, by omega, c_need1 ?_⟩⟩
          · rw [if_pos z2] at h1
            exact c_need0 (Nat.le_refl _) (Nat.le_refl _) (h1 (show (-5 : Int32) ≠ 0 by decide)) hs'
          · rw [if_neg z2] at h0 h1
            rw [nI_1]
            exact ih (i + 1) (by omega) (by omega) _ M' _ _ hs' (by omega) (by omega) (by omega) h0 h1
        · rw [if_pos z] at h1
          exact h1 z
  refine ⟨cis (she_l hs _ _ hP1) (by decide), t.length + 1, ?_⟩
  exact loop _ 0 (Nat.zero_le _) (by omega) txt M k n hs hl (by rw [List.drop_zero]; exact hk) (by rw [List.drop_zero]; exact hn) (by rw [List.drop_zero]; exact h0) (by rw [List.drop_zero]; exact h1)
end SH5
