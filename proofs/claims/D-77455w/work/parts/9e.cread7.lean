/-! the component's reader: a part of one letter; what is to be shown of the rest -/
def zLk (I : zM) (ca : List Nat) (cs : List zCh) : Prop := ca.length = cs.length ∧ ∀ (i : Nat) (x : zCh), cs[i]? = some x → ∃ a, ca[i]? = some a ∧ zCh0 I a x
theorem zLk_0 {I : zM} : zLk I [] [] := ⟨rfl, fun i x h => by cases h⟩
theorem zLk_m {I I' : zM} {ca : List Nat} {cs : List zCh} (h : zLk I ca cs) (hz : zle I I') : zLk I' ca cs := ⟨h.1, fun i x hx => by obtain ⟨a, h1, h2⟩ := h.2 i x hx; exact ⟨a, h1, zCh0_m hz h2⟩⟩
theorem zLk_a {I : zM} {ca cb : List Nat} {cs ct : List zCh} (h : zLk I ca cs) (h2 : zLk I cb ct) : zLk I (ca ++ cb) (cs ++ ct) := by
  refine ⟨by rw [List.length_append, List.length_append, h.1, h2.1], fun i x hx => ?_⟩
  by_cases hi : i < cs.length
  · rw [List.getElem?_append_left hi] at hx
    rw [List.getElem?_append_left (by rw [h.1]; exact hi)]
    exact h.2 i x hx
  · rw [List.getElem?_append_right (by omega)] at hx
    rw [List.getElem?_append_right (by rw [h.1]; omega), h.1]
    exact h2.2 _ x hx
/-- letters gone through at most -/
def zrm {α : Type} (N p : Nat) (res : Nat ⊕ (α × zRh)) : Nat := match res with
  | .inl _ => N + 1 - p
  | .inr y => y.2.1 - p
/-- one part, of whatever kind -/
def zst1 (tp : Nat → Int32) (n d : Nat) (pl : Bool) (r : zRh) : Nat ⊕ (zN d × zRh) :=
  if zsg (zhr tp n r.1) || (decide (zhr tp n r.1 = 35) && pl) then .inr (zmk d (if zsg (zhr tp n r.1) then (0, zhr tp n r.1, 0, false, 0, 0, 0) else (1, 0, 0, false, 0, 0, 0)), (r.1 + 1, r.2)) else zon tp n d pl r
def zbg (tp : Nat → Int32) (n : Nat) (pl : Bool) (r : zRh) : Bool := zsg (zhr tp n r.1) || (decide (zhr tp n r.1 = 35) && pl) || decide (zhr tp n r.1 = 123)
def zglu {α : Type} (s : Nat ⊕ (α × zRh)) (g : zRh → Nat ⊕ (List α × zRh)) : Nat ⊕ (List α × zRh) := match s with
  | .inl e => .inl e
  | .inr (q, r1) => match g r1 with | .inl e => .inl e | .inr (t, r2) => .inr (q :: t, r2)
theorem zglu_1 {α : Type} {e : Nat} {g : zRh → Nat ⊕ (List α × zRh)} : zglu (.inl e) g = .inl e := rfl
theorem zglu_2 {α : Type} {q : α} {r1 : zRh} {e : Nat} {g : zRh → Nat ⊕ (List α × zRh)} (h : g r1 = .inl e) : zglu (.inr (q, r1)) g = .inl e := by unfold zglu; simp only [h]
theorem zglu_3 {α : Type} {q : α} {r1 r2 : zRh} {t : List α} {g : zRh → Nat ⊕ (List α × zRh)} (h : g r1 = .inr (t, r2)) : zglu (.inr (q, r1)) g = .inr (q :: t, r2) := by unfold zglu; simp only [h]
theorem zrL_s {tp : Nat → Int32} {n d f : Nat} {pl : Bool} {r : zRh} : zrL tp n (zmk d) (zon tp n d pl) pl (f + 1) r = if zbg tp n pl r then zglu (zst1 tp n d pl r) (zrL tp n (zmk d) (zon tp n d pl) pl f) else .inr ([], r) := by
  rw [zrL]
  unfold zbg zst1 zglu
  cases e : (zsg (zhr tp n r.1) || (decide (zhr tp n r.1 = 35) && pl)) with
  | true =>
    simp only [Bool.true_or, if_true]
    cases zrL tp n (zmk d) (zon tp n d pl) pl f (r.1 + 1, r.2) with
    | inl e => rfl
    | inr y => obtain ⟨t, r2⟩ := y; rfl
  | false =>
    simp only [Bool.false_or, Bool.false_eq_true, if_false, decide_eq_true_eq]
    by_cases h : zhr tp n r.1 = 123
    · rw [if_pos h, if_pos h]
      cases zon tp n d pl r with
      | inl e => rfl
      | inr y =>
        obtain ⟨q, r1⟩ := y
        simp only
        cases zrL tp n (zmk d) (zon tp n d pl) pl f r1 with
        | inl e => rfl
        | inr y => obtain ⟨t, r2⟩ := y; rfl
    · rw [if_neg h, if_neg h]
theorem zcs_app {d u p : Nat} {a b : List (zN d)} : zcs d u p (a ++ b) = zcs d u p a ++ zcs d u (p + (ztL d a).length) b := by
  unfold zcs ztL
  rw [zalg_app, flen]
theorem zcs_1 {d u p : Nat} {x : zN d} : zcs d u p [x] = zcN d u p x := by
  unfold zcs
  rw [zalg, zalg, List.append_nil]
section RD7
variable {D : zD} {X : zSg} {B : Nat → Nat} {I0 M0 I M : zM} {q : Nat × Nat × Nat × Nat} {E : Nat} {r : zRh} {cnt nest pld : Nat} {ca : List Nat}
theorem znd_i : ∀ {d a : Nat} {x : zN d}, zNd I d a x → zis I a (zok 5)
  | 0, a, (0, c, r), h => cis (show I a = some (.inr (21, [.int c])) from h) (by decide)
  | 0, a, (1, c, r), h => cis (show I a = some (.inr (12, [])) from h) (by decide)
  | 0, a, (2, c, x, r), h => cis (show I a = some (.inr (14, [.int (nI x)])) from h) (by decide)
  | 0, a, (3, c, x, r), h => cis (show I a = some (.inr (15, [.int (nI x)])) from h) (by decide)
  | 0, a, (t + 4, c, x, g, w, l, m), h => by obtain ⟨p, h1, -⟩ := h; exact cis h1 (by decide)
  | d + 1, a, .inl (0, c, r), h => cis (show I a = some (.inr (21, [.int c])) from h) (by decide)
  | d + 1, a, .inl (1, c, r), h => cis (show I a = some (.inr (12, [])) from h) (by decide)
  | d + 1, a, .inl (2, c, x, r), h => cis (show I a = some (.inr (14, [.int (nI x)])) from h) (by decide)
  | d + 1, a, .inl (3, c, x, r), h => cis (show I a = some (.inr (15, [.int (nI x)])) from h) (by decide)
  | d + 1, a, .inl (t + 4, c, x, g, w, l, m), h => by obtain ⟨p, h1, -⟩ := h; exact cis h1 (by decide)
  | d + 1, a, .inr y, h => by obtain ⟨L, u, h1, -⟩ := h; exact cis h1 (by split <;> decide)
/-- what is to be shown of a brace -/
def zRO (D : zD) (X : zSg) (B : Nat → Nat) (I0 M0 : zM) (d dd : Nat) : Prop := ∀ (pl : Bool) (u pld : Nat) (r : zRh) (cnt : Nat) (ca : List Nat) (q : Nat × Nat × Nat × Nat) (I M : zM) (E : Nat) (post : Option Nat → zM → Prop) (xp : Nat → zM → Prop) (k n : Nat), u + d = 3 → (pl = true ↔ 0 < pld) → pld ≤ u → 1 ≤ cnt →
  zrs D (B 0) I0 M0 q I M E (r.1 + 1, r.2) cnt u pld ca → r.2.1 ≤ 8 → zhr (ztp X) X.2.1.length r.1 = 123 → 8 * zrm X.2.1.length r.1 (zon (ztp X) X.2.1.length d pl r) ≤ k + 2 → 1000 * zrm X.2.1.length r.1 (zon (ztp X) X.2.1.length d pl r) ≤ n + 400 →
  (∀ e, zon (ztp X) X.2.1.length d pl r = .inl e → zxr D M0 (-1000 - nI e) xp) →
  (∀ x r', zon (ztp X) X.2.1.length d pl r = .inr (x, r') → ∀ a I' M' E' ca', zrs D (B 0) I0 M0 q I' M' E' r' (cnt + znM d x - 1) u pld (ca ++ ca') → zsx q E I M E' I' M' → zNd I' d a x → zLk I' ca' (zcN d u r.1 x) → r'.2.1 ≤ 8 → post (some a) M') →
  zis M q.1 [9] ∧ wp_X10_braced D (wp_X10_parts D dd) post xp k n q.1 M
/-- what is to be shown of parts -/
def zRP (D : zD) (X : zSg) (B : Nat → Nat) (I0 M0 : zM) (d dd : Nat) : Prop := ∀ (pl : Bool) (u pld : Nat) (r : zRh) (cnt : Nat) (ca : List Nat) (q : Nat × Nat × Nat × Nat) (I M : zM) (E : Nat) (post : Option Nat → zM → Prop) (xp : Nat → zM → Prop) (k n : Nat), u + d = 3 → (pl = true ↔ 0 < pld) → pld ≤ u →
  zrs D (B 0) I0 M0 q I M E r cnt u pld ca → r.1 ≤ X.2.1.length → r.2.1 ≤ 8 → 8 * zrm X.2.1.length r.1 (zrd (ztp X) X.2.1.length d pl r) + 10 ≤ k → 1000 * zrm X.2.1.length r.1 (zrd (ztp X) X.2.1.length d pl r) + 400 ≤ n →
  (∀ e, zrd (ztp X) X.2.1.length d pl r = .inl e → zxr D M0 (-1000 - nI e) xp) →
  (∀ t r', zrd (ztp X) X.2.1.length d pl r = .inr (t, r') → ∀ b I' M' E' ca', zrs D (B 0) I0 M0 q I' M' E' r' (cnt + ztM d t) u pld (ca ++ ca') → zsx q E I M E' I' M' → zPs I' (zNd I' d) b t → zLk I' ca' (zcs d u r.1 t) → r'.2.1 ≤ 8 → post (some b) M') →
  zis M q.1 [9] ∧ wp_X10_parts D dd post xp k n q.1 M
theorem r_part {d dd : Nat} {pl : Bool} {u : Nat} {post : Option Nat → zM → Prop} {xp : Nat → zM → Prop} {k n : Nat} (hR : RC D X B I0 M0) (hO : zRO D X B I0 M0 d dd) (hu : u + d = 3) (hpl : pl = true ↔ 0 < pld) (hpu : pld ≤ u) (hcnt : 1 ≤ cnt) (h : zrs D (B 0) I0 M0 q I M E r cnt u pld ca) (hr : r.1 ≤ X.2.1.length) (h8 : r.2.1 ≤ 8) (hb : zbg (ztp X) X.2.1.length pl r = true)
    (hk : 8 * zrm X.2.1.length r.1 (zst1 (ztp X) X.2.1.length d pl r) ≤ k + 2) (hn : 1000 * zrm X.2.1.length r.1 (zst1 (ztp X) X.2.1.length d pl r) ≤ n + 400) (hf : ∀ e, zst1 (ztp X) X.2.1.length d pl r = .inl e → zxr D M0 (-1000 - nI e) xp)
    (hp : ∀ x r', zst1 (ztp X) X.2.1.length d pl r = .inr (x, r') → ∀ a I' M' E' ca', zrs D (B 0) I0 M0 q I' M' E' r' (cnt + znM d x - 1) u pld (ca ++ ca') → zsx q E I M E' I' M' → zNd I' d a x → zLk I' ca' (zcN d u r.1 x) → r'.2.1 ≤ 8 → post (some a) M') :
    zis M q.1 [9] ∧ wp_X10_part D (wp_X10_parts D dd) post xp k n q.1 M := by
  refine ⟨r_is h, ?_⟩
  unfold wp_X10_part wp_X10_part_L52
  have h5 := h.2.2.2.2.1
  obtain ⟨k1, k2⟩ := zrs_R (r1 := (r.1 + 1, r.2)) (nest1 := u) (pld1 := pld) h rfl rfl h.2.2.2.2.2.2.2.2.2
  refine r_here hR h hr (cgI h5 rfl (cp h5 h.2.2.2.1.1 (by simp) ?_))
  rw [nI_1]
  simp only [List.set_cons_succ, List.set_cons_zero]
  have hne : zhr (ztp X) X.2.1.length r.1 ≠ -1 := fun z => by
    unfold zbg at hb
    rw [z] at hb
    exact absurd hb (by cases pl <;> decide)
  have hr1 := pos_n rfl hne
  unfold zst1 at hk hn hf hp
  unfold zbg at hb
  have mkN : ∀ (q : zLf) (I : zM) (a : Nat), zLe I a q → zNd I d a (zmk d q) := by intro q I a hq; cases d <;> exact hq
  refine ⟨fun z => ⟨fun z2 => ?_, fun z2 => ?_⟩, fun z => ?_⟩
  · have e1 : zsg (zhr (ztp X) X.2.1.length r.1) = true := by
      rw [decide_eq_false z, decide_eq_false z2, Bool.false_and, Bool.or_false, Bool.or_false] at hb
      exact hb
    rw [e1, Bool.true_or, if_pos rfl, if_pos rfl] at hk hn hp
    have hz : zrm X.2.1.length r.1 ((.inr (zmk d (0, zhr (ztp X) X.2.1.length r.1, 0, false, 0, 0, 0), (r.1 + 1, r.2))) : Nat ⊕ (zN d × zRh)) = r.1 + 1 - r.1 := rfl
    rw [hz] at hk hn
    refine ⟨by omega, by omega, fun b hb hb0 => ?_⟩
    unfold wp_X24_init
    refine cp0 hb0 (by simp) ?_
    have := hp _ _ rfl b _ _ E [] (by rw [List.append_nil, zmk_M, Nat.add_sub_cancel]; exact zrs_n (e := .inr (21, [.int (zhr (ztp X) X.2.1.length r.1)])) k1 hb) (zsx_n k2 hb) (mkN _ _ _ zu_s) (by rw [zmk_c]; exact zLk_0) h8
    exact this
  · rw [z2] at hk hn hf hp
    have e1 : zsg 123 = false := by decide
    have e2 : decide ((123 : Int32) = 35) = false := by decide
    rw [e1, e2, Bool.false_or, Bool.false_and, if_neg (by decide)] at hk hn hf hp
    have main := hO pl u pld r cnt ca q I _ E post xp k n hu hpl hpu hcnt k1 h8 z2 hk hn hf (fun x r' hx a I' M' E' ca' y1 y2 y3 y4 y5 => hp x r' hx a I' M' E' ca' y1 (zsx_t k2 y2) y3 y4 y5)
    exact ⟨main.1, k, n, Nat.le_refl _, Nat.le_refl _, main.2⟩
  · have e1 : zsg 35 = false := by decide
    have e2 : decide ((35 : Int32) = 35) = true := by decide
    have e3 : decide ((35 : Int32) = 123) = false := by decide
    rw [z, e1, e2, e3, Bool.false_or, Bool.true_and, Bool.or_false] at hb
    rw [z] at hk hn hp
    rw [e1, e2, hb, Bool.false_or, Bool.true_and, if_pos rfl, if_neg (by decide)] at hk hn hp
    have hz : zrm X.2.1.length r.1 ((.inr (zmk d (1, 0, 0, false, 0, 0, 0), (r.1 + 1, r.2))) : Nat ⊕ (zN d × zRh)) = r.1 + 1 - r.1 := rfl
    rw [hz] at hk hn
    refine ⟨by omega, by omega, fun b hb hb0 => ?_⟩
    have := hp _ _ rfl b _ _ E [] (by rw [List.append_nil, zmk_M, Nat.add_sub_cancel]; exact zrs_n (e := .inr (12, [])) k1 hb) (zsx_n k2 hb) (mkN _ _ _ zu_s) (by rw [zmk_c]; exact zLk_0) h8
    exact this
end RD7
