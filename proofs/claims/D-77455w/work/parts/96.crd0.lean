/-! what a reader answers: its text is the tape, and without a lie it is well formed -/
def zax (tp : Nat → Int32) (n p : Nat) (L : List Int32) : Prop := p + L.length ≤ n ∧ ∀ i c, L[i]? = some c → tp (p + i) = c
section ZR
variable {tp : Nat → Int32} {n : Nat}
theorem zax_0 {p : Nat} (h : p ≤ n) : zax tp n p [] := ⟨h, fun i c hc => by cases hc⟩
theorem zax_a {p : Nat} {a b : List Int32} (h1 : zax tp n p a) (h2 : zax tp n (p + a.length) b) : zax tp n p (a ++ b) := by
  refine ⟨by rw [List.length_append, ← Nat.add_assoc]; exact h2.1, fun i c hc => ?_⟩
  by_cases hi : i < a.length
  · rw [List.getElem?_append_left hi] at hc; exact h1.2 i c hc
  · rw [List.getElem?_append_right (by omega)] at hc
    have := h2.2 (i - a.length) c hc
    rw [show p + a.length + (i - a.length) = p + i by omega] at this
    exact this
theorem zhr_t {p : Nat} {c : Int32} (h : zhr tp n p = c) (hc : c ≠ -1) : p < n ∧ tp p = c := by
  have h1 : p < n := zhr_n (by rw [h]; exact hc)
  unfold zhr at h
  rw [if_pos h1] at h
  exact ⟨h1, h⟩
theorem zax_c {p : Nat} {c : Int32} {b : List Int32} (h : zhr tp n p = c) (hc : c ≠ -1) (h2 : zax tp n (p + 1) b) : zax tp n p (c :: b) := by
  obtain ⟨h3, h4⟩ := zhr_t h hc
  refine zax_a (a := [c]) ⟨by simp only [List.length_cons, List.length_nil]; omega, fun i x hx => ?_⟩ h2
  cases i with
  | zero => cases hx; exact h4
  | succ i => cases hx
theorem zax_1 {p : Nat} {c : Int32} (h : zhr tp n p = c) (hc : c ≠ -1) : zax tp n p [c] := zax_c h hc (zax_0 (by have := zhr_t h hc; omega))
theorem zax_n {p : Nat} {c : Int32} {b : List Int32} (h2 : zax tp n p (c :: b)) : zax tp n (p + 1) b ∧ tp p = c := by
  refine ⟨⟨by have := h2.1; simp only [List.length_cons] at this; omega, fun i x hx => ?_⟩, h2.2 0 c rfl⟩
  have := h2.2 (i + 1) x (by simpa using hx)
  rw [show p + (i + 1) = p + 1 + i by omega] at this
  exact this
theorem zcnt_at {c : Int32} (hc : c ≠ -1) : ∀ (mx p : Nat), p ≤ n → zax tp n p (zrp (zcnt tp n c mx p) c)
  | 0, p, hp => zax_0 hp
  | mx + 1, p, hp => by
    unfold zcnt
    split
    · rename_i e
      have h := zhr_t e hc
      show zax tp n p (c :: zrp (zcnt tp n c mx (p + 1)) c)
      exact zax_c e hc (zcnt_at hc mx (p + 1) (by omega))
    · exact zax_0 hp
theorem zpat_at {p q w l k : Nat} {g : Bool} (hp : p ≤ n) (h : zpat tp n p = .inr (q, g, w, l, k)) : zax tp n p (zpl g w l k ++ [125]) := by
  unfold zpat at h
  simp only at h
  obtain ⟨a1, ha1⟩ : ∃ a1, a1 = (if decide (zhr tp n p = 44) then p + 1 else p) := ⟨_, rfl⟩
  rw [← ha1] at h
  have hA : zax tp n p (if decide (zhr tp n p = 44) then [44] else []) ∧ a1 = p + (if decide (zhr tp n p = 44) then ([44] : List Int32) else []).length := by
    by_cases e : zhr tp n p = 44
    · rw [decide_eq_true e] at ha1 ⊢
      exact ⟨zax_1 e (by decide), ha1⟩
    · rw [decide_eq_false e] at ha1 ⊢
      exact ⟨zax_0 hp, ha1⟩
  generalize decide (zhr tp n p = 44) = g' at h hA
  have hW := zcnt_at (tp := tp) (n := n) (c := 48) (by decide) 4 a1 (by have := hA.1.1; omega)
  generalize zcnt tp n 48 4 a1 = w' at h hW
  have hl1 : (zrp w' 48).length = w' := by unfold zrp; exact List.length_replicate
  by_cases c1 : w' = 0
  · rw [if_pos c1] at h; cases h
  rw [if_neg c1] at h
  have hAW : zax tp n p ((if g' then [44] else []) ++ zrp w' 48) := zax_a hA.1 (by rw [← hA.2]; exact hW)
  have hAWl : p + ((if g' then [44] else []) ++ zrp w' (48 : Int32)).length = a1 + w' := by rw [List.length_append, hl1, hA.2]; omega
  by_cases c2 : zhr tp n (a1 + w') = 46
  · rw [if_pos c2] at h
    have hb := zhr_t c2 (by decide)
    have hL := zcnt_at (tp := tp) (n := n) (c := 48) (by decide) 3 (a1 + w' + 1) (by omega)
    generalize zcnt tp n 48 3 (a1 + w' + 1) = l' at h hL
    have hl2 : (zrp l' 48).length = l' := by unfold zrp; exact List.length_replicate
    have hK := zcnt_at (tp := tp) (n := n) (c := 35) (by decide) 3 (a1 + w' + 1 + l') (by have := hL.1; rw [hl2] at this; omega)
    generalize zcnt tp n 35 3 (a1 + w' + 1 + l') = k' at h hK
    have hl3 : (zrp k' 35).length = k' := by unfold zrp; exact List.length_replicate
    by_cases c3 : l' + k' = 0
    · rw [if_pos c3] at h; cases h
    rw [if_neg c3] at h
    by_cases c4 : zhr tp n (a1 + w' + 1 + l' + k') = 125
    · rw [if_pos c4] at h
      cases h
      unfold zpl
      rw [if_neg c3, List.append_assoc]
      refine zax_a hAW ?_
      rw [hAWl]
      refine zax_c c2 (by decide) ?_
      show zax tp n (a1 + w + 1) (zrp l 48 ++ zrp k 35 ++ [125])
      rw [List.append_assoc]
      refine zax_a hL ?_
      rw [hl2]
      refine zax_a hK ?_
      rw [hl3]
      exact zax_1 c4 (by decide)
    · rw [if_neg c4] at h; cases h
  · rw [if_neg c2] at h
    by_cases c4 : zhr tp n (a1 + w') = 125
    · rw [if_pos c4] at h
      cases h
      unfold zpl
      rw [if_pos rfl, List.append_nil]
      refine zax_a hAW ?_
      rw [hAWl]
      exact zax_1 c4 (by decide)
    · rw [if_neg c4] at h; cases h
theorem zdgs_at : ∀ (mx p : Nat), p ≤ n → zax tp n p (zdgs tp n mx p)
  | 0, p, hp => zax_0 hp
  | mx + 1, p, hp => by
    unfold zdgs
    split
    · rename_i e
      have hc : zhr tp n p ≠ -1 := fun z => by rw [z] at e; exact absurd e (by decide)
      exact zax_c rfl hc (zdgs_at mx (p + 1) (by have := zhr_t rfl hc; omega))
    · exact zax_0 hp
theorem zkey_at {pl : Bool} {p : Nat} {kt : List Int32} (h : zkey tp n pl p = .inr kt) : zax tp n p kt := by
  unfold zkey at h
  split at h
  · rename_i e
    cases h
    exact zax_1 rfl fun z => by rw [z] at e; cases pl <;> exact absurd e (by decide)
  · split at h
    · rename_i e1 e2
      rw [Bool.and_eq_true, decide_eq_true_eq] at e2
      split at h
      · cases h
        exact zax_c e2.2 (by decide) (zdgs_at 3 (p + 1) (by have := zhr_t e2.2 (by decide); omega))
      · cases h
    · cases h
/-- from r to r' the tape's letters are L, with nc choices; without a lie wf holds -/
def zfx (tp : Nat → Int32) (n : Nat) (r r' : zRh) (L : List Int32) (nc : Nat) (wf : Prop) : Prop := zax tp n r.1 L ∧ r'.1 = r.1 + L.length ∧ r'.2.1 = r.2.1 + nc ∧ (r'.2.2.1 = none → r.2.2.1 = none ∧ wf) ∧ ((∀ i, r.2.2.2.2 i ≤ 3) → ∀ i, r'.2.2.2.2 i ≤ 3)
theorem zfx_t {r r1 r2 : zRh} {a b : List Int32} {c1 c2 : Nat} {w1 w2 : Prop} (h1 : zfx tp n r r1 a c1 w1) (h2 : zfx tp n r1 r2 b c2 w2) : zfx tp n r r2 (a ++ b) (c1 + c2) (w1 ∧ w2) := by
  obtain ⟨x1, x2, x3, x4, x5⟩ := h1
  obtain ⟨y1, y2, y3, y4, y5⟩ := h2
  refine ⟨zax_a x1 (by rw [← x2]; exact y1), by rw [y2, x2, List.length_append]; omega, by omega, fun z => ?_, fun z => y5 (x5 z)⟩
  obtain ⟨z1, z2⟩ := y4 z
  obtain ⟨z3, z4⟩ := x4 z1
  exact ⟨z3, z4, z2⟩
theorem zfx_w {r r' : zRh} {L : List Int32} {nc : Nat} {w1 w2 : Prop} (h : zfx tp n r r' L nc w1) (hw : w1 → w2) : zfx tp n r r' L nc w2 := ⟨h.1, h.2.1, h.2.2.1, fun z => ⟨(h.2.2.2.1 z).1, hw (h.2.2.2.1 z).2⟩, h.2.2.2.2⟩
theorem zfx_p {r : zRh} {L : List Int32} {q : Nat} (h : zax tp n r.1 L) (hq : q = r.1 + L.length) : zfx tp n r (q, r.2) L 0 True := ⟨h, hq, rfl, fun z => ⟨z, trivial⟩, fun z => z⟩
theorem zlie_no {w : Option Nat} {p : Nat} : zlie w p ≠ none := by unfold zlie; simp
theorem zuse_1 {r : zRh} {a ty p : Nat} : (zuse r a ty p).1 = r.1 ∧ (zuse r a ty p).2.1 = r.2.1 ∧ ((zuse r a ty p).2.2.1 = none → r.2.2.1 = none) ∧ (ty ≤ 3 → (∀ i, r.2.2.2.2 i ≤ 3) → ∀ i, (zuse r a ty p).2.2.2.2 i ≤ 3) := by
  refine ⟨rfl, rfl, fun z => ?_, fun ht hr i => ?_⟩
  · unfold zuse at z
    simp only at z
    split at z
    · exact absurd z zlie_no
    · exact z
  · unfold zuse
    simp only
    split
    · show (if i = a then ty else r.2.2.2.2 i) ≤ 3
      split
      · exact ht
      · exact hr i
    · exact hr i
theorem zfx_u {r r1 : zRh} {L : List Int32} {nc a ty p : Nat} {wf : Prop} (h : zfx tp n r r1 L nc wf) (ht : ty ≤ 3) : zfx tp n r (zuse r1 a ty p) L nc wf := by
  obtain ⟨x1, x2, x3, x4, x5⟩ := h
  obtain ⟨u1, u2, u3, u4⟩ := zuse_1 (r := r1) (a := a) (ty := ty) (p := p)
  exact ⟨x1, by rw [u1]; exact x2, by rw [u2]; exact x3, fun z => x4 (u3 z), fun z => u4 ht (x5 z)⟩
theorem zr0_x {r r1 : zRh} {q : zLf} {pl : Bool} (hc : zhr tp n r.1 = 123) (h : zr0 tp n r = .inr (.inl (q, r1))) : zfx tp n r r1 (zlL q) 0 (zwfF pl q) := by
  unfold zr0 at h
  simp only at h
  cases e : zin (zhr tp n (r.1 + 1)).toInt64 65 69 with
  | false => rw [e] at h; simp only [Bool.false_eq_true, if_false] at h; cases h
  | true =>
    rw [e] at h
    simp only [if_true] at h
    obtain ⟨a, ha, hca, -, hcl⟩ := zAE e
    rw [hcl] at h
    have hA1 : nI (65 + a) ≠ -1 := fun z => by
      have := congrArg Int32.toInt z
      rw [nI_toInt (by omega)] at this
      have e2 : (-1 : Int32).toInt = -1 := by decide
      omega
    have hb := zhr_t hca hA1
    by_cases c1 : zhr tp n (r.1 + 2) = 125
    · rw [if_pos c1] at h
      cases h
      refine zfx_u (zfx_w (zfx_p ?_ rfl) (fun _ => ha)) (by decide)
      exact zax_c hc (by decide) (zax_c hca hA1 (zax_1 c1 (by decide)))
    · rw [if_neg c1] at h
      by_cases c2 : zhr tp n (r.1 + 2) = 108
      · rw [if_pos c2] at h
        by_cases c3 : zhr tp n (r.1 + 3) = 125
        · rw [if_pos c3] at h
          cases h
          refine zfx_u (zfx_w (zfx_p ?_ rfl) (fun _ => ha)) (by decide)
          exact zax_c hc (by decide) (zax_c hca hA1 (zax_c c2 (by decide) (zax_1 c3 (by decide))))
        · rw [if_neg c3] at h; cases h
      · rw [if_neg c2] at h
        by_cases c3 : zhr tp n (r.1 + 2) = 110
        · rw [if_pos c3] at h
          have hb3 := zhr_t c3 (by decide)
          cases e9 : zpat tp n (r.1 + 3) with
          | inl e8 => rw [e9] at h; cases h
          | inr y =>
            obtain ⟨p, g, w, l, m⟩ := y
            rw [e9] at h
            cases h
            have hl := zpat_len e9
            have ht := zpat_at (by omega) e9
            refine zfx_u (zfx_w (zfx_p ?_ ?_) (fun _ => ⟨rfl, ha, hl.2.1, hl.2.2.1, hl.2.2.2.1, hl.2.2.2.2⟩)) (by decide)
            · exact zax_c hc (by decide) (zax_c hca hA1 (zax_c c3 (by decide) ht))
            · show p = r.1 + (123 :: nI (65 + a) :: 110 :: (zpl g w l m ++ [125])).length
              rw [hl.1]
              simp only [List.length_cons, List.length_append, List.length_nil]
              omega
        · rw [if_neg c3] at h; cases h
theorem zr0_h {r : zRh} {a : Nat} {c : Int32} (h : zr0 tp n r = .inr (.inr (a, c))) : a < 5 ∧ zhr tp n (r.1 + 1) = nI (65 + a) ∧ nI (65 + a) ≠ -1 ∧ c = zhr tp n (r.1 + 2) := by
  unfold zr0 at h
  simp only at h
  cases e : zin (zhr tp n (r.1 + 1)).toInt64 65 69 with
  | false => rw [e] at h; simp only [Bool.false_eq_true, if_false] at h; cases h
  | true =>
    rw [e] at h
    simp only [if_true] at h
    obtain ⟨a', ha, hca, -, hcl⟩ := zAE e
    rw [hcl] at h
    have hA1 : nI (65 + a') ≠ -1 := fun z => by
      have := congrArg Int32.toInt z
      rw [nI_toInt (by omega)] at this
      have e2 : (-1 : Int32).toInt = -1 := by decide
      omega
    split at h
    · cases h
    · split at h
      · split at h <;> cases h
      · split at h
        · split at h <;> cases h
        · cases h
          exact ⟨ha, hca, hA1, rfl⟩
theorem zrL_x {d : Nat} {pl : Bool} {one : zRh → Nat ⊕ (zN d × zRh)} (hone : ∀ (r : zRh) (q : zN d) (r1 : zRh), zhr tp n r.1 = 123 → one r = .inr (q, r1) → zfx tp n r r1 (znL d q) (znC d q) (zwfN d pl q)) :
    ∀ (f : Nat) (r : zRh) (t : List (zN d)) (r' : zRh), r.1 ≤ n → zrL tp n (zmk d) one pl f r = .inr (t, r') → zfx tp n r r' (ztL d t) (ztC d t) (zwfT d pl t) := by
  intro f
  induction f with
  | zero => intro r t r' _ h; unfold zrL at h; cases h
  | succ f ih =>
    intro r t r' hr h
    have cons : ∀ (q : zN d) (t : List (zN d)) (r1 : zRh), zfx tp n r r1 (znL d q) (znC d q) (zwfN d pl q) → zfx tp n r1 r' (ztL d t) (ztC d t) (zwfT d pl t) → zfx tp n r r' (ztL d (q :: t)) (ztC d (q :: t)) (zwfT d pl (q :: t)) := by
      intro q t r1 h1 h2
      have := zfx_t h1 h2
      have e1 : ztL d (q :: t) = znL d q ++ ztL d t := by unfold ztL; rw [List.flatMap_cons]
      have e2 : ztC d (q :: t) = znC d q + ztC d t := by unfold ztC; rw [List.map_cons, List.sum_cons]
      rw [e1, e2]
      refine zfx_w this fun hw => ?_
      intro x hx
      rcases List.mem_cons.mp hx with hx | hx
      · rw [hx]; exact hw.1
      · exact hw.2 x hx
    unfold zrL at h
    simp only at h
    split at h
    · rename_i e
      split at h
      · cases h
      · rename_i t1 r2 h2
        cases h
        have hc : zhr tp n r.1 ≠ -1 := fun z => by rw [z] at e; cases pl <;> exact absurd e (by decide)
        have hb := zhr_t rfl hc
        refine cons _ _ (r.1 + 1, r.2) ?_ (ih _ _ _ (by show r.1 + 1 ≤ n; omega) h2)
        rw [zmk_L]
        have hC : znC d (zmk d (if zsg (zhr tp n r.1) = true then (0, zhr tp n r.1, 0, false, 0, 0, 0) else (1, 0, 0, false, 0, 0, 0))) = 0 := by cases d <;> rfl
        have hW : ∀ q : zLf, zwfF pl q → zwfN d pl (zmk d q) := by intro q hq; cases d <;> exact hq
        rw [hC]
        by_cases e1 : zsg (zhr tp n r.1) = true
        · rw [if_pos e1]
          exact zfx_w (zfx_p (zax_1 rfl hc) rfl) fun _ => hW _ e1
        · rw [if_neg e1]
          rw [Bool.or_eq_true, Bool.and_eq_true, decide_eq_true_eq] at e
          obtain ⟨e2, e3⟩ := e.resolve_left e1
          exact zfx_w (zfx_p (zax_1 e2 (by decide)) rfl) fun _ => hW _ e3
    · split at h
      · rename_i e
        split at h
        · cases h
        · rename_i q r1 h1
          split at h
          · cases h
          · rename_i t1 r2 h2
            cases h
            have hx := hone r q r1 e h1
            exact cons q t1 r1 hx (ih _ _ _ (by rw [hx.2.1]; exact hx.1.1) h2)
      · cases h
        exact ⟨zax_0 hr, rfl, rfl, fun z => ⟨z, fun x hx => by cases hx⟩, fun z => z⟩
end ZR
