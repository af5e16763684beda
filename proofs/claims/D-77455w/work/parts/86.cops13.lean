/-! the component's rows: what they hold -/
section CR1
variable {D : zD} {X : zSg} {B : Nat → Nat} {I M : zM}
theorem caF {b n : Nat} {f : Nat → UInt32} {i : Int32} {Φ : UInt32 → Prop} (hM : M b = some (.inl (3, n, .inr (.inr (.inl f))))) (hi : vp_in i n) (h : Φ (f i.toNatClampNeg)) : zaF M b i Φ := ⟨n, f, hM, hi, h⟩
theorem caD {b n : Nat} {f : Nat → UInt64} {i : Int32} {Φ : UInt64 → Prop} (hM : M b = some (.inl (4, n, .inr (.inr (.inr (.inl f)))))) (hi : vp_in i n) (h : Φ (f i.toNatClampNeg)) : zaD M b i Φ := ⟨n, f, hM, hi, h⟩
theorem caL {b n : Nat} {f : Nat → Int64} {i : Int32} {Φ : Int64 → Prop} (hM : M b = some (.inl (2, n, .inr (.inl f)))) (hi : vp_in i n) (h : Φ (f i.toNatClampNeg)) : zaL M b i Φ := ⟨n, f, hM, hi, h⟩
theorem zi1 {b k : Nat} {x : vp_A} (hb : zB D ≤ b) (hM : M b = some (.inl (k, x))) : ∀ w, some b = some w → zB D ≤ w ∧ ∃ x : vp_A, M w = some (.inl (k, x)) := fun w e => by cases e; exact ⟨hb, x, hM⟩
theorem ziL {b k k2 : Nat} {x : vp_A} (hb : zB D ≤ b) (hM : M b = some (.inl (k, x))) : ∀ w, some b = some w → zB D ≤ w ∧ ∃ x : vp_A, M w = some (.inl (k, x)) ∨ M w = some (.inl (k2, x)) := fun w e => by cases e; exact ⟨hb, x, Or.inl hM⟩
theorem ziR {b k k2 : Nat} {x : vp_A} (hb : zB D ≤ b) (hM : M b = some (.inl (k, x))) : ∀ w, some b = some w → zB D ≤ w ∧ ∃ x : vp_A, M w = some (.inl (k2, x)) ∨ M w = some (.inl (k, x)) := fun w e => by cases e; exact ⟨hb, x, Or.inr hM⟩
theorem i01 {P Q : Prop} (h : P) : ((0 : Int32) = 0 → P) ∧ (¬ (0 : Int32) = 0 → Q) := ⟨fun _ => h, fun z => absurd rfl z⟩
theorem i10 {P Q : Prop} (h : Q) : ((1 : Int32) = 0 → P) ∧ (¬ (1 : Int32) = 0 → Q) := ⟨fun z => absurd z (by decide), fun _ => h⟩
/-- a row's three cases -/
theorem zRa_c {q : zRo} (h : q.1 ≤ 2) : (q.1 = 0 ∧ zRa q = .inl (3, q.2.1, .inr (.inr (.inl q.2.2.1)))) ∨ (q.1 = 1 ∧ zRa q = .inl (4, q.2.1, .inr (.inr (.inr (.inl q.2.2.2.1))))) ∨ (q.1 = 2 ∧ zRa q = .inl (2, q.2.1, .inr (.inl q.2.2.2.2))) := by
  have h9 : q.1 = 0 ∨ q.1 = 1 ∨ q.1 = 2 := by omega
  unfold zRa
  rcases h9 with e | e | e
  · exact Or.inl ⟨e, by rw [if_pos e]⟩
  · exact Or.inr (Or.inl ⟨e, by rw [if_neg (by omega), if_pos e]⟩)
  · exact Or.inr (Or.inr ⟨e, by rw [if_neg (by omega), if_neg (by omega)]⟩)
theorem c_size8 {post : Int32 → zM → Prop} {o b : Nat} {q : zRo} (hq : q.1 ≤ 2) (ho : M o = some (.inr (7, [.ref b]))) (hb : M b = some (zRa q)) (hb0 : zB D ≤ b) (h : post (nI q.2.1) M) : zis M o [7] ∧ wp_X8_size D post o M := by
  refine ⟨cis ho (by decide), ?_⟩
  unfold wp_X8_size wp_X8_size_L52
  rcases zRa_c hq with ⟨e, e2⟩ | ⟨e, e2⟩ | ⟨e, e2⟩ <;> rw [e2] at hb <;> refine cgR (x := some b) ho rfl ?_
  · exact Or.inl ⟨b, _, rfl, hb0, hb, i10 ⟨zi1 hb0 hb, czd (clen hb (by decide) h)⟩⟩
  · exact Or.inr ⟨ziR hb0 hb, i01 (cgR (x := some b) ho rfl (Or.inl ⟨b, _, rfl, hb0, hb, i10 ⟨zi1 hb0 hb, czd (clen hb (by decide) h)⟩⟩))⟩
  · exact Or.inr ⟨ziL hb0 hb, i01 (cgR (x := some b) ho rfl (Or.inr ⟨ziL hb0 hb, i01 (cgR (x := some b) ho rfl ⟨zi1 hb0 hb, czd (clen hb (by decide) h)⟩)⟩))⟩
theorem c_sort8 {post : Int32 → zM → Prop} {o b : Nat} {q : zRo} (hq : q.1 ≤ 2) (ho : M o = some (.inr (7, [.ref b]))) (hb : M b = some (zRa q)) (hb0 : zB D ≤ b) (h : post (nI q.1) M) : zis M o [7] ∧ wp_X8_sort D post o M := by
  refine ⟨cis ho (by decide), ?_⟩
  unfold wp_X8_sort wp_X8_sort_L29
  rcases zRa_c hq with ⟨e, e2⟩ | ⟨e, e2⟩ | ⟨e, e2⟩ <;> rw [e2] at hb <;> rw [e] at h <;> refine cgR (x := some b) ho rfl ?_
  · exact Or.inl ⟨b, _, rfl, hb0, hb, i10 h⟩
  · exact Or.inr ⟨ziR hb0 hb, i01 (cgR (x := some b) ho rfl (Or.inl ⟨b, _, rfl, hb0, hb, i10 h⟩))⟩
  · exact Or.inr ⟨ziL hb0 hb, i01 (cgR (x := some b) ho rfl (Or.inr ⟨ziL hb0 hb, i01 h⟩))⟩
/-- a row's number as a double -/
def znb8 (q : zRo) (x : Nat) : UInt64 := if q.1 = 0 then FP.f2d (q.2.2.1 x) else if q.1 = 1 then q.2.2.2.1 x else FP.l2d (q.2.2.2.2 x)
theorem c_number8 {post : UInt64 → zM → Prop} {o b x : Nat} {q : zRo} (hq : q.1 ≤ 2) (ho : M o = some (.inr (7, [.ref b]))) (hb : M b = some (zRa q)) (hb0 : zB D ≤ b) (hx : x < q.2.1) (hn : q.2.1 ≤ 30) (hf : zok32 (q.2.2.1 x)) (h : post (znb8 q x) M) : zis M o [7] ∧ wp_X8_number D post o (nI x) M := by
  refine ⟨cis ho (by decide), ?_⟩
  unfold wp_X8_number wp_X8_number_L63
  unfold znb8 at h
  have hv : vp_in (nI x) q.2.1 := vp_in_nI hx (by omega)
  have hcl : (nI x).toNatClampNeg = x := nI_clamp (by omega)
  rcases zRa_c hq with ⟨e, e2⟩ | ⟨e, e2⟩ | ⟨e, e2⟩ <;> rw [e2] at hb <;> refine cgR (x := some b) ho rfl ?_
  · rw [if_pos e] at h
    exact Or.inl ⟨b, _, rfl, hb0, hb, i10 ⟨zi1 hb0 hb, czd (caF hb hv (by rw [hcl]; exact ⟨zon64 (zfD hf).1, h⟩))⟩⟩
  · rw [if_neg (by omega), if_pos e] at h
    exact Or.inr ⟨ziR hb0 hb, i01 (cgR (x := some b) ho rfl (Or.inl ⟨b, _, rfl, hb0, hb, i10 ⟨zi1 hb0 hb, czd (caD hb hv (by rw [hcl]; exact h))⟩⟩))⟩
  · rw [if_neg (by omega), if_neg (by omega)] at h
    exact Or.inr ⟨ziL hb0 hb, i01 (cgR (x := some b) ho rfl (Or.inr ⟨ziL hb0 hb, i01 (cgR (x := some b) ho rfl ⟨zi1 hb0 hb, czd (caL hb hv (by rw [hcl]; exact h))⟩)⟩))⟩
/-- a row's cells -/
theorem RC_rw (hR : RC D X B I M) (hz : zle I M) {r : Nat} (hr : r < 3) : ∃ f : Nat → Option Nat, M (B 7) = some (.inl (10, 3, .inr (.inr (.inr (.inr f))))) ∧ f r = some (B (10 + r)) ∧
    ((X.2.2.2.2.2 r = none ∧ M (B (10 + r)) = some (.inr (7, [.null]))) ∨ ∃ q, X.2.2.2.2.2 r = some q ∧ q.1 ≤ 2 ∧ q.2.1 ≤ 30 ∧ M (B (10 + r)) = some (.inr (7, [.ref (B (30 + r))])) ∧ M (B (30 + r)) = some (zRa q) ∧ zB D ≤ B (30 + r)) := by
  obtain ⟨-, -, -, -, -, ⟨⟨f, h1, h2⟩, -, -, h3⟩, -, h4⟩ := hR
  refine ⟨f, hz _ _ h1, h2 r hr, ?_⟩
  rcases h3 r hr with h | ⟨q, k1, k2, k3, k4, k5⟩
  · exact Or.inl h
  · exact Or.inr ⟨q, k1, k2, k3, k4, k5, (h4 (30 + r) (Or.inr ⟨r, hr, rfl, by rw [k1]; simp⟩)).2⟩
def sp_un (X : zSg) (r i : Int32) : Int32 := if zb r 3 then (match X.2.2.2.2.2 r.toNatClampNeg with | none => -11 | some q => if zb i q.2.1 then 0 else -12) else -1
theorem c_unlike {post : Int32 → zM → Prop} {r i : Int32} (hR : RC D X B I M) (hz : zle I M) (h : post (sp_un X r i) M) : zis M (B 0) [0] ∧ wp_X0_unlike D post (B 0) r i M := by
  refine ⟨cis hR.1 (by decide), ?_⟩
  unfold wp_X0_unlike wp_X0_unlike_L53
  unfold sp_un at h
  refine c_isRow (ifb (fun e1 => ?_) (fun e1 => by rw [e1] at h; exact h))
  obtain ⟨a, ha, rfl⟩ := zb_of e1 (by decide)
  rw [e1, nI_clamp (by omega)] at h
  simp only [if_true] at h
  obtain ⟨f, h1, h2, h3⟩ := RC_rw hR hz ha
  have hv := vp_in_nI ha (by decide : 3 < 2 ^ 31)
  have hcl : (nI a).toNatClampNeg = a := nI_clamp (by omega)
  refine cgR (x := some (B 7)) hR.1 rfl (czd (caR h1 hv ?_))
  rw [hcl, h2]
  refine czd ?_
  rcases h3 with ⟨k1, k2⟩ | ⟨q, k1, k2, k3, k4, k5, k6⟩
  · rw [k1] at h
    exact cgR (x := none) k2 rfl ⟨fun b hb => (nomatch hb), fun _ => h⟩
  · rw [k1] at h
    refine cgR (x := some (B (30 + a))) k4 rfl ⟨fun b _ => ?_, fun z => (nomatch z)⟩
    refine cgR (x := some (B 7)) hR.1 rfl (czd (caR h1 hv ?_))
    rw [hcl, h2]
    refine czd (c_size8 k2 k4 k5 k6 (c_in ?_))
    rw [show zin i.toInt64 0 (nI q.2.1 - 1).toInt64 = zb i q.2.1 by
      refine zin_b ?_
      rw [Int32.toInt_toInt64]
      generalize q.2.1 = m at k3
      rcases Nat.eq_zero_or_pos m with rfl | hp
      · decide
      · obtain ⟨m', rfl⟩ : ∃ m', m = m' + 1 := ⟨m - 1, by omega⟩
        rw [nI_pred, nI_toInt (by omega)]
        omega]
    refine ifb' (fun e => ?_) (fun e => ?_)
    · simp only [e, if_true] at h; exact h
    · simp only [e] at h; exact h
theorem sp_un0 {r i : Int32} (h : sp_un X r i = 0) (hn : ∀ a q, X.2.2.2.2.2 a = some q → a < 3 → q.2.1 ≤ 30) : ∃ (a j : Nat) (q : zRo), a < 3 ∧ r = nI a ∧ X.2.2.2.2.2 a = some q ∧ j < q.2.1 ∧ q.2.1 ≤ 30 ∧ i = nI j := by
  unfold sp_un at h
  cases e1 : zb r 3 with
  | false => rw [e1] at h; exact absurd (show (-1 : Int32) = 0 from h) (by decide)
  | true =>
    obtain ⟨a, ha, rfl⟩ := zb_of e1 (by decide)
    rw [e1, nI_clamp (by omega)] at h
    simp only [if_true] at h
    cases e2 : X.2.2.2.2.2 a with
    | none => rw [e2] at h; exact absurd (show (-11 : Int32) = 0 from h) (by decide)
    | some q =>
      rw [e2] at h
      have hq := hn a q e2 ha
      cases e3 : zb i q.2.1 with
      | false => simp only [e3] at h; exact absurd (show (-12 : Int32) = 0 from h) (by decide)
      | true =>
        obtain ⟨j, hj, rfl⟩ := zb_of e3 (by omega)
        exact ⟨a, j, q, ha, rfl, e2, hj, hq, rfl⟩
theorem RC_rn (hR : RC D X B I M) : ∀ a q, X.2.2.2.2.2 a = some q → a < 3 → q.2.1 ≤ 30 := by
  intro a q h ha
  obtain ⟨-, -, -, -, -, ⟨-, -, -, h3⟩, -⟩ := hR
  rcases h3 a ha with ⟨k, -⟩ | ⟨q', k1, -, k3, -⟩
  · rw [k] at h; cases h
  · rw [k1] at h; cases h; exact k3
def zcu (q : zRo) (j : Nat) (w : Int32) : Int64 := if q.1 = 0 then (if w = 0 then (FP.f2i (q.2.2.1 j)).toInt64 else FP.f2l (q.2.2.1 j)) else if q.1 = 1 then (if w = 0 then (FP.d2i (q.2.2.2.1 j)).toInt64 else FP.d2l (q.2.2.2.1 j))
  else (if w = 0 then (q.2.2.2.2 j).toInt32.toInt64 else q.2.2.2.2 j)
def sp_cut (X : zSg) (r i w : Int32) : Int64 := if sp_un X r i = 0 ∧ zb w 2 = true then (X.2.2.2.2.2 r.toNatClampNeg).elim (-9223372036854775808) (fun q => zcu q i.toNatClampNeg w) else -9223372036854775808
theorem c_cut {post : Int64 → zM → Prop} {r i w : Int32} (hR : RC D X B I M) (hz : zle I M) (h : post (sp_cut X r i w) M) : wp_X0_cut D post (B 0) r i w M := by
  unfold wp_X0_cut wp_X0_cut_L19 wp_X0_cut_L124 wp_X0_cut_L100 wp_X0_cut_L66
  unfold sp_cut at h
  refine c_unlike hR hz ⟨fun z => by rw [if_neg (fun y => z y.1)] at h; exact h, fun z => c_in ?_⟩
  rw [zin_b (n := 2) (by decide)]
  refine ifb (fun e2 => ?_) (fun e2 => by rw [if_neg (fun y => by rw [e2] at y; exact absurd y.2 (by decide))] at h; exact h)
  rw [if_pos ⟨z, e2⟩] at h
  obtain ⟨a, j, q, ha, rfl, hq, hj, hn, rfl⟩ := sp_un0 z (RC_rn hR)
  rw [nI_clamp (by omega), nI_clamp (by omega), hq] at h
  obtain ⟨f, h1, h2, h3⟩ := RC_rw hR hz ha
  have hcl : (nI a).toNatClampNeg = a := nI_clamp (by omega)
  have hcj : (nI j).toNatClampNeg = j := nI_clamp (by omega)
  have hv : vp_in (nI j) q.2.1 := vp_in_nI hj (by omega)
  refine cgR (x := some (B 7)) hR.1 rfl (czd (caR h1 (vp_in_nI ha (by decide)) ?_))
  rw [hcl, h2]
  refine czd ?_
  rcases h3 with ⟨k1, k2⟩ | ⟨q', k1, k2, k3, k4, hb, hb0⟩
  · rw [hq] at k1; cases k1
  rw [hq] at k1
  cases k1
  have h' : post (zcu q j w) M := h
  unfold zcu at h'
  refine cgR (x := some (B (30 + a))) k4 rfl ?_
  rcases zRa_c k2 with ⟨e, e2⟩ | ⟨e, e2⟩ | ⟨e, e2⟩ <;> rw [e2] at hb
  · rw [if_pos e] at h'
    refine Or.inr ⟨ziL hb0 hb, i01 (Or.inl ⟨_, _, rfl, hb0, hb, i10 ⟨zi1 hb0 hb, fun y => ?_, fun y => ?_⟩⟩)⟩
    · rw [if_neg y] at h'; exact czd (caF hb hv (by rw [hcj]; exact h'))
    · rw [if_pos y] at h'; exact czd (caF hb hv (by rw [hcj]; exact h'))
  · rw [if_neg (by omega), if_pos e] at h'
    refine Or.inr ⟨ziR hb0 hb, i01 (Or.inr ⟨ziR hb0 hb, i01 ⟨zi1 hb0 hb, czd (caD hb hv ?_)⟩⟩)⟩
    rw [hcj]
    refine ⟨fun y => ?_, fun y => ?_⟩
    · rw [if_neg y] at h'; exact h'
    · rw [if_pos y] at h'; exact h'
  · rw [if_neg (by omega), if_neg (by omega)] at h'
    refine Or.inl ⟨_, _, rfl, hb0, hb, i10 ⟨zi1 hb0 hb, fun y => ?_, fun y => ?_⟩⟩
    · rw [if_neg y] at h'; exact czd (caL hb hv (by rw [hcj]; exact h'))
    · rw [if_pos y] at h'; exact czd (caL hb hv (by rw [hcj]; exact h'))
/-- the numbers of rows are numbers -/
def zRf (X : zSg) : Prop := ∀ r q, r < 3 → X.2.2.2.2.2 r = some q → ∀ x, x < q.2.1 → zok32 (q.2.2.1 x) ∧ zok64 (q.2.2.2.1 x)
def zre (q : zRo) (x y : Nat) : Int64 := if q.1 = 0 then zrmF (q.2.2.1 x) (q.2.2.1 y) else if q.1 = 1 then zrmD (q.2.2.2.1 x) (q.2.2.2.1 y) else zrmL (q.2.2.2.2 x) (q.2.2.2.2 y)
def sp_remains (X : zSg) (r i j : Int32) : Int64 := if sp_un X r i = 0 ∧ sp_un X r j = 0 then (X.2.2.2.2.2 r.toNatClampNeg).elim (-9223372036854775808) (fun q => zre q i.toNatClampNeg j.toNatClampNeg) else -9223372036854775808
theorem c_remains {post : Int64 → zM → Prop} {r i j : Int32} (hR : RC D X B I M) (hz : zle I M) (hF : zRf X) (h : post (sp_remains X r i j) M) : wp_X0_remains D post (B 0) r i j M := by
  unfold wp_X0_remains wp_X0_remains_L33
  unfold sp_remains at h
  refine c_unlike hR hz ⟨fun z => by rw [if_neg (fun y => z y.1)] at h; exact h, fun z => c_unlike hR hz ⟨fun z2 => by rw [if_neg (fun y => z2 y.2)] at h; exact h, fun z2 => ?_⟩⟩
  rw [if_pos ⟨z, z2⟩] at h
  obtain ⟨a, x, q, ha, rfl, hq, hx, hn, rfl⟩ := sp_un0 z (RC_rn hR)
  obtain ⟨a', y, q', ha', ea, hq', hy, hn', rfl⟩ := sp_un0 z2 (RC_rn hR)
  have : a = a' := (nI_eq (by omega) (by omega)).mp ea
  subst this
  rw [hq] at hq'
  cases hq'
  rw [nI_clamp (by omega), nI_clamp (by omega), nI_clamp (by omega), hq] at h
  have h' : post (zre q x y) M := h
  obtain ⟨f, h1, h2, h3⟩ := RC_rw hR hz ha
  have hcl : (nI a).toNatClampNeg = a := nI_clamp (by omega)
  have hcx : (nI x).toNatClampNeg = x := nI_clamp (by omega)
  have hcy : (nI y).toNatClampNeg = y := nI_clamp (by omega)
  have hvx : vp_in (nI x) q.2.1 := vp_in_nI hx (by omega)
  have hvy : vp_in (nI y) q.2.1 := vp_in_nI hy (by omega)
  have hX := hF a q ha hq x hx
  have hY := hF a q ha hq y hy
  refine cgR (x := some (B 7)) hR.1 rfl (czd (caR h1 (vp_in_nI ha (by decide)) ?_))
  rw [hcl, h2]
  refine czd ?_
  rcases h3 with ⟨k1, k2⟩ | ⟨q', k1, k2, k3, k4, hb, hb0⟩
  · rw [hq] at k1; cases k1
  rw [hq] at k1
  cases k1
  refine c_number8 k2 k4 hb hb0 hy hn hY.1 ?_
  unfold zre at h'
  have again : ∀ {P : Nat → Prop}, P (B (10 + a)) → zgR M (B 0) 0 7 fun g14 => zd g14 fun b15 => zaR M b15 10 (nI a) fun v16 => zd v16 fun b17 => P b17 := fun hP =>
    cgR (x := some (B 7)) hR.1 rfl (czd (caR h1 (vp_in_nI ha (by decide)) (by rw [hcl, h2]; exact czd hP)))
  rcases zRa_c k2 with ⟨e, e2⟩ | ⟨e, e2⟩ | ⟨e, e2⟩ <;> rw [e2] at hb
  · rw [if_pos e] at h'
    have en : (Op.cmpValue (FP.dcmp (znb8 q y) FP.dconst0) .l = 0) ↔ Op.cmpValue (FP.fcmp (q.2.2.1 y) FP.fconst0) .l = 0 := by
      unfold znb8
      rw [if_pos e, zcm64 (zfD hY.1).1, (zfD hY.1).2, zcm32 hY.1]
    rw [en]
    unfold zrmF at h'
    refine ⟨fun z3 => again (cgR (x := some (B (30 + a))) k4 rfl (Or.inr ⟨ziL hb0 hb, i01 (Or.inl ⟨_, _, rfl, hb0, hb, i10 ⟨zi1 hb0 hb, czd (caF hb hvx (caF hb hvy ?_))⟩⟩)⟩)), fun z3 => by rw [if_pos z3] at h'; exact h'⟩
    rw [if_neg z3] at h'
    rw [hcx, hcy]
    exact ⟨(zfr32 hX.1 hY.1 z3).1, (zfr32 hX.1 hY.1 z3).2, h'⟩
  · rw [if_neg (by omega), if_pos e] at h'
    have en : znb8 q y = q.2.2.2.1 y := by unfold znb8; rw [if_neg (by omega), if_pos e]
    rw [en]
    unfold zrmD at h'
    refine ⟨fun z3 => again (cgR (x := some (B (30 + a))) k4 rfl (Or.inr ⟨ziR hb0 hb, i01 (Or.inr ⟨ziR hb0 hb, i01 ⟨zi1 hb0 hb, czd (caD hb hvx (caD hb hvy ?_))⟩⟩)⟩)), fun z3 => by rw [if_pos z3] at h'; exact h'⟩
    rw [if_neg z3] at h'
    rw [hcx, hcy]
    exact ⟨(zfr64 hX.2 hY.2 z3).1, (zfr64 hX.2 hY.2 z3).2, h'⟩
  · rw [if_neg (by omega), if_neg (by omega)] at h'
    have en : (Op.cmpValue (FP.dcmp (znb8 q y) FP.dconst0) .l = 0) ↔ q.2.2.2.2 y = 0 := by
      unfold znb8
      rw [if_neg (by omega), if_neg (by omega), zcm64 (zlD _).1, (zlD _).2]
    rw [en]
    unfold zrmL at h'
    refine ⟨fun z3 => again (cgR (x := some (B (30 + a))) k4 rfl (Or.inl ⟨_, _, rfl, hb0, hb, i10 ⟨zi1 hb0 hb, czd (caL hb hvx (caL hb hvy ?_))⟩⟩)), fun z3 => by rw [if_pos z3] at h'; exact h'⟩
    rw [if_neg z3] at h'
    rw [hcx, hcy]
    exact ⟨z3, h'⟩
end CR1
