/-! the component's rows: row, ratio, move -/
section CR2
variable {D : zD} {X : zSg} {B : Nat → Nat} {I M : zM}
theorem csF {b n : Nat} {f : Nat → UInt32} {i : Int32} {x : UInt32} {Φ : zM → Prop} (hM : M b = some (.inl (3, n, .inr (.inr (.inl f))))) (hb : zB D ≤ b) (hi : vp_in i n) (h : Φ (zu M b (some (.inl (3, n, .inr (.inr (.inl (vf_upd f i.toNatClampNeg x)))))))) : zsF D M b i x Φ := ⟨n, f, hM, hb, hi, h⟩
theorem csD {b n : Nat} {f : Nat → UInt64} {i : Int32} {x : UInt64} {Φ : zM → Prop} (hM : M b = some (.inl (4, n, .inr (.inr (.inr (.inl f)))))) (hb : zB D ≤ b) (hi : vp_in i n) (h : Φ (zu M b (some (.inl (4, n, .inr (.inr (.inr (.inl (vf_upd f i.toNatClampNeg x))))))))) : zsD D M b i x Φ := ⟨n, f, hM, hb, hi, h⟩
theorem csL {b n : Nat} {f : Nat → Int64} {i : Int32} {x : Int64} {Φ : zM → Prop} (hM : M b = some (.inl (2, n, .inr (.inl f)))) (hb : zB D ≤ b) (hi : vp_in i n) (h : Φ (zu M b (some (.inl (2, n, .inr (.inl (vp_updL f i.toNatClampNeg x))))))) : zsL D M b i x Φ := ⟨n, f, hM, hb, hi, h⟩
/-- a row is made anew or written -/
theorem RC_row1 {I1 M1 : zM} {B1 : Nat → Nat} {r : Nat} {q : Option zRo} (hR : RC D X B I M) (hx : ext (muA X B) I M I1 M1) (hr : r < 3) (hB : ∀ i, i ≠ 30 + r → B1 i = B i) (hk : ∀ i, muI X i → i ≠ 10 + r → i ≠ 30 + r → M1 (B i) = M (B i))
    (hn : (q = none ∧ M1 (B (10 + r)) = some (.inr (7, [.null]))) ∨ ∃ q', q = some q' ∧ q'.1 ≤ 2 ∧ q'.2.1 ≤ 30 ∧ M1 (B (10 + r)) = some (.inr (7, [.ref (B1 (30 + r))])) ∧ M1 (B1 (30 + r)) = some (zRa q'))
    (hf : q ≠ none → (M (B1 (30 + r)) = none ∧ I1 (B1 (30 + r)) = none ∧ zB D ≤ B1 (30 + r)) ∨ (X.2.2.2.2.2 r ≠ none ∧ B1 (30 + r) = B (30 + r))) :
    RC D (xR X r q) B1 I1 M1 ∧ ∀ a, muA (xR X r q) B1 a → muA X B a ∨ M a = none := by
  have hJ : ∀ j, j ∈ [10 + r, 30 + r] → j = 10 + r ∨ j = 30 + r := by intro j hj; simpa using hj
  obtain ⟨k1, k2, k3, k4, k5, -, k7⟩ := RC_k hR [10 + r, 30 + r] hx.1 (M' := M1) (fun i hi hn => hk i hi (fun z => hn (by rw [z]; simp)) (fun z => hn (by rw [z]; simp)))
  have b0 := hB 0 (by omega)
  have b1 := hB 1 (by omega)
  have b2 := hB 2 (by omega)
  have b3 := hB 3 (by omega)
  have b5 := hB 5 (by omega)
  have b6 := hB 6 (by omega)
  have b7 := hB 7 (by omega)
  have b20 := hB 20 (by omega)
  have b21 := hB 21 (by omega)
  have hmu : ∀ i, muI (xR X r q) i → i ≠ 30 + r → muI X i := by
    intro i hi hne
    rcases hi with hi | ⟨s, hs, rfl, hsn⟩
    · exact Or.inl hi
    · have : s ≠ r := fun z => hne (by rw [z])
      have e : (xR X r q).2.2.2.2.2 s = X.2.2.2.2.2 s := zup_n this
      rw [e] at hsn
      exact Or.inr ⟨s, hs, rfl, hsn⟩
  have hmr : muI (xR X r q) (30 + r) → q ≠ none := by
    intro hi
    rcases hi with hi | ⟨s, hs, e, hsn⟩
    · exact absurd ((by decide : ∀ i ∈ mu0, i < 30) _ hi) (by omega)
    · have : s = r := by omega
      subst this
      have e : (xR X s q).2.2.2.2.2 s = q := zup_s
      rw [e] at hsn
      exact hsn
  obtain ⟨⟨f, r0, r1⟩, r2, r3, hr'⟩ := hR.2.2.2.2.2.1
  refine ⟨⟨?_, ?_, ?_, ?_, ?_, ⟨⟨f, ?_, fun s hs => ?_⟩, fun s t hs ht hst => ?_, fun s t hs ht hst hns hnt => ?_, fun s hs => ?_⟩, ?_, fun i hi => ?_⟩, fun a ha => ?_⟩
  · unfold RCo
    rw [b0, b1, b2, b3, b5, b6, b7]
    exact k1 (fun z => by have := hJ _ z; omega)
  · unfold RCw
    rw [b1]
    exact k2 (fun z => by have := hJ _ z; omega)
  · unfold RCt
    rw [b3]
    exact k3 (fun z => by have := hJ _ z; omega)
  · unfold RCs
    rw [b5]
    exact k4 (fun z => by have := hJ _ z; omega)
  · unfold RCh
    rw [b6]
    exact k5 (fun z => by have := hJ _ z; omega)
  · rw [b7]; exact hx.1 _ _ r0
  · rw [hB (10 + s) (by omega)]; exact r1 s hs
  · rw [hB (10 + s) (by omega), hB (10 + t) (by omega)]; exact r2 s t hs ht hst
  · have fr : ∀ t, t < 3 → t ≠ r → (xR X r q).2.2.2.2.2 t ≠ none → q ≠ none → B1 (30 + r) ≠ B1 (30 + t) := by
      intro t ht htr hnt hq
      have e : (xR X r q).2.2.2.2.2 t = X.2.2.2.2.2 t := zup_n htr
      rw [e] at hnt
      rw [hB (30 + t) (by omega)]
      obtain ⟨v, hv, -⟩ := RC_tag hR (Or.inr ⟨t, ht, rfl, hnt⟩ : muI X (30 + t))
      rcases hf hq with ⟨y1, -⟩ | ⟨y1, y2⟩
      · intro z; rw [z, hv] at y1; cases y1
      · rw [y2]; exact r3 r t hr ht (fun z => htr z.symm) y1 hnt
    by_cases es : s = r
    · subst es
      have e : (xR X s q).2.2.2.2.2 s = q := zup_s
      rw [e] at hns
      exact fr t ht (fun z => hst z.symm) hnt hns
    · by_cases et : t = r
      · subst et
        have e : (xR X t q).2.2.2.2.2 t = q := zup_s
        rw [e] at hnt
        exact (fr s hs hst hns hnt).symm
      · have e1 : (xR X r q).2.2.2.2.2 s = X.2.2.2.2.2 s := zup_n es
        have e2 : (xR X r q).2.2.2.2.2 t = X.2.2.2.2.2 t := zup_n et
        rw [e1] at hns
        rw [e2] at hnt
        rw [hB (30 + s) (by omega), hB (30 + t) (by omega)]
        exact r3 s t hs ht hst hns hnt
  · rw [hB (10 + s) (by omega)]
    by_cases es : s = r
    · subst es
      have e : (xR X s q).2.2.2.2.2 s = q := zup_s
      rw [e]
      exact hn
    · have e1 : (xR X r q).2.2.2.2.2 s = X.2.2.2.2.2 s := zup_n es
      have m1 : muI X (10 + s) := Or.inl (by
        have h9 : ∀ r : Fin 3, 10 + r.val ∈ mu0 := by decide
        exact h9 ⟨s, hs⟩)
      rw [e1, hB (30 + s) (by omega), hk (10 + s) m1 (by omega) (by omega)]
      rcases hr' s hs with y | ⟨q', y1, y2, y3, y4, y5⟩
      · exact Or.inl y
      · refine Or.inr ⟨q', y1, y2, y3, y4, ?_⟩
        rw [hk (30 + s) (Or.inr ⟨s, hs, rfl, by rw [y1]; simp⟩) (by omega) (by omega)]
        exact y5
  · unfold RCl
    rw [b2, b20, b21]
    exact k7 (fun z => by have := hJ _ z; omega) (fun z => by have := hJ _ z; omega)
  · by_cases ei : i = 30 + r
    · subst ei
      rcases hf (hmr hi) with ⟨-, y2, y3⟩ | ⟨y1, y2⟩
      · exact ⟨y2, y3⟩
      · rw [y2]
        have hi' : muI X (30 + r) := Or.inr ⟨r, hr, rfl, y1⟩
        obtain ⟨v, hv, -⟩ := RC_tag hR hi'
        have h2 := hR.2.2.2.2.2.2.2 _ hi'
        exact ⟨ext_0 hx hv h2.1, h2.2⟩
    · rw [hB i ei]
      have hi' := hmu i hi ei
      obtain ⟨v, hv, -⟩ := RC_tag hR hi'
      have h2 := hR.2.2.2.2.2.2.2 _ hi'
      exact ⟨ext_0 hx hv h2.1, h2.2⟩
  · obtain ⟨i, hi, rfl⟩ := ha
    by_cases ei : i = 30 + r
    · subst ei
      rcases hf (hmr hi) with ⟨y1, -⟩ | ⟨y1, y2⟩
      · exact Or.inr y1
      · exact Or.inl ⟨30 + r, Or.inr ⟨r, hr, rfl, y1⟩, y2⟩
    · exact Or.inl ⟨i, hmu i hi ei, hB i ei⟩
def sp_row (X : zSg) (r s n : Int32) : Int32 × zSg := if zb r 3 && zin s.toInt64 (-1) 2 then (if s < 0 then (1, xR X r.toNatClampNeg none) else if n ≤ 30 then (if n < 0 then (-14, X) else (1, xR X r.toNatClampNeg (some (s.toNatClampNeg, n.toNatClampNeg, (fun _ => 0), (fun _ => 0), (fun _ => 0))))) else (-1, X)) else (-1, X)
theorem c_row {post : Int32 → zM → Prop} {k n : Nat} {r s m : Int32} (hR : RC D X B I M) (hz : zle I M) (hk : 3 ≤ k) (hn : 60 ≤ n) (h : done D X B I M (sp_row X r s m).2 (post (sp_row X r s m).1)) : wp_X0_row D post k n (B 0) r s m M := by
  unfold wp_X0_row
  unfold sp_row at h
  have hno : (zb r 3 && zin s.toInt64 (-1) 2) = false → wp_X0_row_L31 D post (B 0) k n M := by
    intro z
    rw [z] at h
    exact fin0 hR hz h (zle_r _)
  refine c_isRow (ifb' (fun e1 => c_in (ifb' (fun e2 => ?_) (fun e2 => hno (by rw [e1, e2]; rfl)))) (fun e1 => hno (by rw [e1]; rfl)))
  rw [e1, e2] at h
  obtain ⟨a, ha, rfl⟩ := zb_of e1 (by decide)
  rw [nI_clamp (by omega)] at h
  simp only [Bool.and_true, if_true] at h
  obtain ⟨f, h1, h2, h3⟩ := RC_rw hR hz ha
  have m1 : muI X (10 + a) := Or.inl (by
    have h9 : ∀ r : Fin 3, 10 + r.val ∈ mu0 := by decide
    exact h9 ⟨a, ha⟩)
  obtain ⟨fs, h4⟩ : ∃ fs, M (B (10 + a)) = some (.inr (7, fs)) ∧ fs.length = 1 := by
    rcases h3 with ⟨-, y⟩ | ⟨q, -, -, -, y, -⟩ <;> exact ⟨_, y, rfl⟩
  have hu := hR.2.2.2.2.2.2.2 _ m1
  have hset : ∀ v : Value, fs.set 0 v = [v] := by
    intro v
    match fs, h4.2 with
    | [x], _ => rfl
  have enter : (s < 0 ∨ m ≤ 30) → wp_X0_row_L33 D post (B 0) k n (nI a) s m M := by
    intro hsm
    unfold wp_X0_row_L33
    refine cgR (x := some (B 7)) hR.1 rfl (czd (caR h1 (vp_in_nI ha (by decide)) ?_))
    rw [nI_clamp (by omega), h2]
    refine ⟨k, n, Nat.le_refl _, Nat.le_refl _, ?_⟩
    unfold wp_X0_rowOf
    by_cases hs : s < 0
    · rw [if_pos hs] at h
      refine ⟨fun z => by rw [z] at hs; exact absurd hs (by decide), fun z => by rw [z] at hs; exact absurd hs (by decide), fun z => by rw [z] at hs; exact absurd hs (by decide), fun _ => czd (cp h4.1 hu.2 (by rw [h4.2]; decide) ?_)⟩
      rw [hset]
      have hx : ext (muA X B) I M I (zu M (B (10 + a)) (some (.inr (7, [.null])))) := ext_p (ext_r hz) (Or.inl ⟨_, m1, rfl⟩) hu.1
      obtain ⟨q1, q2⟩ := RC_row1 (B1 := B) (q := none) hR hx ha (fun i _ => rfl) (fun i hi y1 y2 => by rw [zu_n (RC_ne hR hi m1 y1)]) (Or.inl ⟨rfl, zu_s⟩) (fun z => absurd rfl z)
      exact h _ _ B rfl hx q1 q2
    · rw [if_neg hs, if_pos (hsm.resolve_left hs)] at h
      obtain ⟨u, hu31, rfl⟩ := nI_of hs
      have hu3 : u ≤ 2 := by
        unfold zin at e2
        rw [Bool.and_eq_true, decide_eq_true_eq, decide_eq_true_eq, Int64.le_iff_toInt_le, Int64.le_iff_toInt_le, Int32.toInt_toInt64, nI_toInt hu31] at e2
        have e3 : (2 : Int64).toInt = 2 := by decide
        rw [e3] at e2
        omega
      rw [nI_clamp hu31] at h
      have gen : ∀ kd : Nat, (∀ p, (some (.inl (kd, zna kd p)) : Option zV) = some (zRa (u, p, (fun _ => 0), (fun _ => 0), (fun _ => 0)))) → (¬ m < 0 → znewA D M kd m k n fun b1 M => zd (some (B (10 + a))) fun b7 => zp D M b7 7 0 (va_rf (some b1)) fun M => post 1 M) ∧ (m < 0 → znewX D M 29 k n 3 60 fun q M => (∃ fs, M q = some (.inr (29, fs))) ∧ wp_X0_row_L49 D post (B 0) (k - k) (n - n) (some q) M) := by
        intro kd hkd
        unfold wp_X0_row_L49
        refine ⟨fun z => ?_, fun z => ⟨hk, hn, fun b hb hb0 => ⟨⟨[], zu_s⟩, by rw [if_pos z] at h; exact fin0 hR hz h (zle_new (zle_r _) hb)⟩⟩⟩
        rw [if_neg z] at h
        obtain ⟨p, hp31, rfl⟩ := nI_of z
        have hp30 : p ≤ 30 := by
          have := hsm.resolve_left hs
          rw [show (30 : Int32) = nI 30 from rfl, nI_leI hp31 (by decide)] at this
          exact this
        rw [nI_clamp hp31] at h
        refine znA (by omega) (by omega) (by omega) fun b hb hb0 => czd (cp (kw h4.1 hb) hu.2 (by rw [h4.2]; decide) ?_)
        rw [hset, hkd]
        have nb : b ≠ B (10 + a) := fun y => by rw [y, h4.1] at hb; cases hb
        have hx : ext (muA X B) I M I (zu (zu M b (some (zRa (u, p, (fun _ => 0), (fun _ => 0), (fun _ => 0))))) (B (10 + a)) (some (.inr (7, [.ref b])))) := ext_p (ext_m (ext_r hz) hb) (Or.inl ⟨_, m1, rfl⟩) hu.1
        have hIb : I b = none := by
          cases e : I b with
          | none => rfl
          | some v => rw [hz _ _ e] at hb; cases hb
        obtain ⟨q1, q2⟩ := RC_row1 (B1 := fun i => if i = 30 + a then b else B i) (q := some (u, p, (fun _ => 0), (fun _ => 0), (fun _ => 0))) hR hx ha (fun i hi => if_neg hi) (fun i hi y1 y2 => by
          obtain ⟨v, hv, -⟩ := RC_tag hR hi
          rw [zu_n (RC_ne hR hi m1 y1), kw hv hb, hv]) (Or.inr ⟨_, rfl, hu3, hp30, by rw [if_pos rfl, zu_s], by rw [if_pos rfl, zu_n nb, zu_s]⟩) (fun _ => Or.inl (by rw [if_pos rfl]; exact ⟨hb, hIb, hb0⟩))
        refine h _ _ (fun i => if i = 30 + a then b else B i) ?_ hx q1 q2
        exact if_neg (by omega)
      match u, hu3, gen with
      | 0, _, gen => exact ⟨fun _ => gen 3 (fun p => rfl), fun z => absurd z (by decide), fun z => absurd z (by decide), fun z => absurd rfl z.1⟩
      | 1, _, gen => exact ⟨fun z => absurd z (by decide), fun _ => gen 4 (fun p => rfl), fun z => absurd z (by decide), fun z => absurd rfl z.2.1⟩
      | 2, _, gen => exact ⟨fun z => absurd z (by decide), fun z => absurd z (by decide), fun _ => gen 2 (fun p => rfl), fun z => absurd rfl z.2.2⟩
  refine ⟨fun z => enter (Or.inl z), fun z => ⟨fun z2 => enter (Or.inr z2), fun z2 => ?_⟩⟩
  unfold wp_X0_row_L31
  rw [if_neg z, if_neg z2] at h
  exact fin0 hR hz h (zle_r _)
/-- a number is written -/
def zrt (q : zRo) (j : Nat) (a b : Int32) : zRo := (q.1, q.2.1, vf_upd q.2.2.1 j (FP.fdiv (FP.i2f a) (FP.i2f b)), vf_upd q.2.2.2.1 j (FP.ddiv (FP.i2d a) (FP.i2d b)), vp_updL q.2.2.2.2 j (a.toInt64 / b.toInt64))
def sp_ratio (X : zSg) (r i a b : Int32) : Int32 × zSg := if sp_un X r i = 0 then (if b = 0 then (-15, X) else (1, xR X r.toNatClampNeg ((X.2.2.2.2.2 r.toNatClampNeg).map fun q => zrt q i.toNatClampNeg a b))) else (sp_un X r i, X)
theorem z640 {b : Int32} : (b.toInt64 = 0) ↔ b = 0 := ⟨fun z => Classical.byContradiction fun y => z64ne y z, fun z => by rw [z]; rfl⟩
/-- what a row holds is written -/
theorem fin_r {post : zM → Prop} {a : Nat} {q q' : zRo} (hR : RC D X B I M) (hz : zle I M) (ha : a < 3) (hq : X.2.2.2.2.2 a = some q) (h1 : q'.1 ≤ 2) (h2 : q'.2.1 ≤ 30) (h : done D X B I M (xR X a (some q')) post) : post (zu M (B (30 + a)) (some (zRa q'))) := by
  have hmu : muI X (30 + a) := Or.inr ⟨a, ha, rfl, by rw [hq]; simp⟩
  have hu := hR.2.2.2.2.2.2.2 _ hmu
  have hx : ext (muA X B) I M I (zu M (B (30 + a)) (some (zRa q'))) := ext_p (ext_r hz) (Or.inl ⟨_, hmu, rfl⟩) hu.1
  have m1 : muI X (10 + a) := Or.inl (by
    have h9 : ∀ r : Fin 3, 10 + r.val ∈ mu0 := by decide
    exact h9 ⟨a, ha⟩)
  obtain ⟨f, -, -, h3⟩ := RC_rw hR hz ha
  rcases h3 with ⟨k1, k2⟩ | ⟨q0, k1, k2, k3, k4, hb, hb0⟩
  · rw [hq] at k1; cases k1
  obtain ⟨q1, q2⟩ := RC_row1 (B1 := B) (q := some q') hR hx ha (fun i _ => rfl) (fun i hi y1 y2 => by rw [zu_n (RC_ne hR hi hmu y2)]) (Or.inr ⟨q', rfl, h1, h2, by rw [zu_n (RC_ne hR m1 hmu (by omega))]; exact k4, zu_s⟩) (fun _ => Or.inr ⟨by rw [hq]; simp, rfl⟩)
  exact h _ _ B rfl hx q1 q2
theorem c_ratio {post : Int32 → zM → Prop} {k n : Nat} {r i x y : Int32} (hR : RC D X B I M) (hz : zle I M) (hk : 3 ≤ k) (hn : 60 ≤ n) (h : done D X B I M (sp_ratio X r i x y).2 (post (sp_ratio X r i x y).1)) : wp_X0_ratio D post k n (B 0) r i x y M := by
  unfold wp_X0_ratio wp_X0_ratio_L111 wp_X0_ratio_L55
  unfold sp_ratio at h
  refine c_unlike hR hz ⟨fun z => ?_, fun z => by rw [if_neg z] at h; exact fin0 hR hz h (zle_r _)⟩
  rw [if_pos z] at h
  obtain ⟨a, j, q, ha, rfl, hq, hj, hn30, rfl⟩ := sp_un0 z (RC_rn hR)
  rw [nI_clamp (by omega), nI_clamp (by omega), hq] at h
  obtain ⟨f, h1, h2, h3⟩ := RC_rw hR hz ha
  have hcl : (nI a).toNatClampNeg = a := nI_clamp (by omega)
  have hcj : (nI j).toNatClampNeg = j := nI_clamp (by omega)
  have hv : vp_in (nI j) q.2.1 := vp_in_nI hj (by omega)
  refine cgR (x := some (B 7)) hR.1 rfl (czd (caR h1 (vp_in_nI ha (by decide)) ?_))
  rw [hcl, h2]
  refine czd ?_
  rcases h3 with ⟨k1, k2⟩ | ⟨q', k1, k2, k3, k4, hb, hb0⟩
  · rw [hq] at k1; cases k1
  rw [hq] at k1
  cases k1
  refine cgR (x := some (B (30 + a))) k4 rfl ?_
  have done1 : ¬ y = 0 → post 1 (zu M (B (30 + a)) (some (zRa (zrt q j x y)))) := by
    intro z0
    rw [if_neg z0] at h
    exact fin_r (post := fun M => post 1 M) hR hz ha hq (show (zrt q j x y).1 ≤ 2 from k2) (show (zrt q j x y).2.1 ≤ 30 from k3) h
  have done0 : y = 0 → ∀ M', zle M M' → post (-15) M' := by
    intro z0 M' hM
    rw [if_pos z0] at h
    exact fin0 hR hz h hM
  rcases zRa_c k2 with ⟨e, e2⟩ | ⟨e, e2⟩ | ⟨e, e2⟩ <;> rw [e2] at hb
  · refine Or.inr ⟨ziL hb0 hb, i01 ⟨fun z0 => Or.inl ⟨_, _, rfl, hb0, hb, i10 ⟨zi1 hb0 hb, zon32 (zfd32 z0), czd (csF hb hb0 hv ?_)⟩⟩, fun z0 => done0 z0 M (zle_r _)⟩⟩
    have d := done1 z0
    rw [hcj]
    unfold zRa zrt at d
    rw [if_pos e] at d
    exact d
  · refine Or.inr ⟨ziR hb0 hb, i01 ⟨fun z0 => Or.inr ⟨ziR hb0 hb, i01 ⟨zi1 hb0 hb, zon64 (zfd64 z0), czd (csD hb hb0 hv ?_)⟩⟩, fun z0 => done0 z0 M (zle_r _)⟩⟩
    have d := done1 z0
    rw [hcj]
    unfold zRa zrt at d
    rw [if_neg (by show ¬ q.1 = 0; omega), if_pos e] at d
    exact d
  · refine Or.inl ⟨_, _, rfl, hb0, hb, i10 ⟨zi1 hb0 hb, fun z0 => czd (csL hb hb0 hv ?_), fun z0 => ⟨hk, hn, fun b hbn hbn0 => ⟨⟨[], zu_s⟩, done0 (z640.mp z0) _ (zle_new (zle_r _) hbn)⟩⟩⟩⟩
    have d := done1 (fun y => z0 (z640.mpr y))
    rw [hcj]
    unfold zRa zrt at d
    rw [if_neg (by show ¬ q.1 = 0; omega), if_neg (by show ¬ q.1 = 1; omega)] at d
    exact d
/-- numbers are moved from a row x to a row y -/
def zmo8 (x y : zRo) (i j n : Nat) : zRo := (y.1, y.2.1, va_cpy x.2.2.1 y.2.2.1 i j n, va_cpy x.2.2.2.1 y.2.2.2.1 i j n, va_cpy x.2.2.2.2 y.2.2.2.2 i j n)
def sp_move (X : zSg) (r i q j n : Int32) : Int32 × zSg := if zb r 3 && zb q 3 then (match X.2.2.2.2.2 r.toNatClampNeg, X.2.2.2.2.2 q.toNatClampNeg with
    | some x, some y => if x.1 = y.1 then (if n < 0 ∨ i < 0 ∨ j < 0 ∨ nI x.2.1 - i < n ∨ ¬ n ≤ nI y.2.1 - j then (-12, X) else (n, xR X q.toNatClampNeg (some (zmo8 x y i.toNatClampNeg j.toNatClampNeg n.toNatClampNeg)))) else (-13, X)
    | _, _ => (-11, X)) else (-1, X)
theorem c_move {post : Int32 → zM → Prop} {r i q j n : Int32} (hR : RC D X B I M) (hz : zle I M) (h : done D X B I M (sp_move X r i q j n).2 (post (sp_move X r i q j n).1)) : wp_X0_move D post (B 0) r i q j n M := by
  unfold wp_X0_move wp_X0_move_L14 wp_X0_move_L48 wp_X0_move_L106
  unfold sp_move at h
  refine c_isRow (ifb' (fun e1 => c_isRow (ifb (fun e2 => ?_) (fun e2 => by rw [e1, e2] at h; exact fin0 hR hz h (zle_r _)))) (fun e1 => by rw [e1] at h; exact fin0 hR hz h (zle_r _)))
  obtain ⟨a, ha, rfl⟩ := zb_of e1 (by decide)
  obtain ⟨c, hc, rfl⟩ := zb_of e2 (by decide)
  rw [e1, e2, nI_clamp (by omega), nI_clamp (by omega)] at h
  simp only [Bool.and_true, if_true] at h
  obtain ⟨f, h1, h2, h3⟩ := RC_rw hR hz ha
  obtain ⟨f', h1', h2', h3'⟩ := RC_rw hR hz hc
  refine cgR (x := some (B 7)) hR.1 rfl (czd (caR h1 (vp_in_nI ha (by decide)) ?_))
  rw [nI_clamp (by omega), h2]
  refine cgR (x := some (B 7)) hR.1 rfl (czd (caR h1' (vp_in_nI hc (by decide)) ?_))
  rw [nI_clamp (by omega), h2']
  refine czd ?_
  rcases h3 with ⟨k1, k2⟩ | ⟨x, k1, k2, k3, k4, hb, hb0⟩
  · rw [k1] at h
    exact cgR (x := none) k2 rfl ⟨fun _ => fin0 hR hz h (zle_r _), fun b hb => (nomatch hb)⟩
  refine cgR (x := some (B (30 + a))) k4 rfl ⟨fun z => (nomatch z), fun b _ => czd ?_⟩
  rcases h3' with ⟨m1, m2⟩ | ⟨y, m1, m2, m3, m4, hb', hb0'⟩
  · rw [k1, m1] at h
    exact cgR (x := none) m2 rfl ⟨fun b hb => (nomatch hb), fun _ => fin0 hR hz h (zle_r _)⟩
  rw [k1, m1] at h
  simp only at h
  refine cgR (x := some (B (30 + c))) m4 rfl ⟨fun b _ => ?_, fun z => (nomatch z)⟩
  refine c_sort8 k2 k4 hb hb0 (c_sort8 m2 m4 hb' hb0' ?_)
  rw [nI_eq (by omega) (by omega)]
  refine ⟨fun z => ?_, fun z => by rw [if_neg z] at h; exact fin0 hR hz h (zle_r _)⟩
  rw [if_pos z] at h
  have no : (n < 0 ∨ i < 0 ∨ j < 0 ∨ nI x.2.1 - i < n ∨ ¬ n ≤ nI y.2.1 - j) → post (-12) M := by
    intro y0
    rw [if_pos y0] at h
    exact fin0 hR hz h (zle_r _)
  refine ⟨fun z1 => no (Or.inl z1), fun z1 => ⟨fun z2 => no (Or.inr (Or.inl z2)), fun z2 => ⟨fun z3 => no (Or.inr (Or.inr (Or.inl z3))), fun z3 => c_size8 k2 k4 hb hb0 ⟨fun z4 => no (Or.inr (Or.inr (Or.inr (Or.inl z4)))), fun z4 => c_size8 m2 m4 hb' hb0' ⟨fun z5 => ?_, fun z5 => no (Or.inr (Or.inr (Or.inr (Or.inr z5))))⟩⟩⟩⟩⟩
  rw [if_neg (fun y0 => by rcases y0 with y0 | y0 | y0 | y0 | y0 <;> contradiction)] at h
  obtain ⟨n', hn', rfl⟩ := nI_of z1
  obtain ⟨i', hi', rfl⟩ := nI_of z2
  obtain ⟨j', hj', rfl⟩ := nI_of z3
  have hsub : ∀ p s t : Nat, p ≤ 30 → s < 2 ^ 31 → t < 2 ^ 31 → nI t ≤ nI p - nI s → s + t ≤ p := by
    intro p s t hp hs ht hle
    rw [Int32.le_iff_toInt_le, nI_toInt ht, Int32.toInt_sub, nI_toInt (by omega), nI_toInt hs, Int.bmod_def] at hle
    simp only [Nat.reducePow] at hle
    omega
  have hl1 : i' + n' ≤ x.2.1 := hsub x.2.1 i' n' k3 hi' hn' (by rw [Int32.lt_iff_toInt_lt] at z4; rw [Int32.le_iff_toInt_le]; omega)
  have hl2 : j' + n' ≤ y.2.1 := hsub y.2.1 j' n' m3 hj' hn' z5
  rw [nI_clamp hi', nI_clamp hj', nI_clamp hn'] at h
  have d := fin_r (post := fun M => post (nI n') M) hR hz hc m1 (show (zmo8 x y i' j' n').1 ≤ 2 from m2) (show (zmo8 x y i' j' n').2.1 ≤ 30 from m3) h
  unfold zRa zmo8 at d
  refine cgR (x := some (B (30 + a))) k4 rfl (cgR (x := some (B (30 + c))) m4 rfl (czd (czd ?_)))
  rcases zRa_c k2 with ⟨e, e2⟩ | ⟨e, e2⟩ | ⟨e, e2⟩ <;> rw [e2] at hb <;> rcases zRa_c m2 with ⟨g, g2⟩ | ⟨g, g2⟩ | ⟨g, g2⟩ <;> rw [g2] at hb' <;> (try (exfalso; omega))
  · rw [if_pos g] at d
    exact Or.inr (Or.inl ⟨_, _, _, _, hb, hb', hb0', z2, z3, z1, by rw [nI_clamp hi', nI_clamp hn']; exact hl1, by rw [nI_clamp hj', nI_clamp hn']; exact hl2, by rw [nI_clamp hi', nI_clamp hj', nI_clamp hn']; exact d⟩)
  · rw [if_neg (by show ¬ y.1 = 0; omega), if_pos g] at d
    exact Or.inr (Or.inr ⟨_, _, _, _, hb, hb', hb0', z2, z3, z1, by rw [nI_clamp hi', nI_clamp hn']; exact hl1, by rw [nI_clamp hj', nI_clamp hn']; exact hl2, by rw [nI_clamp hi', nI_clamp hj', nI_clamp hn']; exact d⟩)
  · rw [if_neg (by show ¬ y.1 = 0; omega), if_neg (by show ¬ y.1 = 1; omega)] at d
    exact Or.inl ⟨_, _, _, _, hb, hb', hb0', z2, z3, z1, by rw [nI_clamp hi', nI_clamp hn']; exact hl1, by rw [nI_clamp hj', nI_clamp hn']; exact hl2, by rw [nI_clamp hi', nI_clamp hj', nI_clamp hn']; exact d⟩
end CR2
