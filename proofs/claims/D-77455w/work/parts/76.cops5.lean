/-! the component's acts that leave all as it was, continued -/
def zty5 (f g : Nat → Nat) : Nat → Bool
  | 0 => true
  | a + 1 => zty5 f g a && decide (f a = g a)
def zcnB (p : Nat → Bool) : Nat → Int32
  | 0 => 0
  | n + 1 => zcnB p n ||| (if p n then ((1 : Int32) <<< (nI n &&& 31)) else 0)
def zcnA (p : Nat → Bool) : Nat → Int32
  | 0 => 0
  | n + 1 => zcnA p n + (if p n then 1 else 0)
theorem b1_and {p q : Bool} : b1 p &&& b1 q = b1 (p && q) := by cases p <;> cases q <;> rfl
section CO5
variable {D : zD} {X : zSg} {B : Nat → Nat} {I M : zM}
def sp_same (X : zSg) (s c : Int32) : Int32 := if zb s 4 && zb c 4 then (match X.2.2.1 s.toNatClampNeg, X.2.2.1 c.toNatClampNeg with | some p, some q => b1 (decide (p.2.1 = q.2.1) && zty5 p.2.2 q.2.2 5) | _, _ => -2) else -1
theorem c_same {post : Int32 → zM → Prop} {s c : Int32} (hR : RC D X B I M) (hz : zle I M) (h : post (sp_same X s c) M) : wp_X0_same D post (B 0) s c M := by
  unfold wp_X0_same wp_X0_same_L14 wp_X0_same_L40
  unfold sp_same at h
  refine c_isSlot (ifb' (fun e1 => c_isSlot (ifb (fun e2 => ?_) (fun e2 => by rw [e1, e2] at h; exact h))) (fun e1 => by rw [e1] at h; exact h))
  obtain ⟨j, hj, rfl⟩ := zb_of e1 (by decide)
  obtain ⟨i, hi, rfl⟩ := zb_of e2 (by decide)
  rw [e1, e2, nI_clamp (by omega), nI_clamp (by omega)] at h
  obtain ⟨f, h1, h2⟩ := RC_sl hR hz hj
  obtain ⟨f', h1', h2'⟩ := RC_sl hR hz hi
  have : f' = f := by
    rw [h1] at h1'
    simp only [Option.some.injEq, Sum.inl.injEq, Prod.mk.injEq, true_and, Sum.inr.injEq] at h1'
    exact h1'.symm
  subst this
  refine cgR (x := some (B 5)) hR.1 rfl (czd (caR h1 (vp_in_nI hj (by decide)) (cgR (x := some (B 5)) hR.1 rfl (czd (caR h1 (vp_in_nI hi (by decide)) ?_)))))
  rw [nI_clamp (by omega), nI_clamp (by omega)]
  simp only [Bool.and_true, if_true] at h
  rcases h2 with ⟨h3, h4⟩ | ⟨q, a, h3, h4, P, L, T, g, h5, h6, h7, h8, h9, h10⟩
  · rw [h3] at h
    rw [h4]
    exact ⟨fun _ => h, fun b hb => (nomatch hb)⟩
  · rw [h4]
    refine ⟨fun z => (nomatch z), fun b hb => ?_⟩
    cases hb
    rcases h2' with ⟨k3, k4⟩ | ⟨q', a', k3, k4, P', L', T', g', k5, k6, k7, k8, k9, k10⟩
    · rw [h3, k3] at h
      rw [k4]
      exact ⟨fun b hb => (nomatch hb), fun _ => h⟩
    · rw [h3, k3] at h
      rw [k4]
      refine ⟨fun b hb => ?_, fun z => (nomatch z)⟩
      cases hb
      have loop : ∀ (n f : Nat) (p : Bool), n ≤ 5 → 5 - n < f → p = (decide (q.2.1 = q'.2.1) && zty5 q.2.2 q'.2.2 n) → wp_X0_same_L65 D post (B 0) f (some a) (some a') (b1 p) (nI n) M := by
        intro n f
        induction f generalizing n with
        | zero => intro p hn hf; omega
        | succ f ih =>
          intro p hn hf hp
          unfold wp_X0_same_L65 wp_X0_same_L96 wp_X0_same_L115
          rw [show (5 : Int32) = nI 5 from rfl, nI_leI (by decide) (by omega)]
          refine ⟨fun z => ?_, fun z => ?_⟩
          · have : n = 5 := by omega
            subst this
            dsimp only at h
            rw [← hp] at h
            refine ifb' (fun e => ?_) (fun e => ?_)
            · rw [e] at h; exact h
            · rw [e] at h; exact h
          · refine czd (cgR (x := some T) h5 rfl (czd (caI h8 (vp_in_nI (by omega) (by decide)) (czd (cgR (x := some T') k5 rfl (czd (caI k8 (vp_in_nI (by omega) (by decide)) ?_)))))))
            rw [nI_clamp (by omega), (h9 n (by omega)).1, (k9 n (by omega)).1, nI_eq (by have := (h9 n (by omega)).2; omega) (by have := (k9 n (by omega)).2; omega), nI_1]
            refine ⟨fun z => ?_, fun z => ?_⟩
            · rw [show (0 : Int32) = b1 false from rfl, b1_and]
              exact ih (n + 1) _ (by omega) (by omega) (by rw [zty5, decide_eq_false z, hp, Bool.and_assoc])
            · rw [show (1 : Int32) = b1 true from rfl, b1_and]
              exact ih (n + 1) _ (by omega) (by omega) (by rw [zty5, decide_eq_true z, hp, Bool.and_assoc])
      unfold wp_X0_same_L60
      refine cgI h5 rfl (cgI k5 rfl ⟨fun z => ⟨6, ?_⟩, fun z => ⟨6, ?_⟩⟩)
      · exact loop 0 6 false (by decide) (by decide) (by rw [decide_eq_false z]; rfl)
      · exact loop 0 6 true (by decide) (by decide) (by rw [decide_eq_true z]; rfl)
theorem RC_th (h : RC D X B I M) (hz : zle I M) : ∃ f : Nat → Option Nat, M (B 6) = some (.inl (9, 5, .inr (.inr (.inr (.inr f))))) ∧ ∀ j, j < 5 → zTg M (f j) (X.2.2.2.1 j) := by
  obtain ⟨-, -, -, -, ⟨f, h1, h2⟩, -⟩ := h
  exact ⟨f, h1, fun j hj => zTg_m hz (h2 j hj)⟩
theorem zTg_le {r : Option Nat} {q : zTh} (h : zTg M r q) : q.1 ≤ 3 := by
  rcases h with h | h | h | h <;> omega
theorem c_typeOf {post : Int32 → zM → Prop} {j : Nat} (hR : RC D X B I M) (hz : zle I M) (hj : j < 5) (h : post (nI (X.2.2.2.1 j).1) M) : zis M (B 0) [0] ∧ wp_X0_typeOf D post (B 0) (nI j) M := by
  obtain ⟨f, h1, h2⟩ := RC_th hR hz
  have h3 := h2 j hj
  unfold wp_X0_typeOf wp_X0_typeOf_L24
  have hcl : (nI j).toNatClampNeg = j := nI_clamp (by omega)
  have hv := vp_in_nI hj (by decide : 5 < 2 ^ 31)
  refine ⟨cis hR.1 (by decide), cgR (x := some (B 6)) hR.1 rfl (czd (caR h1 hv ?_))⟩
  rw [hcl]
  have nn : ∀ a, f j = some a → ((zis M a [22] ∧ wp_X25_type D (fun r9 M => post r9 M) a M) ∨ (zis M a [23] ∧ wp_X26_type D (fun r12 M => post r12 M) a M) ∨ (zis M a [24] ∧ wp_X27_type D (fun r15 M => post r15 M) a M)) →
      ((∀ b4 : Nat, f j = some b4 → (zgR M (B 0) 0 6 fun g5 => ((zd g5 fun b6 => zaR M b6 9 (nI j) fun v7 => ((zd v7 fun b8 => ((zis M b8 [22] ∧ wp_X25_type D (fun r9 M => post r9 M) b8 M) ∨ (zis M b8 [23] ∧ wp_X26_type D (fun r12 M => post r12 M) b8 M) ∨ (zis M b8 [24] ∧ wp_X27_type D (fun r15 M => post r15 M) b8 M)))))))) ∧ (f j = none → post (0 : Int32) M)) := by
    intro a ha hp
    refine ⟨fun b _ => cgR (x := some (B 6)) hR.1 rfl (czd (caR h1 hv ?_)), fun z => ?_⟩
    · rw [hcl, ha]
      exact czd hp
    · rw [ha] at z; cases z
  rcases h3 with ⟨h4, h5⟩ | ⟨h4, -, a, c, h5, h6, -⟩ | ⟨h4, -, a, g, h5, h6, -⟩ | ⟨h4, -, -, -, a, c, g, h5, h6, -⟩
  · rw [h4] at h
    rw [h5]
    exact ⟨fun b hb => (nomatch hb), fun _ => h⟩
  · rw [h4] at h
    exact nn a h5 (Or.inl ⟨cis h6 (by decide), h⟩)
  · rw [h4] at h
    exact nn a h5 (Or.inr (Or.inl ⟨cis h6 (by decide), h⟩))
  · rw [h4] at h
    exact nn a h5 (Or.inr (Or.inr ⟨cis h6 (by decide), h⟩))
def sp_held (X : zSg) (a w : Int32) : Int64 := if zb a 5 && zb w 9 then
    (if w.toNatClampNeg = 0 then (nI (X.2.2.2.1 a.toNatClampNeg).1).toInt64 else if (X.2.2.2.1 a.toNatClampNeg).1 = 0 then -9223372036854775808 else if w.toNatClampNeg = 1 then (X.2.2.2.1 a.toNatClampNeg).2.1.toInt64 else if w.toNatClampNeg = 2 then (nI (X.2.2.2.1 a.toNatClampNeg).2.2.1).toInt64
      else if (X.2.2.2.1 a.toNatClampNeg).1 = 3 then ((X.2.2.2.1 a.toNatClampNeg).2.2.2[w.toNatClampNeg - 3]?).elim (-9223372036854775808) Int32.toInt64 else -9223372036854775808) else -9223372036854775808
theorem c_held {post : Int64 → zM → Prop} {a w : Int32} (hR : RC D X B I M) (hz : zle I M) (h : post (sp_held X a w) M) : wp_X0_held D post (B 0) a w M := by
  unfold wp_X0_held wp_X0_held_L19 wp_X0_held_L61
  unfold sp_held at h
  refine c_isArgument (ifb' (fun e1 => c_in ?_) (fun e1 => by rw [e1] at h; exact h))
  rw [zin_b (n := 9) (by decide)]
  refine ifb (fun e2 => ?_) (fun e2 => by rw [e1, e2] at h; exact h)
  obtain ⟨j, hj, rfl⟩ := zb_of e1 (by decide)
  obtain ⟨i, hi, rfl⟩ := zb_of e2 (by decide)
  rw [e1, e2, nI_clamp (by omega), nI_clamp (by omega)] at h
  simp only [Bool.and_true, if_true] at h
  rw [show (0 : Int32) = nI 0 from rfl, nI_eq (by omega) (by decide)]
  refine ⟨fun z => ?_, fun z => ?_⟩
  rotate_left
  · rw [if_pos z] at h
    exact c_typeOf hR hz hj h
  rw [if_neg z] at h
  obtain ⟨f, h1, h2⟩ := RC_th hR hz
  have h3 := h2 j hj
  have hcl : (nI j).toNatClampNeg = j := nI_clamp (by omega)
  have hv := vp_in_nI hj (by decide : 5 < 2 ^ 31)
  refine cgR (x := some (B 6)) hR.1 rfl (czd (caR h1 hv ?_))
  rw [hcl]
  have nn : ∀ a, f j = some a → ((zis M a [22] ∧ wp_X25_held D (fun r15 M => post r15 M) a (nI i) M) ∨ (zis M a [23] ∧ wp_X26_held D (fun r18 M => post r18 M) a (nI i) M) ∨ (zis M a [24] ∧ wp_X27_held D (fun r21 M => post r21 M) a (nI i) M)) →
      ((∀ b10 : Nat, f j = some b10 → (zgR M (B 0) 0 6 fun g11 => ((zd g11 fun b12 => zaR M b12 9 (nI j) fun v13 => ((zd v13 fun b14 => ((zis M b14 [22] ∧ wp_X25_held D (fun r15 M => post r15 M) b14 (nI i) M) ∨ (zis M b14 [23] ∧ wp_X26_held D (fun r18 M => post r18 M) b14 (nI i) M) ∨ (zis M b14 [24] ∧ wp_X27_held D (fun r21 M => post r21 M) b14 (nI i) M)))))))) ∧ (f j = none → post (-9223372036854775808 : Int64) M)) := by
    intro a ha hp
    refine ⟨fun b _ => cgR (x := some (B 6)) hR.1 rfl (czd (caR h1 hv ?_)), fun z => ?_⟩
    · rw [hcl, ha]
      exact czd hp
    · rw [ha] at z; cases z
  have i1 : (nI i = (1 : Int32)) ↔ i = 1 := by rw [show (1 : Int32) = nI 1 from rfl, nI_eq (by omega) (by decide)]
  have i2 : (nI i = (2 : Int32)) ↔ i = 2 := by rw [show (2 : Int32) = nI 2 from rfl, nI_eq (by omega) (by decide)]
  rcases h3 with ⟨h4, h5⟩ | ⟨h4, -, a, c, h5, h6, h7⟩ | ⟨h4, h0, a, g, h5, h6, -⟩ | ⟨h4, h0, h8, h9, a, c, g, h5, h6, h7, h10⟩
  · rw [if_pos h4] at h
    rw [h5]
    exact ⟨fun b hb => (nomatch hb), fun _ => h⟩
  · rw [if_neg (by omega)] at h
    refine nn a h5 (Or.inl ⟨cis h6 (by decide), ?_⟩)
    unfold wp_X25_held wp_X25_held_L35
    rw [i1, i2]
    refine ⟨fun z1 => ⟨fun z2 => ?_, fun z2 => ?_⟩, fun z1 => ?_⟩
    · rw [if_neg z1, if_neg z2, if_neg (by omega)] at h; exact h
    · rw [if_neg z1, if_pos z2] at h; exact cgR (x := some c) h6 rfl (czd (cgI h7 rfl h))
    · rw [if_pos z1] at h; exact cgR (x := some c) h6 rfl (czd (cgI h7 rfl h))
  · rw [if_neg (by omega)] at h
    refine nn a h5 (Or.inr (Or.inl ⟨cis h6 (by decide), ?_⟩))
    unfold wp_X26_held wp_X26_held_L25
    rw [i1, i2]
    refine ⟨fun z1 => ⟨fun z2 => ?_, fun z2 => ?_⟩, fun z1 => ?_⟩
    · rw [if_neg z1, if_neg z2, if_neg (by omega)] at h; exact h
    · rw [if_neg z1, if_pos z2, h0] at h; exact h
    · rw [if_pos z1] at h; exact cgI h6 rfl h
  · rw [if_neg (by omega)] at h
    refine nn a h5 (Or.inr (Or.inr ⟨cis h6 (by decide), ?_⟩))
    unfold wp_X27_held wp_X27_held_L49
    rw [i1, i2]
    refine ⟨fun z1 => ⟨fun z2 => ?_, fun z2 => ?_⟩, fun z1 => ?_⟩
    · rw [if_neg z1, if_neg z2, if_pos h4] at h
      obtain ⟨i', rfl⟩ : ∃ i', i = i' + 3 := ⟨i - 3, by omega⟩
      have e3 : nI (i' + 3) - 3 = nI i' := by rw [show (3 : Int32) = nI 3 from rfl, ← nI_add, Int32.add_sub_cancel]
      rw [Nat.add_sub_cancel] at h
      rw [e3]
      refine cgR (x := some c) h6 rfl (czd (clen h7 (by decide) ?_))
      rw [nI_leI (by omega) (by omega)]
      refine ⟨fun y => ?_, fun y => ?_⟩
      · rw [List.getElem?_eq_none y] at h; exact h
      · obtain ⟨v, hv⟩ : ∃ v, (X.2.2.2.1 j).2.2.2[i']? = some v := ⟨_, List.getElem?_eq_getElem (by omega)⟩
        rw [hv] at h
        refine cgR (x := some c) h6 rfl (czd (caI h7 (vp_in_nI (by omega) (by omega)) ?_))
        rw [nI_clamp (by omega), h10 i' v hv]
        exact h
    · rw [if_neg z1, if_pos z2, h0] at h; exact h
    · rw [if_pos z1, h9] at h; exact cgR (x := some c) h6 rfl (czd (clen h7 (by decide) h))
def sp_out (X : zSg) (i : Int32) : Int32 := if zb i X.2.2.2.2.1.length then (X.2.2.2.2.1[i.toNatClampNeg]?).elim (-2) (fun c => c) else -2
theorem c_out {post : Int32 → zM → Prop} {i : Int32} (hR : RC D X B I M) (h : post (sp_out X i) M) : wp_X0_out D post (B 0) i M := by
  obtain ⟨ho, ⟨hl, f, h1, h2⟩, -⟩ := hR
  unfold wp_X0_out wp_X0_out_L27
  unfold sp_out at h
  refine cgI ho rfl (c_in ?_)
  rw [show zin i.toInt64 0 (nI X.2.2.2.2.1.length - 1).toInt64 = zb i X.2.2.2.2.1.length by
    refine zin_b ?_
    rw [Int32.toInt_toInt64]
    generalize X.2.2.2.2.1.length = m at hl
    rcases Nat.eq_zero_or_pos m with rfl | hp
    · decide
    · obtain ⟨m', rfl⟩ : ∃ m', m = m' + 1 := ⟨m - 1, by omega⟩
      rw [nI_pred, nI_toInt (by omega)]
      omega]
  refine ifb' (fun e => ?_) (fun e => by rw [e] at h; exact h)
  obtain ⟨j, hj, rfl⟩ := zb_of e (by omega)
  obtain ⟨c, hc⟩ : ∃ c, X.2.2.2.2.1[j]? = some c := ⟨_, List.getElem?_eq_getElem hj⟩
  rw [e, nI_clamp (by omega), hc] at h
  refine cgR (x := some (B 1)) ho rfl (czd (caI h1 (vp_in_nI (by omega) (by decide)) ?_))
  rw [nI_clamp (by omega), h2 j c hc]
  exact h
def sp_count (X : zSg) (w : Int32) : Int32 := if w = 0 then zcnB (fun j => (X.2.2.1 j).isSome) 4 else if w = 1 then zcnB (fun j => decide (¬ (X.2.2.2.1 j).1 = 0)) 5 else if w = 2 then nI X.2.1.length else if w = 3 then nI X.1.length else if w = 4 then nI X.2.2.2.2.1.length
    else if w = 5 then zcnA (fun r => (X.2.2.2.2.2 r).isSome) 3 else -1
theorem c_count {post : Int32 → zM → Prop} {w : Int32} (hR : RC D X B I M) (hz : zle I M) (h : post (sp_count X w) M) : wp_X0_count D post (B 0) w M := by
  unfold wp_X0_count
  unfold sp_count at h
  refine ⟨fun e => ?_, fun e => ?_, fun e => ?_, fun e => ?_, fun e => ?_, fun e => ?_, fun e => ?_⟩
  · rw [if_pos e] at h
    have loop : ∀ f n : Nat, n ≤ 4 → 4 - n < f → wp_X0_count_L42 D post (B 0) f (zcnB (fun j => (X.2.2.1 j).isSome) n) (nI n) M := by
      intro f
      induction f with
      | zero => intro n h1 h2; omega
      | succ f ih =>
        intro n hn hf
        unfold wp_X0_count_L42 wp_X0_count_L64
        rw [show (4 : Int32) = nI 4 from rfl, nI_leI (by decide) (by omega)]
        refine ⟨fun z => ?_, fun z => ?_⟩
        · have : n = 4 := by omega
          subst this; exact h
        · obtain ⟨g, h1, h2⟩ := RC_sl hR hz (j := n) (by omega)
          refine cgR (x := some (B 5)) hR.1 rfl (czd (caR h1 (vp_in_nI (by omega) (by decide)) ?_))
          rw [nI_clamp (by omega), nI_1]
          have := ih (n + 1) (by omega) (by omega)
          rw [zcnB] at this
          rcases h2 with ⟨h3, h4⟩ | ⟨q, a, h3, h4, -⟩
          · rw [h3] at this; rw [h4]
            exact ⟨fun b hb => (nomatch hb), fun _ => this⟩
          · rw [h3] at this; rw [h4]
            exact ⟨fun b _ => this, fun z => (nomatch z)⟩
    exact ⟨5, loop 5 0 (by decide) (by decide)⟩
  · subst e
    have loop : ∀ f n : Nat, n ≤ 5 → 5 - n < f → wp_X0_count_L76 D post (B 0) f (zcnB (fun j => decide (¬ (X.2.2.2.1 j).1 = 0)) n) (nI n) M := by
      intro f
      induction f with
      | zero => intro n h1 h2; omega
      | succ f ih =>
        intro n hn hf
        unfold wp_X0_count_L76 wp_X0_count_L98
        rw [show (5 : Int32) = nI 5 from rfl, nI_leI (by decide) (by omega)]
        refine ⟨fun z => ?_, fun z => ?_⟩
        · have : n = 5 := by omega
          subst this; exact h
        · obtain ⟨g, h1, h2⟩ := RC_th hR hz
          have h3 := h2 n (by omega)
          refine cgR (x := some (B 6)) hR.1 rfl (czd (caR h1 (vp_in_nI (by omega) (by decide)) ?_))
          rw [nI_clamp (by omega), nI_1]
          have := ih (n + 1) (by omega) (by omega)
          rw [zcnB] at this
          have some_case : ∀ a, g n = some a → ¬ (X.2.2.2.1 n).1 = 0 → (∀ b14 : Nat, g n = some b14 → wp_X0_count_L76 D post (B 0) f (zcnB (fun j => decide (¬ (X.2.2.2.1 j).1 = 0)) n ||| ((1 : Int32) <<< (nI n &&& 31))) (nI (n + 1)) M) ∧ (g n = none → wp_X0_count_L76 D post (B 0) f (zcnB (fun j => decide (¬ (X.2.2.2.1 j).1 = 0)) n ||| 0) (nI (n + 1)) M) := by
            intro a ha hq
            rw [decide_eq_true hq] at this
            exact ⟨fun b _ => this, fun z => by rw [ha] at z; cases z⟩
          rcases h3 with ⟨h4, h5⟩ | ⟨h4, -, a, c, h5, h6, -⟩ | ⟨h4, -, a, g, h5, h6, -⟩ | ⟨h4, -, -, -, a, c, g, h5, h6, -⟩
          · rw [h5]
            rw [decide_eq_false (by omega)] at this
            exact ⟨fun b hb => (nomatch hb), fun _ => this⟩
          · exact some_case a h5 (by omega)
          · exact some_case a h5 (by omega)
          · exact some_case a h5 (by omega)
    exact ⟨6, loop 6 0 (by decide) (by decide)⟩
  · subst e; exact cgI hR.1 rfl h
  · subst e
    obtain ⟨f, T, h1, h2, h3⟩ := RC_le hR hz
    obtain ⟨a, h4, L, fs, h5, h6, g, h7, h8⟩ := h3 6 (by decide)
    refine cgR (x := some (B 2)) hR.1 rfl (czd (caR h1 (vp_in_nI (show 6 < 7 by decide) (by decide)) ?_))
    rw [show ((6 : Int32).toNatClampNeg) = 6 from rfl, h4]
    exact czd (cgRm (k := 0) (x := some L) h6 (by decide) rfl (czd ⟨by obtain ⟨mc, E, cap, k1, -⟩ := h7; exact cis k1 (by decide), c_size h7 h⟩))
  · subst e; exact cgI hR.1 rfl h
  · subst e
    have loop : ∀ f n : Nat, n ≤ 3 → 3 - n < f → wp_X0_count_L134 D post (B 0) f (zcnA (fun r => (X.2.2.2.2.2 r).isSome) n) (nI n) M := by
      intro f
      induction f with
      | zero => intro n h1 h2; omega
      | succ f ih =>
        intro n hn hf
        unfold wp_X0_count_L134 wp_X0_count_L157
        rw [show (3 : Int32) = nI 3 from rfl, nI_leI (by decide) (by omega)]
        refine ⟨fun z => ?_, fun z => ?_⟩
        · have : n = 3 := by omega
          subst this; exact h
        · obtain ⟨ho, -, -, -, -, ⟨⟨g, h1, h2⟩, -, -, h4⟩, -⟩ := hR
          refine cgR (x := some (B 7)) ho rfl (czd (caR (hz _ _ h1) (vp_in_nI (by omega) (by decide)) ?_))
          rw [nI_clamp (by omega), nI_1, h2 n (by omega)]
          have := ih (n + 1) (by omega) (by omega)
          rw [zcnA] at this
          rcases h4 n (by omega) with ⟨h5, h6⟩ | ⟨q, h5, -, -, h6, -⟩
          · rw [h5] at this
            exact czd (cgR (x := none) h6 rfl ⟨fun b hb => (nomatch hb), fun _ => this⟩)
          · rw [h5] at this
            exact czd (cgR (x := some (B (30 + n))) h6 rfl ⟨fun b _ => this, fun z => (nomatch z)⟩)
    exact ⟨4, loop 4 0 (by decide) (by decide)⟩
  · obtain ⟨e0, e1, e2, e3, e4, e5⟩ := e
    rw [if_neg e0, if_neg e1, if_neg e2, if_neg e3, if_neg e4, if_neg e5] at h
    exact h
end CO5
