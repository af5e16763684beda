/-! the component's acts that tell of messages, arguments, output -/
section CO4
variable {D : zD} {X : zSg} {B : Nat → Nat} {I M : zM}
/-- a slot -/
theorem RC_sl (h : RC D X B I M) (hz : zle I M) {j : Nat} (hj : j < 4) : ∃ f : Nat → Option Nat, M (B 5) = some (.inl (8, 4, .inr (.inr (.inr (.inr f))))) ∧ ((X.2.2.1 j = none ∧ f j = none) ∨ ∃ q a, X.2.2.1 j = some q ∧ f j = some a ∧ zMg M a q) := by
  obtain ⟨-, -, -, ⟨f, h1, h2⟩, -⟩ := h
  refine ⟨f, h1, ?_⟩
  rcases h2 j hj with h3 | ⟨q, a, h3, h4, h5⟩
  · exact Or.inl h3
  · exact Or.inr ⟨q, a, h3, h4, zMg_m hz h5⟩
def sp_told (X : zSg) (s w : Int32) : Int32 := if zb s 4 && zb w 4 then (match X.2.2.1 s.toNatClampNeg with | none => -2 | some q => if w = 0 then nI (ztM 3 q.1) else if w = 1 then nI (zcs 3 0 0 q.1).length else if w = 2 then nI (ztD 3 q.1) else q.2.1) else -1
theorem c_told {post : Int32 → zM → Prop} {k n : Nat} {s w : Int32} (hR : RC D X B I M) (hz : zle I M) (hk : 121 ≤ k) (hn : 500 ≤ n) (h : ∀ M', zle M M' → post (sp_told X s w) M') : wp_X0_told D post k n (B 0) s w M := by
  unfold wp_X0_told wp_X0_told_L19 wp_X0_told_L80
  unfold sp_told at h
  refine c_isSlot (ifb' (fun e1 => c_in ?_) (fun e1 => by rw [e1] at h; exact h M (zle_r _)))
  rw [zin_b (n := 4) (by decide)]
  refine ifb (fun e2 => ?_) (fun e2 => by rw [e1, e2] at h; exact h M (zle_r _))
  obtain ⟨j, hj, rfl⟩ := zb_of e1 (by decide)
  rw [e1, e2, nI_clamp (by omega)] at h
  obtain ⟨f, h1, h2⟩ := RC_sl hR hz hj
  refine cgR (x := some (B 5)) hR.1 rfl (czd (caR h1 (vp_in_nI hj (by decide)) ?_))
  rw [nI_clamp (by omega)]
  rcases h2 with ⟨h3, h4⟩ | ⟨q, a, h3, h4, P, L, T, g, h5, h6, h7, h8, h9, h10, h11, h12⟩
  · rw [h3] at h
    rw [h4]
    exact ⟨fun b hb => (nomatch hb), fun _ => h M (zle_r _)⟩
  · rw [h3] at h
    rw [h4]
    refine ⟨fun b hb => ?_, fun z => (nomatch z)⟩
    cases hb
    simp only [Bool.and_true, if_true] at h
    refine ifn (fun z0 => ?_) (fun z0 => ifn (fun z1 => ?_) (fun z1 => ifn (fun z2 => ?_) (fun z2 => ?_)))
    · simp only [if_pos z0] at h
      exact cgI h5 rfl (h M (zle_r _))
    · simp only [if_neg z0, if_pos z1] at h
      obtain ⟨q1, q2⟩ := c_size' (D := D) (post := fun r M => post r M) h7 (h M (zle_r _))
      exact cgR (x := some L) h5 rfl (czd ⟨q1, q2⟩)
    · simp only [if_neg z0, if_neg z1, if_pos z2] at h
      have hK := ztK_le 3 q.1
      refine cgR (x := some P) h5 rfl (czd ⟨by obtain ⟨L, hp, -⟩ := h6; exact cis hp (by decide), ztK 3 q.1, 4 * ztK 3 q.1, by omega, by omega, ?_⟩)
      exact c_depthP 3 6 q.1 M P _ _ _ (by decide) (by decide) h6 (Nat.le_refl _) (Nat.le_refl _) h
    · simp only [if_neg z0, if_neg z1, if_neg z2] at h
      exact cgI h5 rfl (h M (zle_r _))
def sp_type (X : zSg) (s a : Int32) : Int32 := if zb s 4 && zb a 5 then (match X.2.2.1 s.toNatClampNeg with | none => -2 | some q => nI (q.2.2 a.toNatClampNeg)) else -1
theorem c_type {post : Int32 → zM → Prop} {s a : Int32} (hR : RC D X B I M) (hz : zle I M) (h : post (sp_type X s a) M) : wp_X0_type D post (B 0) s a M := by
  unfold wp_X0_type wp_X0_type_L14 wp_X0_type_L41
  unfold sp_type at h
  refine c_isSlot (ifb' (fun e1 => c_isArgument (ifb (fun e2 => ?_) (fun e2 => by rw [e1, e2] at h; exact h))) (fun e1 => by rw [e1] at h; exact h))
  obtain ⟨j, hj, rfl⟩ := zb_of e1 (by decide)
  obtain ⟨i, hi, rfl⟩ := zb_of e2 (by decide)
  rw [e1, e2, nI_clamp (by omega), nI_clamp (by omega)] at h
  obtain ⟨f, h1, h2⟩ := RC_sl hR hz hj
  refine cgR (x := some (B 5)) hR.1 rfl (czd (caR h1 (vp_in_nI hj (by decide)) ?_))
  rw [nI_clamp (by omega)]
  rcases h2 with ⟨h3, h4⟩ | ⟨q, a, h3, h4, P, L, T, g, h5, h6, h7, h8, h9, h10, h11, h12⟩
  · rw [h3] at h
    rw [h4]
    exact ⟨fun b hb => (nomatch hb), fun _ => h⟩
  · rw [h3] at h
    rw [h4]
    refine ⟨fun b hb => ?_, fun z => (nomatch z)⟩
    cases hb
    refine cgR (x := some (B 5)) hR.1 rfl (czd (caR h1 (vp_in_nI hj (by decide)) ?_))
    rw [nI_clamp (by omega), h4]
    refine czd (cgR (x := some T) h5 rfl (czd (caI h8 (vp_in_nI hi (by decide)) ?_)))
    rw [nI_clamp (by omega), (h9 i hi).1]
    exact h
/-- a choice of a slot -/
def zchs (X : zSg) (j : Nat) (c : Int32) : Option zCh := match X.2.2.1 j with | none => none | some q => if zb c (zcs 3 0 0 q.1).length then (zcs 3 0 0 q.1)[c.toNatClampNeg]? else none
theorem c_choiceOf {post : Option Nat → zM → Prop} {j : Nat} {c : Int32} (hR : RC D X B I M) (hz : zle I M) (hj : j < 4) (h1 : zchs X j c = none → post none M) (h2 : ∀ x a, zchs X j c = some x → zgd x → zCh0 M a x → post (some a) M) : zis M (B 0) [0] ∧ wp_X0_choiceOf D post (B 0) (nI j) c M := by
  unfold wp_X0_choiceOf wp_X0_choiceOf_L33 wp_X0_choiceOf_L53
  unfold zchs at h1 h2
  obtain ⟨f, k1, k2⟩ := RC_sl hR hz hj
  have hv := vp_in_nI hj (by decide : 4 < 2 ^ 31)
  have hcl : (nI j).toNatClampNeg = j := nI_clamp (by omega)
  refine ⟨cis hR.1 (by decide), cgR (x := some (B 5)) hR.1 rfl (czd (caR k1 hv ?_))⟩
  rw [hcl]
  rcases k2 with ⟨h3, h4⟩ | ⟨q, a, h3, h4, P, L, T, g, h5, h6, h7, h8, h9, h10, h11, h12⟩
  · rw [h3] at h1
    rw [h4]
    exact ⟨fun _ => h1 rfl, fun b hb => (nomatch hb)⟩
  · rw [h3] at h1 h2
    rw [h4]
    refine ⟨fun z => (nomatch z), fun b hb => ?_⟩
    cases hb
    refine cgR (x := some (B 5)) hR.1 rfl (czd (caR k1 hv ?_))
    rw [hcl, h4]
    refine czd (cgR (x := some L) h5 rfl (czd (c_size' h7 (c_in ?_))))
    rw [show zin c.toInt64 0 (nI (zcs 3 0 0 q.1).length - 1).toInt64 = zb c (zcs 3 0 0 q.1).length by
      refine zin_b ?_
      rw [Int32.toInt_toInt64]
      generalize (zcs 3 0 0 q.1).length = m at h10
      rcases Nat.eq_zero_or_pos m with rfl | hp
      · decide
      · obtain ⟨m', rfl⟩ : ∃ m', m = m' + 1 := ⟨m - 1, by omega⟩
        rw [nI_pred, nI_toInt (by omega)]
        omega]
    refine ifb (fun e => ?_) (fun e => h1 (by dsimp only; rw [e]; rfl))
    refine cgR (x := some (B 5)) hR.1 rfl (czd (caR k1 hv ?_))
    rw [hcl, h4]
    obtain ⟨i, hi, rfl⟩ := zb_of e (by omega)
    obtain ⟨x, hx⟩ : ∃ x, (zcs 3 0 0 q.1)[i]? = some x := ⟨_, List.getElem?_eq_getElem hi⟩
    refine czd (cgR (x := some L) h5 rfl (czd (c_get' h7 hx fun a ha => ⟨fun w hw => ?_, ?_⟩)))
    · cases hw
      obtain ⟨L', y1, -⟩ := ha
      exact cis y1 (by split <;> decide)
    · exact h2 x a (by dsimp only; rw [e, nI_clamp (by omega)]; exact hx) (h11 x (List.mem_of_getElem? hx)) ha
def sp_choice (X : zSg) (s c w : Int32) : Int32 := if zb s 4 && zb w 4 then (match zchs X s.toNatClampNeg c with | none => -2 | some x => if w = 0 then nI x.1 else if w = 1 then nI x.2.2.2.2.length else if w = 2 then nI x.2.1 else nI x.2.2.1) else -1
theorem c_choice {post : Int32 → zM → Prop} {s c w : Int32} (hR : RC D X B I M) (hz : zle I M) (h : post (sp_choice X s c w) M) : wp_X0_choice D post (B 0) s c w M := by
  unfold wp_X0_choice wp_X0_choice_L19 wp_X0_choice_L75 wp_X0_choice_L83
  unfold sp_choice at h
  refine c_isSlot (ifb' (fun e1 => c_in ?_) (fun e1 => by rw [e1] at h; exact h))
  rw [zin_b (n := 4) (by decide)]
  refine ifb (fun e2 => ?_) (fun e2 => by rw [e1, e2] at h; exact h)
  obtain ⟨j, hj, rfl⟩ := zb_of e1 (by decide)
  rw [e1, e2, nI_clamp (by omega)] at h
  refine c_choiceOf hR hz hj (fun z => ?_) (fun x a hx hg ha => ?_)
  · rw [z] at h
    exact ⟨fun b hb => (nomatch hb), fun _ => h⟩
  · rw [hx] at h
    refine ⟨fun b hb => ?_, fun z => (nomatch z)⟩
    cases hb
    obtain ⟨L, y1, y2⟩ := ha
    simp only [Bool.and_true, if_true] at h
    have hk : x.2.1 = 1 ∨ x.2.1 = 2 := hg.1
    have m0 : ((if x.2.1 = 1 then 18 else 19), 0) ∈ ([(18, 0), (19, 0)] : List (Nat × Nat)) := by split <;> decide
    have m1 : ((if x.2.1 = 1 then 18 else 19), 1) ∈ ([(18, 1), (19, 1)] : List (Nat × Nat)) := by split <;> decide
    have m2 : ((if x.2.1 = 1 then 18 else 19), 2) ∈ ([(18, 2), (19, 2)] : List (Nat × Nat)) := by split <;> decide
    refine ifn (fun z0 => ?_) (fun z0 => ifn (fun z1 => ?_) (fun z1 => ifn (fun z2 => ?_) (fun z2 => ?_)))
    · simp only [if_pos z0] at h
      exact cgIm y1 m2 rfl h
    · simp only [if_neg z0, if_pos z1] at h
      obtain ⟨q1, q2⟩ := c_size' (D := D) (post := fun r M => post r M) y2 h
      exact cgRm (x := some L) y1 m0 rfl (czd ⟨q1, q2⟩)
    · simp only [if_neg z0, if_neg z1, if_pos z2] at h
      rcases hk with hk | hk
      · rw [hk] at h
        rw [if_pos hk] at y1
        exact Or.inl ⟨cis y1 (by decide), h⟩
      · rw [hk] at h
        rw [if_neg (by omega)] at y1
        exact Or.inr ⟨cis y1 (by decide), h⟩
    · simp only [if_neg z0, if_neg z1, if_neg z2] at h
      exact cgIm y1 m1 rfl h
def sp_key (X : zSg) (s c b : Int32) : Int32 := if zb s 4 then (match zchs X s.toNatClampNeg c with | none => -2 | some x => if zb b x.2.2.2.2.length then (x.2.2.2.2[b.toNatClampNeg]?).elim (-2) (fun y => nI y.1) else -2) else -1
theorem c_key {post : Int32 → zM → Prop} {s c b : Int32} (hR : RC D X B I M) (hz : zle I M) (h : post (sp_key X s c b) M) : wp_X0_key D post (B 0) s c b M := by
  unfold wp_X0_key wp_X0_key_L42 wp_X0_key_L62
  unfold sp_key at h
  refine c_isSlot (ifb (fun e1 => ?_) (fun e1 => by rw [e1] at h; exact h))
  obtain ⟨j, hj, rfl⟩ := zb_of e1 (by decide)
  rw [e1, nI_clamp (by omega)] at h
  refine c_choiceOf hR hz hj (fun z => ?_) (fun x a hx hg ha => ?_)
  · rw [z] at h
    exact ⟨fun _ => h, fun b hb => (nomatch hb)⟩
  · rw [hx] at h
    refine ⟨fun z => (nomatch z), fun b' hb => ?_⟩
    cases hb
    obtain ⟨L, y1, y2⟩ := ha
    have hl : x.2.2.2.2.length ≤ 10 := hg.2.1
    have m0 : ((if x.2.1 = 1 then 18 else 19), 0) ∈ ([(18, 0), (19, 0)] : List (Nat × Nat)) := by split <;> decide
    refine cgRm (x := some L) y1 m0 rfl (czd (c_size' y2 (c_in ?_)))
    rw [show zin b.toInt64 0 (nI x.2.2.2.2.length - 1).toInt64 = zb b x.2.2.2.2.length by
      refine zin_b ?_
      rw [Int32.toInt_toInt64]
      generalize x.2.2.2.2.length = m at hl
      rcases Nat.eq_zero_or_pos m with rfl | hp
      · decide
      · obtain ⟨m', rfl⟩ : ∃ m', m = m' + 1 := ⟨m - 1, by omega⟩
        rw [nI_pred, nI_toInt (by omega)]
        omega]
    refine ifb (fun e => ?_) (fun e => by simp only [e] at h; exact h)
    obtain ⟨i, hi, rfl⟩ := zb_of e (by omega)
    obtain ⟨y, hy⟩ : ∃ y, x.2.2.2.2[i]? = some y := ⟨_, List.getElem?_eq_getElem hi⟩
    simp only [e, if_true, nI_clamp (show i < 2 ^ 31 by omega), hy, Option.elim_some] at h
    refine cgRm (x := some L) y1 m0 rfl (czd (c_get' y2 hy fun a ha => ?_))
    obtain ⟨P, hP⟩ := ha
    exact ⟨fun w hw => by cases hw; exact cis hP (by decide), czd (cgI hP rfl h)⟩
end CO4
