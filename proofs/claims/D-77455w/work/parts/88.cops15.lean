/-! the component: a decimal taken of a row -/
section CR3
variable {D : zD} {X : zSg} {B : Nat → Nat} {I M : zM}
theorem zin_32 {v : Int64} : zin v (-2147483648) 2147483647 = decide (v = v.toInt32.toInt64) := by
  have e1 : (-2147483648 : Int64).toInt = -2147483648 := by decide
  have e2 : (2147483647 : Int64).toInt = 2147483647 := by decide
  unfold zin
  rw [Bool.eq_iff_iff, Bool.and_eq_true, decide_eq_true_eq, decide_eq_true_eq, decide_eq_true_eq, Int64.le_iff_toInt_le, Int64.le_iff_toInt_le, e1, e2]
  constructor
  · intro ⟨h1, h2⟩
    refine Int64.toInt_inj.mp ?_
    rw [Int32.toInt_toInt64, Int64.toInt_toInt32, Int.bmod_def, show ((2 ^ 32 : Nat) : Int) = 4294967296 from rfl]
    split <;> omega
  · intro e
    have h5 := congrArg Int64.toInt e
    rw [Int32.toInt_toInt64] at h5
    have h6 := Int32.toInt_lt v.toInt32
    have h7 := Int32.le_toInt v.toInt32
    omega
def ztk8 (q : zRo) (x k : Nat) : Option Int32 := if q.1 = 2 then ztkL (q.2.2.2.2 x) k else ztk (znb8 q x) k
def sp_take (X : zSg) (a r i k : Int32) : Int32 × zSg := if zb a 5 && zb k 7 then (if sp_un X r i = 0 then ((X.2.2.2.2.2 r.toNatClampNeg).elim (-1, X) fun q => match ztk8 q i.toNatClampNeg k.toNatClampNeg with | none => (-4, X) | some w => (1, xH X a.toNatClampNeg (1, w, k.toNatClampNeg, []))) else (sp_un X r i, X)) else (-1, X)
theorem c_take {post : Int32 → zM → Prop} {k n : Nat} {a r i e : Int32} (hR : RC D X B I M) (hz : zle I M) (hF : zRf X) (hk : 2 ≤ k) (hn : 7 ≤ n) (h : done D X B I M (sp_take X a r i e).2 (post (sp_take X a r i e).1)) : wp_X0_take D post k n (B 0) a r i e M := by
  unfold wp_X0_take wp_X0_take_L15 wp_X0_take_L152 wp_X0_take_L154
  unfold sp_take at h
  refine c_isArgument (ifb' (fun e1 => c_isScale (ifb (fun e2 => ?_) (fun e2 => by rw [e1, e2] at h; exact fin0 hR hz h (zle_r _)))) (fun e1 => by rw [e1] at h; exact fin0 hR hz h (zle_r _)))
  rw [e1, e2] at h
  simp only [Bool.and_true, if_true] at h
  refine c_unlike hR hz ⟨fun z => ?_, fun z => by rw [if_neg z] at h; exact fin0 hR hz h (zle_r _)⟩
  rw [if_pos z] at h
  obtain ⟨c, x, q, hc, rfl, hq, hx, hn30, rfl⟩ := sp_un0 z (RC_rn hR)
  obtain ⟨g, hg, rfl⟩ := zb_of e2 (by decide)
  rw [nI_clamp (show c < 2 ^ 31 by omega), nI_clamp (show x < 2 ^ 31 by omega), nI_clamp (show g < 2 ^ 31 by omega), hq] at h
  simp only [Option.elim] at h
  obtain ⟨f, h1, h2, h3⟩ := RC_rw hR hz hc
  have hcl : (nI c).toNatClampNeg = c := nI_clamp (by omega)
  have hcx : (nI x).toNatClampNeg = x := nI_clamp (by omega)
  have hv : vp_in (nI x) q.2.1 := vp_in_nI hx (by omega)
  have hX := hF c q hc hq x hx
  rcases h3 with ⟨k1, k2⟩ | ⟨q', k1, k2, k3, k4, hb, hb0⟩
  · rw [hq] at k1; cases k1
  rw [hq] at k1
  cases k1
  have again : ∀ {P : Nat → Prop}, P (B (10 + c)) → zgR M (B 0) 0 7 fun g14 => zd g14 fun b15 => zaR M b15 10 (nI c) fun v16 => zd v16 fun b17 => P b17 := fun hP =>
    cgR (x := some (B 7)) hR.1 rfl (czd (caR h1 (vp_in_nI hc (by decide)) (by rw [hcl, h2]; exact czd hP)))
  have put : ∀ w, ztk8 q x g = some w → ∀ (k' n' : Nat) (ps : Int32 → zM → Prop), (∀ v M, post v M → ps v M) → 2 ≤ k' → 7 ≤ n' → wp_X0_decimal D ps k' n' (B 0) a w (nI g) M := by
    intro w hw k' n' ps hps hk' hn'
    rw [hw] at h
    refine c_decimal hR hz hk' hn' ?_
    unfold sp_decimal
    rw [e1, e2, nI_clamp (show g < 2 ^ 31 by omega)]
    intro I' M' B' y1 y2 y3 y4
    exact hps _ _ (h I' M' B' y1 y2 y3 y4)
  have none4 : ztk8 q x g = none → post (-4) M := by
    intro hw
    rw [hw] at h
    exact fin0 hR hz h (zle_r _)
  have fl : q.1 ≠ 2 → zok64 (znb8 q x) → zgR M (B 0) 0 7 fun g43 => zd g43 fun b44 => zaR M b44 10 (nI c) fun v45 => zd v45 fun b46 => (zis M b46 [7] ∧ wp_X8_number D (fun r47 M => (wp_X0_tens D (fun r50 M => (vf_n64 (FP.dmul r47 (FP.l2d r50)) ∧ (zrintok (FP.dmul r47 (FP.l2d r50)) ∧ (((Op.cmpValue (FP.dcmp (zrint (FP.dmul r47 (FP.l2d r50))) (13970166044105375744 : UInt64)) .l) ≤ 0 → post (-4) M) ∧ (¬ (Op.cmpValue (FP.dcmp (zrint (FP.dmul r47 (FP.l2d r50))) (13970166044105375744 : UInt64)) .l) ≤ 0 → ((0 ≤ (Op.cmpValue (FP.dcmp (zrint (FP.dmul r47 (FP.l2d r50))) (4746794007248502784 : UInt64)) .g) → post (-4) M) ∧ (¬ 0 ≤ (Op.cmpValue (FP.dcmp (zrint (FP.dmul r47 (FP.l2d r50))) (4746794007248502784 : UInt64)) .g) → ((zis M (B 0) [0] ∧ (∃ k54 n55, k54 ≤ k ∧ n55 ≤ n ∧ wp_X0_decimal D (fun r53 M => post r53 M) k54 n55 (B 0) a (FP.d2i (zrint (FP.dmul r47 (FP.l2d r50)))) (nI g) M)))))))))) (nI g) M)) b46 (nI x) M) := by
    intro h2q hok
    have hz8 : ztk8 q x g = ztk (znb8 q x) g := if_neg h2q
    have hf := zft (zon64 hok) (show g ≤ 6 by omega)
    unfold ztk at hz8
    simp only at hz8
    refine again (c_number8 k2 k4 hb hb0 hx hn30 hX.1 (c_tens (by omega) ⟨hf.1, hf.2, fun z1 => none4 ?_, fun z1 => ⟨fun z2 => none4 ?_, fun z2 => ⟨cis hR.1 (by decide), k, n, Nat.le_refl _, Nat.le_refl _, put _ ?_ k n _ (fun _ _ h => h) hk hn⟩⟩⟩))
    · rw [hz8, if_pos z1]
    · rw [hz8, if_neg z1, if_neg (by rw [Int32.not_lt]; exact z2)]
    · rw [hz8, if_neg z1, if_pos (Int32.not_le.mp z2)]
  refine again (cgR (x := some (B (30 + c))) k4 rfl ?_)
  have hb9 := hb
  rcases zRa_c k2 with ⟨e, e2⟩ | ⟨e, e2⟩ | ⟨e, e2⟩ <;> rw [e2] at hb9
  · refine Or.inr ⟨ziL hb0 hb9, i01 (fl (by omega) ?_)⟩
    unfold znb8; rw [if_pos e]; exact (zfD hX.1).1
  · refine Or.inr ⟨ziR hb0 hb9, i01 (fl (by omega) ?_)⟩
    unfold znb8; rw [if_neg (by omega), if_pos e]; exact hX.2
  · have hz8 : ztk8 q x g = ztkL (q.2.2.2.2 x) g := if_pos e
    unfold ztkL at hz8
    refine Or.inl ⟨_, _, rfl, hb0, hb9, i10 ⟨zi1 hb0 hb9, czd (caL hb9 hv ?_)⟩⟩
    rw [hcx]
    refine c_tens (by omega) (c_in ?_)
    rw [zin_32]
    refine ifb (fun e5 => ⟨cis hR.1 (by decide), k, n, Nat.le_refl _, Nat.le_refl _, put _ ?_ k n _ (fun _ _ h => h) hk hn⟩) (fun e5 => none4 ?_)
    · rw [hz8, if_pos (of_decide_eq_true e5)]
    · rw [hz8, if_neg (of_decide_eq_false e5)]
end CR3
