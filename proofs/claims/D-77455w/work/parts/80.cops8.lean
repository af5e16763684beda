/-! the component's add, grow -/
section CO8
variable {D : zD} {X : zSg} {B : Nat → Nat} {I M : zM}
/-- the decimal that an argument holds -/
theorem RC_dec (hR : RC D X B I M) (hz : zle I M) {j : Nat} (hj : j < 5) (h1 : (X.2.2.2.1 j).1 = 1) : ∃ (f : Nat → Option Nat) (a c : Nat), M (B 6) = some (.inl (9, 5, .inr (.inr (.inr (.inr f))))) ∧ f j = some a ∧ M a = some (.inr (22, [.ref c])) ∧ zDe M c (X.2.2.2.1 j).2.1 (X.2.2.2.1 j).2.2.1 ∧ (X.2.2.2.1 j).2.2.1 ≤ 6 := by
  obtain ⟨f, hf, ht⟩ := RC_th hR hz
  rcases ht j hj with ⟨h, -⟩ | ⟨-, h2, a, c, h3, h4, h5⟩ | ⟨h, -⟩ | ⟨h, -⟩
  · omega
  · exact ⟨f, a, c, hf, h3, h4, h5, h2⟩
  · omega
  · omega
/-- a decimal's thing made and put, behind other new cells -/
theorem c_putD {post : zM → Prop} {j : Nat} {v : Int32} {K b c : Nat} {I1 M1 : zM} (hR : RC D X B I M) (hz : zle I M) (hx : ext (fun _ => False) I M I1 M1) (hj : j < 5) (hK : K ≤ 6) (hb : M1 b = none) (hb0 : zB D ≤ b) (hc : zu M1 b (some (.inr (22, [.null]))) c = none) (h : done D X B I M (xH X j (1, v, K, [])) post) :
    wp_X25_init D (fun _ M => zd (some (B 6)) fun b16 => zsR D M b16 9 (nI j) (some b) post) b (some c) (zu (zu M1 b (some (.inr (22, [.null])))) c (some (.inr (1, zde v K)))) := by
  have nbc : b ≠ c := fun z => by subst z; rw [zu_s] at hc; cases hc
  unfold wp_X25_init
  refine cp (kw zu_s hc) hb0 (by simp) (czd ?_)
  have hc1 : M1 c = none := by rw [zu_n nbc.symm] at hc; exact hc
  have e9 : zu (zu (zu M1 b (some (.inr (22, [.null])))) c (some (.inr (1, zde v K)))) b (some (.inr (22, [va_rf (some c)]))) = zu (zu M1 c (some (.inr (1, zde v K)))) b (some (.inr (22, [.ref c]))) := by
    rw [zu_c nbc, zu_zu]; rfl
  show zsR D (zu (zu (zu M1 b (some (.inr (22, [.null])))) c (some (.inr (1, zde v K)))) b (some (.inr (22, [va_rf (some c)])))) (B 6) 9 (nI j) (some b) post
  rw [e9]
  have hb1 : zu M1 c (some (.inr (1, zde v K))) b = none := by rw [zu_n nbc]; exact hb
  refine RC_th1 hR (I1 := zu (zu I1 c (some (.inr (1, zde v K)))) b (some (.inr (22, [.ref c])))) (ext_n (ext_n hx hc1) hb1) hz hj (Or.inr (Or.inl ⟨rfl, hK, b, c, rfl, zu_s, ?_⟩)) h
  unfold zDe
  rw [zu_n nbc.symm, zu_s]
def sp_grow (X : zSg) (a by0 : Int32) : Int64 × zSg := if zb a 5 then (if (X.2.2.2.1 a.toNatClampNeg).1 = 1 then (if (X.2.2.2.1 a.toNatClampNeg).2.1.toInt64 * by0.toInt64 = ((X.2.2.2.1 a.toNatClampNeg).2.1.toInt64 * by0.toInt64).toInt32.toInt64 then
    ((X.2.2.2.1 a.toNatClampNeg).2.1.toInt64 * by0.toInt64, xH X a.toNatClampNeg (1, ((X.2.2.2.1 a.toNatClampNeg).2.1.toInt64 * by0.toInt64).toInt32, (X.2.2.2.1 a.toNatClampNeg).2.2.1, [])) else (-9223372036854775808, X)) else (-9223372036854775808, X)) else (-9223372036854775808, X)
theorem c_grow {post : Int64 → zM → Prop} {xp : Nat → zM → Prop} {k n : Nat} {a by0 : Int32} (hR : RC D X B I M) (hz : zle I M) (hk : 10 ≤ k) (hn : 50 ≤ n) (h : done D X B I M (sp_grow X a by0).2 (post (sp_grow X a by0).1)) : wp_X0_grow D post xp k n (B 0) a by0 M := by
  unfold wp_X0_grow wp_X0_grow_L16
  unfold sp_grow at h
  refine c_isArgument (ifb' (fun e1 => ?_) (fun e1 => by rw [e1] at h; exact fin0 hR hz h (zle_r _)))
  obtain ⟨j, hj, rfl⟩ := zb_of e1 (by decide)
  rw [e1, nI_clamp (by omega)] at h
  simp only [if_true] at h
  have hle : (X.2.2.2.1 j).1 ≤ 3 := by
    obtain ⟨f, hf, ht⟩ := RC_th hR hz
    exact zTg_le (ht j hj)
  refine c_typeOf hR hz hj ?_
  rw [show (1 : Int32) = nI 1 from rfl, nI_eq (by omega) (by decide)]
  refine ⟨fun e2 => ?_, fun e2 => by rw [if_neg e2] at h; exact fin0 hR hz h (zle_r _)⟩
  rw [if_pos e2] at h
  obtain ⟨f, b, c, h1, h2, h3, h4, h5⟩ := RC_dec hR hz hj e2
  refine cgR (x := some (B 6)) hR.1 rfl (czd (caR h1 (vp_in_nI hj (by decide)) ?_))
  rw [nI_clamp (by omega), h2]
  refine czd (Or.inl ⟨cis h3 (by decide), ?_⟩)
  unfold wp_X25_decimal wp_X0_grow_L32 wp_X0_grow_L73
  refine cgR (x := some c) h3 rfl (czd (cgI h4 rfl ⟨1, 6, by omega, by omega, c_mulx2 (Nat.le_refl _) (Nat.le_refl _) (fun z => ?_) (fun z q hq => ?_)⟩))
  · rw [if_pos z] at h
    refine cgR (x := some (B 6)) hR.1 rfl ⟨by omega, by omega, fun b' hb hb0 => ⟨by omega, by omega, fun c' hc hc0 => cgI (kw (kw h4 hb) hc) rfl (c_dec2 h5 hc0 ?_)⟩⟩
    refine c_putD (post := fun M => post _ M) hR hz (ext_r hz) hj h5 hb hb0 hc ?_
    rw [← z]; exact h
  · rw [if_neg z] at h
    exact ⟨⟨[], zu_s⟩, fin0 hR hz h (zle_new (zle_r _) hq)⟩
theorem c_at {post : Int32 → zM → Prop} {xp : Nat → zM → Prop} {k n j K : Nat} (hR : RC D X B I M) (hz : zle I M) (hk : 1 ≤ k) (hn : 6 ≤ n) (hj : j < 5) (e1 : (X.2.2.2.1 j).1 = 1) (hK : (X.2.2.2.1 j).2.2.1 ≤ K) (hK6 : K ≤ 6)
    (h1 : (X.2.2.2.1 j).2.1.toInt64 * lN (10 ^ (K - (X.2.2.2.1 j).2.2.1)) = ((X.2.2.2.1 j).2.1.toInt64 * lN (10 ^ (K - (X.2.2.2.1 j).2.2.1))).toInt32.toInt64 → post ((X.2.2.2.1 j).2.1.toInt64 * lN (10 ^ (K - (X.2.2.2.1 j).2.2.1))).toInt32 M)
    (h2 : (X.2.2.2.1 j).2.1.toInt64 * lN (10 ^ (K - (X.2.2.2.1 j).2.2.1)) ≠ ((X.2.2.2.1 j).2.1.toInt64 * lN (10 ^ (K - (X.2.2.2.1 j).2.2.1))).toInt32.toInt64 → ∀ b, M b = none → xp b (zu M b (some (.inr (28, []))))) : wp_X0_at D post xp k n (B 0) (nI j) (nI K) M := by
  obtain ⟨f, b, c, k1, k2, k3, k4, k5⟩ := RC_dec hR hz hj e1
  unfold wp_X0_at
  refine cgR (x := some (B 6)) hR.1 rfl (czd (caR k1 (vp_in_nI hj (by decide)) ?_))
  rw [nI_clamp (by omega), k2]
  refine czd (Or.inl ⟨cis k3 (by decide), ?_⟩)
  unfold wp_X25_decimal wp_X0_at_L12
  refine cgR (x := some c) k3 rfl (czd (cgI k4 rfl (cgI k4 rfl ?_)))
  rw [nI_sub hK]
  refine c_tens (by omega) ⟨0, 0, by omega, by omega, c_mulx (by omega) ⟨1, 6, by omega, by omega, c_toInt (Nat.le_refl _) (Nat.le_refl _) h1 h2⟩⟩
def sp_add (X : zSg) (x y w : Int32) : Int64 × zSg := if zb x 5 && (zb y 5 && zb w 5) then (if (X.2.2.2.1 x.toNatClampNeg).1 = 1 ∧ (X.2.2.2.1 y.toNatClampNeg).1 = 1 then
    (match zadd (X.2.2.2.1 x.toNatClampNeg).2.1 (X.2.2.2.1 x.toNatClampNeg).2.2.1 (X.2.2.2.1 y.toNatClampNeg).2.1 (X.2.2.2.1 y.toNatClampNeg).2.2.1 with | none => (-9223372036854775808, X) | some (v, K) => (v, xH X w.toNatClampNeg (1, v.toInt32, K, []))) else (-9223372036854775808, X)) else (-9223372036854775808, X)
theorem c_add {post : Int64 → zM → Prop} {xp : Nat → zM → Prop} {k n : Nat} {x y w : Int32} (hR : RC D X B I M) (hz : zle I M) (hk : 10 ≤ k) (hn : 50 ≤ n) (h : done D X B I M (sp_add X x y w).2 (post (sp_add X x y w).1)) : wp_X0_add D post xp k n (B 0) x y w M := by
  unfold wp_X0_add wp_X0_add_L39
  unfold sp_add at h
  refine c_isArgument (ifb' (fun e1 => c_isArgument (ifb' (fun e2 => c_isArgument (ifb' (fun e3 => ?_) (fun e3 => by rw [e1, e2, e3] at h; exact fin0 hR hz h (zle_r _)))) (fun e2 => by rw [e1, e2] at h; exact fin0 hR hz h (zle_r _)))) (fun e1 => by rw [e1] at h; exact fin0 hR hz h (zle_r _)))
  obtain ⟨p, hp, rfl⟩ := zb_of e1 (by decide)
  obtain ⟨q, hq, rfl⟩ := zb_of e2 (by decide)
  obtain ⟨r, hr, rfl⟩ := zb_of e3 (by decide)
  rw [e1, e2, e3, nI_clamp (by omega), nI_clamp (by omega), nI_clamp (by omega)] at h
  simp only [Bool.and_true, if_true] at h
  obtain ⟨f0, hf0, ht0⟩ := RC_th hR hz
  have hlp := zTg_le (ht0 p hp)
  have hlq := zTg_le (ht0 q hq)
  refine c_typeOf hR hz hp ?_
  rw [show (1 : Int32) = nI 1 from rfl, nI_eq (by omega) (by decide)]
  refine ⟨fun z1 => by rw [if_neg (fun z => z1 z.1)] at h; exact fin0 hR hz h (zle_r _), fun z1 => c_typeOf hR hz hq ?_⟩
  rw [nI_eq (by omega) (by decide)]
  refine ⟨fun z2 => ?_, fun z2 => by rw [if_neg (fun z => z2 z.2)] at h; exact fin0 hR hz h (zle_r _)⟩
  rw [if_pos ⟨z1, z2⟩] at h
  obtain ⟨f, b, c, h1, h2, h3, h4, h5⟩ := RC_dec hR hz hp z1
  obtain ⟨f', b', c', h1', h2', h3', h4', h5'⟩ := RC_dec hR hz hq z2
  refine cgR (x := some (B 6)) hR.1 rfl (czd (caR h1 (vp_in_nI hp (by decide)) ?_))
  rw [nI_clamp (by omega), h2]
  refine czd (Or.inl ⟨cis h3 (by decide), ?_⟩)
  unfold wp_X25_decimal wp_X0_add_L55
  refine cgR (x := some c) h3 rfl (czd (cgI h4 rfl (cgR (x := some (B 6)) hR.1 rfl (czd (caR h1' (vp_in_nI hq (by decide)) ?_)))))
  rw [nI_clamp (by omega), h2']
  refine czd (Or.inl ⟨cis h3' (by decide), ?_⟩)
  unfold wp_X25_decimal wp_X0_add_L70 wp_X0_add_L125
  refine cgR (x := some c') h3' rfl (czd (cgI h4' rfl (c_max (by omega) (by omega) ?_)))
  unfold zadd at h
  simp only at h
  generalize hK : max (X.2.2.2.1 p).2.2.1 (X.2.2.2.1 q).2.2.1 = K at h ⊢
  have hKp : (X.2.2.2.1 p).2.2.1 ≤ K := by rw [← hK]; exact Nat.le_max_left _ _
  have hKq : (X.2.2.2.1 q).2.2.1 ≤ K := by rw [← hK]; exact Nat.le_max_right _ _
  have hK6 : K ≤ 6 := by rw [← hK]; exact Nat.max_le.mpr ⟨h5, h5'⟩
  have no : ∀ (b : Nat), M b = none → ((X.2.2.2.1 p).2.1.toInt64 * lN (10 ^ (K - (X.2.2.2.1 p).2.2.1)) = ((X.2.2.2.1 p).2.1.toInt64 * lN (10 ^ (K - (X.2.2.2.1 p).2.2.1))).toInt32.toInt64 ∧ (X.2.2.2.1 q).2.1.toInt64 * lN (10 ^ (K - (X.2.2.2.1 q).2.2.1)) = ((X.2.2.2.1 q).2.1.toInt64 * lN (10 ^ (K - (X.2.2.2.1 q).2.2.1))).toInt32.toInt64 ∧
      (X.2.2.2.1 p).2.1.toInt64 * lN (10 ^ (K - (X.2.2.2.1 p).2.2.1)) + (X.2.2.2.1 q).2.1.toInt64 * lN (10 ^ (K - (X.2.2.2.1 q).2.2.1)) = ((X.2.2.2.1 p).2.1.toInt64 * lN (10 ^ (K - (X.2.2.2.1 p).2.2.1)) + (X.2.2.2.1 q).2.1.toInt64 * lN (10 ^ (K - (X.2.2.2.1 q).2.2.1))).toInt32.toInt64 → False) →
      (∃ fs, zu M b (some (.inr (28, []))) b = some (.inr (28, fs))) ∧ post (-9223372036854775808 : Int64) (zu M b (some (.inr (28, [])))) := by
    intro b hb hno
    rw [if_neg hno] at h
    exact ⟨⟨[], zu_s⟩, fin0 hR hz h (zle_new (zle_r _) hb)⟩
  refine ⟨cis hR.1 (by decide), 1, 6, by omega, by omega, c_at hR hz (Nat.le_refl 1) (Nat.le_refl 6) hp z1 hKp hK6 (fun y1 => ⟨cis hR.1 (by decide), 1, 6, by omega, by omega, c_at hR hz (Nat.le_refl 1) (Nat.le_refl 6) hq z2 hKq hK6 (fun y2 => ⟨1, 6, by omega, by omega, c_addx (Nat.le_refl 1) (Nat.le_refl 6) (fun y3 => ?_) (fun y3 b hb => ?_)⟩) (fun y2 b hb => no b hb fun y => y2 y.2.1)⟩) (fun y1 b hb => no b hb fun y => y1 y.1)⟩
  · rw [← y1, ← y2] at y3 ⊢
    rw [if_pos ⟨y1, y2, y3⟩] at h
    refine cgR (x := some (B 6)) hR.1 rfl ⟨by omega, by omega, fun b' hb hb0 => ⟨by omega, by omega, fun c' hc hc0 => c_dec2 hK6 hc0 ?_⟩⟩
    refine c_putD (post := fun M => post _ M) hR hz (ext_r hz) hr hK6 hb hb0 hc ?_
    rw [← y3]; exact h
  · rw [← y1, ← y2] at y3
    exact no b hb fun y => y3 y.2.2
end CO8
