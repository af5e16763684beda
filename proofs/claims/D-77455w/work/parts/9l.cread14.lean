/-! the component reads -/
section RJ1
variable {D : zD} {X : zSg} {B : Nat → Nat} {I M : zM}
/-- a reader at its start -/
theorem r_start {post : Unit → zM → Prop} {R : Nat} (hz : zle I M) (hE1 : ∃ g, I (D.2.2.2 1) = some (.inl (5, 0, .inr (.inr (.inr (.inr g)))))) (hR : M R = none) (hR0 : zB D ≤ R) (hp : ∀ q M', q.1 = R → zrs D (B 0) I M q I M' (D.2.2.2 1) (0, 0, none, 0, fun _ => 0) 0 0 0 [] → post () M') :
    wp_X10_init D post 3 13 R (some (B 0)) (zu M R (some (.inr (9, [.null, .int 0, .int 0, .int 0, .int 0, .null])))) := by
  obtain ⟨g0, hg0⟩ := hE1
  unfold wp_X10_init
  refine cp0 hR0 (by simp) ⟨by decide, by decide, fun m hm hm0 => ⟨2, 8, by decide, by decide, ?_⟩⟩
  unfold wp_X11_init
  have nmR : m ≠ R := fun z => by subst z; rw [zu_s] at hm; cases hm
  refine ⟨by decide, by decide, fun L hL hL0 => ?_⟩
  have nLm : L ≠ m := fun z => by subst z; rw [zu_s] at hL; cases hL
  rw [zu_n nLm] at hL
  have nLR : L ≠ R := fun z => by subst z; rw [zu_s] at hL; cases hL
  have hMm : M m = none := by rw [zu_n nmR] at hm; exact hm
  have hML : M L = none := by rw [zu_n nLR] at hL; exact hL
  unfold wp_J3_init wp_J2_init wp_J1_init
  refine cp0 hL0 (by simp) (cp0 hL0 (by simp) (cp (ci := 10) (fs := [.null, .int 0, .null, .null, .int 0]) (by rw [zu_n nLm.symm, zu_s]) hm0 (by simp) (znA (m := 5) (by decide) (by decide) (by decide) fun T hT hT0 => ?_)))
  simp only [List.set_cons_succ, List.set_cons_zero] at hT ⊢
  have nTm : T ≠ m := fun z => by subst z; rw [zu_s] at hT; cases hT
  rw [zu_n nTm] at hT
  have nTL : T ≠ L := fun z => by subst z; rw [zu_s] at hT; cases hT
  rw [zu_n nTL, zu_n nTm] at hT
  have nTR : T ≠ R := fun z => by subst z; rw [zu_s] at hT; cases hT
  have hMT : M T = none := by rw [zu_n nTR] at hT; exact hT
  refine cp (ci := 10) (fs := [.null, .int 0, .ref L, .null, .int 0]) (by rw [zu_n nTm.symm, zu_s]) hm0 (by simp) (cp (ci := 9) (fs := [.null, .int 0, .int 0, .int 0, .int 0, .ref (B 0)]) (by rw [zu_n nmR.symm, zu_n nTR.symm, zu_n nmR.symm, zu_n nLR.symm, zu_n nmR.symm, zu_s]; rfl) hR0 (by simp) (cp zu_s hR0 (by simp) ?_))
  rw [zu_zu]
  simp only [List.set_cons_succ, List.set_cons_zero]
  refine hp (R, m, T, L) _ rfl ?_
  have hle : zle M (zu (zu (zu (zu (zu (zu (zu M R (some (.inr (9, [.null, .int 0, .int 0, .int 0, .int 0, va_rf (some (B 0))])))) m (some (.inr (10, [.null, .int 0, .null, .null, .int 0])))) L (some (.inr (26, [.int 0, .ref (D.2.2.2 1), .int 0])))) m (some (.inr (10, [.null, .int 0, .ref L, .null, .int 0])))) T (some (.inl (0, zna 0 5)))) m (some (.inr (10, [.null, .int 0, .ref L, .ref T, .int 0])))) R (some (.inr (9, [.ref m, .int 0, .int 0, .int 0, .int (-1), va_rf (some (B 0))])))) :=
    zle_put (zle_put (zle_put (zle_put (zle_put (zle_put (zle_put (zle_r _) hR) hMm) hML) hMm) hMT) hMm) hR
  refine ⟨ext_le hz hle, ⟨hR, hMm, hMT⟩, ⟨none_I hz hR, none_I hz hMm, none_I hz hMT⟩, ⟨hR0, hm0, hT0⟩, zu_s, ?_, ⟨fun _ => 0, ?_, fun i _ => ⟨rfl, Nat.zero_le _⟩⟩, ⟨hML, none_I hz hML, hL0, fun i a ha => (by cases ha), 0, 0, g0, ?_, hle _ _ (hz _ _ hg0), Nat.le_refl _, by simp, fun i a ha => (by cases ha), Or.inl ⟨rfl, rfl⟩⟩, rfl, fun p hp => (by cases hp)⟩
  · show _ = some (Sum.inr (10, ([.null, .int (nI 0), .ref L, .ref T, .int 0] : List Value)))
    rw [zu_n nmR, zu_s]; rfl
  · rw [zu_n nTR, zu_n nTm, zu_s]; rfl
  · show _ = some (Sum.inr (26, ([.int 0, .ref (D.2.2.2 1), .int (nI 0)] : List Value)))
    rw [zu_n nLR, zu_n nLm, zu_n nTL.symm, zu_n nLm, zu_s]; rfl
/-- the message will not change any more -/
theorem zwh_f {q : Nat × Nat × Nat × Nat} {t : List (zN 3)} {r : zRh} {I1 M1 : zM} (hR : RC D X B I M) (hz : zle I M) (hE0 : I (D.2.2.2 1) ≠ none) (h : zwh8 D X B I M q t r I1 M1) (hw : zrW (ztp X) X.2.1.length = .inr (.inr (t, r))) :
    ∃ I2, ext (muA X B) I M I2 M1 ∧ zMg I2 q.2.1 (t, r.2.2.2.1, r.2.2.2.2) ∧ ∃ L T P : Nat, I2 q.2.1 = some (.inr (10, [.ref P, .int (nI (ztM 3 t)), .ref L, .ref T, .int r.2.2.2.1])) ∧ zLs I2 L (zcs 3 0 0 t) (zCh0 I2) ∧ (zcs 3 0 0 t).length = r.2.1 := by
  have hN : X.2.1.length ≤ 120 := hR.2.2.1.1
  obtain ⟨hz1, E, P, ca, M', s, hps, hlk, h8, rfl⟩ := h
  obtain ⟨hx, hn, hw3⟩ := zrW_x hw
  obtain ⟨e1, ⟨m1, m2, m3⟩, ⟨i1, i2, i3⟩, ⟨b1', b2, b3⟩, g5, g6, ⟨f, g7, g7'⟩, ⟨z0, z1, z2, z3, mc, cap, fL, g11, g12, z5, z6, z7, z8⟩, g17, g18⟩ := s
  have nL : q.2.2.2 ≠ q.2.1 := kn_ne g11 g6 (by simp)
  have nT : q.2.2.1 ≠ q.2.1 := kn_ne g7 g6 (by simp)
  have nE : E ≠ q.2.1 := kn_ne g12 g6 (by simp)
  have nLT : q.2.2.2 ≠ q.2.2.1 := kn_ne g11 g7 (by simp)
  have nET : E ≠ q.2.2.1 := kn_ne g12 g7 (by simp)
  have nEL : E ≠ q.2.2.2 := kn_ne g12 g11 (by simp)
  have x0 : ext (muA X B) I M I1 M' := ext_w hz e1 (fun a z => z.elim)
  have x1 := ext_p (e := .inr (10, [.ref P, .int (nI (ztM 3 t)), .ref q.2.2.2, .ref q.2.2.1, .int r.2.2.2.1])) x0 (Or.inr m2) i2
  have x2 := ext_f x1 m2 zu_s
  have x3 := ext_f (b := q.2.2.1) (e := .inl (0, 5, .inl f)) x2 m3 (by rw [zu_n nT]; exact g7)
  have x4 := ext_f (b := q.2.2.2) (e := .inr (26, [.int mc, .ref E, .int (nI ca.length)])) x3 z0 (by rw [zu_n nL]; exact g11)
  have hIle : zle I1 (zu (zu (zu I1 q.2.1 (some (.inr (10, [.ref P, .int (nI (ztM 3 t)), .ref q.2.2.2, .ref q.2.2.1, .int r.2.2.2.1])))) q.2.2.1 (some (.inl (0, 5, .inl f)))) q.2.2.2 (some (.inr (26, [.int mc, .ref E, .int (nI ca.length)])))) :=
    zle_put (zle_put (zle_put (zle_r _) i2) i3) z1
  have hcl : ca.length = (zcs 3 0 0 t).length := hlk.1
  have hc2 : (zcs 3 0 0 t).length = r.2.1 := by rw [← hcl]; exact g17
  have fin : ∀ I2, ext (muA X B) I M I2 (zu M' q.2.1 (some (.inr (10, [.ref P, .int (nI (ztM 3 t)), .ref q.2.2.2, .ref q.2.2.1, .int r.2.2.2.1])))) → zle (zu (zu (zu I1 q.2.1 (some (.inr (10, [.ref P, .int (nI (ztM 3 t)), .ref q.2.2.2, .ref q.2.2.1, .int r.2.2.2.1])))) q.2.2.1 (some (.inl (0, 5, .inl f)))) q.2.2.2 (some (.inr (26, [.int mc, .ref E, .int (nI ca.length)])))) I2 → I2 E = some (.inl (5, cap, .inr (.inr (.inr (.inr fL))))) →
      ∃ I2, ext (muA X B) I M I2 (zu M' q.2.1 (some (.inr (10, [.ref P, .int (nI (ztM 3 t)), .ref q.2.2.2, .ref q.2.2.1, .int r.2.2.2.1])))) ∧ zMg I2 q.2.1 (t, r.2.2.2.1, r.2.2.2.2) ∧ ∃ L T P : Nat, I2 q.2.1 = some (.inr (10, [.ref P, .int (nI (ztM 3 t)), .ref L, .ref T, .int r.2.2.2.1])) ∧ zLs I2 L (zcs 3 0 0 t) (zCh0 I2) ∧ (zcs 3 0 0 t).length = r.2.1 := by
    intro I2 hx2 hle hE2
    have hI1 : zle I1 I2 := zle_t hIle hle
    have hm : I2 q.2.1 = some (.inr (10, [.ref P, .int (nI (ztM 3 t)), .ref q.2.2.2, .ref q.2.2.1, .int r.2.2.2.1])) := hle _ _ (by rw [zu_n nL.symm, zu_n nT.symm, zu_s])
    have hT : I2 q.2.2.1 = some (.inl (0, 5, .inl f)) := hle _ _ (by rw [zu_n nLT.symm, zu_s])
    have hL : I2 q.2.2.2 = some (.inr (26, [.int mc, .ref E, .int (nI ca.length)])) := hle _ _ zu_s
    have hls : zLs I2 q.2.2.2 (zcs 3 0 0 t) (zCh0 I2) := by
      refine ⟨fL, ⟨mc, E, cap, by rw [← hcl]; exact hL, hE2, by rw [← hcl]; exact z5, by omega⟩, fun i x hxx => ?_⟩
      obtain ⟨a, h1, h2⟩ := hlk.2 i x hxx
      exact ⟨a, z7 i a h1, zCh0_m hI1 h2⟩
    refine ⟨I2, hx2, ⟨P, q.2.2.2, q.2.2.1, f, hm, zPs_m hI1 (fun a x _ hq => zNd_m hI1 3 a x hq) hps, hls, hT, g7', by show (zcs 3 0 0 t).length ≤ 8; omega, ?_, ?_⟩, q.2.2.2, q.2.2.1, P, hm, hls, hc2⟩
    · exact zcs_gd (hx.2.2.2.1 hw3).2
    · have h4 : 0 + (ztL 3 t).length ≤ X.2.1.length := hx.1.1
      show (ztL 3 t).length ≤ 120
      omega
  cases e : I1 E with
  | some v =>
    have hv := e1.2.1 _ _ e
    rw [g12] at hv
    cases hv
    exact fin _ x4 (zle_r _) (hIle _ _ e)
  | none =>
    rcases z8 with z8 | z8
    · exact absurd e (by rw [z8.1]; exact fun z => hE0 (none_I e1.1 z))
    · have x5 := ext_f (b := E) (e := .inl (5, cap, .inr (.inr (.inr (.inr fL))))) x4 z8.2.1 (by rw [zu_n nE]; exact g12)
      refine fin _ x5 (zle_new (zle_r _) ?_) zu_s
      rw [zu_n nEL, zu_n nET, zu_n nE]; exact e
theorem c_read {post : Int32 → zM → Prop} {k n : Nat} {s : Int32} (hR : RC D X B I M) (hz : zle I M) (hJ : zJs D M) (hE1 : ∃ g, I (D.2.2.2 1) = some (.inl (5, 0, .inr (.inr (.inr (.inr g)))))) (hk : 1000 ≤ k) (hn : 122000 ≤ n) (h : done D X B I M (sp_read X s).2 (post (sp_read X s).1)) : wp_X0_read D post k n (B 0) s M := by
  have hE0 : I (D.2.2.2 1) ≠ none := by obtain ⟨g, hg⟩ := hE1; rw [hg]; simp
  unfold wp_X0_read
  unfold sp_read at h
  refine c_isSlot (ifb (fun e1 => ?_) (fun e1 => by rw [e1] at h; exact fin0 hR hz h (zle_r _)))
  obtain ⟨j, hj, rfl⟩ := zb_of e1 (by decide)
  rw [e1, nI_clamp (by omega)] at h
  simp only [if_true] at h
  refine ⟨by omega, by omega, fun R hRn hR0 => ⟨3, 13, by omega, by omega, ?_⟩⟩
  refine r_start (B := B) hz hE1 hRn hR0 fun q M1 hq s1 => ?_
  subst hq
  -- an end by a code
  have bad : ∀ code : Int32, done D X B I M (xT X []) (post code) → zxr D M code (fun x M' => (∃ fs, M' x = some (.inr (13, fs))) ∧ wp_X0_read_L43 D post (B 0) (((k - 1) - 3) - 990) (((n - 6) - 13) - 121600) (some x) M') := by
    intro code hd x fs M' hm hx hx0 hfs
    unfold wp_X0_read_L43
    have hR' := RC_z hR hz hm
    obtain ⟨y1, y2⟩ := RC_wp hR' (zle_t hz hm)
    refine ⟨⟨fs, hx⟩, czd (cgI hx hfs (cp hR'.1 (RC_b hR (by decide)) (by simp) ?_))⟩
    simp only [List.set_cons_succ, List.set_cons_zero]
    exact fin hd rfl (ext_t0 (ext_le hz hm) y1) y2
  have main := r_whole (k := 990) (n := 121600) (xp := fun x M' => (∃ fs, M' x = some (.inr (13, fs))) ∧ wp_X0_read_L43 D post (B 0) (((k - 1) - 3) - 990) (((n - 6) - 13) - 121600) (some x) M') (post := fun r14 M => (zgR M (B 0) 0 5 fun g17 => ((zd g17 fun b18 => zsR D M b18 8 (nI j) r14 fun M => ((zd r14 fun b19 => zgR M b19 10 2 fun g20 => ((zd g20 fun b21 => (zis M b21 [26] ∧ wp_J3_size D (fun r22 M => (zp D M (B 0) 0 4 (.int (0 : Int32)) fun M => post r22 M)) b21 M)))))))))
    hR hJ hE1 s1 (by decide) (by decide) (fun e he => bad _ (by simp only [he] at h; exact h)) (fun p hp => bad _ (by simp only [hp] at h; exact h)) (fun t r hw I2 M2 hwh => ?_)
  · exact ⟨main.1, 990, 121600, by omega, by omega, main.2⟩
  · simp only [hw] at h
    obtain ⟨I3, x3, hmg, L, T, P, y1, y2, y3⟩ := zwh_f hR hz hE0 hwh hw
    have hm2 := hwh.1
    refine cgR (x := some (B 5)) (hm2 _ _ hR.1) rfl (czd (RC_sl1 hR x3 hm2 hj hmg fun M4 hM4 x4 hR4 => ?_))
    have z4 : zle I3 M4 := x4.2.1
    refine czd (cgR (x := some L) (z4 _ _ y1) rfl (czd (c_size' (zLs_m z4 (fun a q _ hq => hq) y2) ?_)))
    have hR5 := hR4
    obtain ⟨w1, w2⟩ := RC_wp hR4 z4
    refine cp hR4.1 (RC_b hR (by decide)) (by simp) ?_
    simp only [List.set_cons_succ, List.set_cons_zero]
    rw [y3]
    refine fin h rfl (ext_t0 x4 ?_) w2
    exact w1
end RJ1
