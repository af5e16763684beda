/-! the component's reader: letters, lies, types -/
def ztp (X : zSg) : Nat → Int32 := fun i => X.2.1.getD i 0
section RD3
variable {D : zD} {X : zSg} {B : Nat → Nat} {I0 M0 I M : zM} {q : Nat × Nat × Nat × Nat} {E : Nat} {r : zRh} {cnt nest pld : Nat} {ca : List Nat}
theorem zub {c : Int32} (h : zb c 256 = true) : vp_nar .byte (c.toInt8.toInt32) &&& (255 : Int32) = c := by
  obtain ⟨p, hp, rfl⟩ := zb_of h (by decide)
  have h1 : ∀ p : Fin 256, vp_nar .byte ((nI p.val).toInt8.toInt32) &&& (255 : Int32) = nI p.val := by decide +kernel
  exact h1 ⟨p, hp⟩
theorem r_is (h : zrs D (B 0) I0 M0 q I M E r cnt nest pld ca) : zis M q.1 [9] := by
  obtain ⟨-, -, -, -, h5, -⟩ := h
  exact cis h5 (by decide)
theorem r_here {post : Int32 → zM → Prop} (hR : RC D X B I0 M0) (h : zrs D (B 0) I0 M0 q I M E r cnt nest pld ca) (hr : r.1 ≤ X.2.1.length) (hp : post (zhr (ztp X) X.2.1.length r.1) M) : zis M q.1 [9] ∧ wp_X10_here D post q.1 M := by
  refine ⟨r_is h, ?_⟩
  have h0 := zrs_0 h
  obtain ⟨-, -, -, -, h5, -⟩ := h
  have ho := h0 _ _ hR.1
  obtain ⟨t1, f, t2, t3⟩ := hR.2.2.1
  have ht := h0 _ _ t2
  unfold wp_X10_here wp_X10_here_L34
  unfold zhr at hp
  refine cgI h5 rfl (cgR (x := some (B 0)) h5 rfl (czd (cgI ho rfl ?_)))
  rw [nI_leI (by omega) (by omega)]
  refine ⟨fun z => ?_, fun z => cgR (x := some (B 0)) h5 rfl (czd (cgR (x := some (B 3)) ho rfl (cgI h5 rfl (czd (caI ht (vp_in_nI (by omega) (by decide)) ?_)))))⟩
  · rw [if_neg (by omega)] at hp; exact hp
  · rw [if_pos (by omega)] at hp
    obtain ⟨c, hc⟩ : ∃ c, X.2.1[r.1]? = some c := ⟨_, List.getElem?_eq_getElem (by omega)⟩
    obtain ⟨y1, y2⟩ := t3 _ c hc
    have e : ztp X r.1 = c := by unfold ztp; rw [List.getD_eq_getElem?_getD, hc]; rfl
    rw [nI_clamp (by omega), y1, zub y2]
    rw [e] at hp
    exact hp
theorem r_takes {post : Int32 → zM → Prop} {c : Int32} (hR : RC D X B I0 M0) (h : zrs D (B 0) I0 M0 q I M E r cnt nest pld ca) (hr : r.1 ≤ X.2.1.length) (h1 : zhr (ztp X) X.2.1.length r.1 = c → ∀ M', zrs D (B 0) I0 M0 q I M' E (r.1 + 1, r.2) cnt nest pld ca → zsx q E I M E I M' → post 1 M')
    (h2 : zhr (ztp X) X.2.1.length r.1 ≠ c → ∀ M', zrs D (B 0) I0 M0 q I M' E r cnt nest pld ca → zsx q E I M E I M' → post 0 M') : zis M q.1 [9] ∧ wp_X10_takes D post q.1 c M := by
  refine ⟨r_is h, r_here hR h hr ?_⟩
  unfold wp_X10_takes_L13 wp_X10_takes_L28
  have h5 := h.2.2.2.2.1
  have hb := h.2.2.2.1.1
  refine ⟨fun z => cgI h5 rfl ⟨fun _ => czd (cp h5 hb (by simp) ⟨rfl, ?_⟩), fun y => absurd rfl y⟩, fun z => cgI h5 rfl ⟨fun y => absurd y (by decide), fun _ => czd (cp h5 hb (by simp) ⟨rfl, ?_⟩)⟩⟩
  · obtain ⟨k1, k2⟩ := zrs_R (r1 := r) (nest1 := nest) (pld1 := pld) h rfl rfl h.2.2.2.2.2.2.2.2.2
    rw [show nI r.1 + (0 : Int32) = nI r.1 by rw [show (0 : Int32) = nI 0 from rfl, nI_add]; rfl]
    exact h2 z _ k1 k2
  · obtain ⟨k1, k2⟩ := zrs_R (r1 := (r.1 + 1, r.2)) (nest1 := nest) (pld1 := pld) h rfl rfl h.2.2.2.2.2.2.2.2.2
    rw [nI_1]
    exact h1 z _ k1 k2
theorem r_wants {post : Unit → zM → Prop} {xp : Nat → zM → Prop} {k n : Nat} {c : Int32} (hR : RC D X B I0 M0) (h : zrs D (B 0) I0 M0 q I M E r cnt nest pld ca) (hr : r.1 ≤ X.2.1.length) (hk : 1 ≤ k) (hn : 7 ≤ n) (h1 : zhr (ztp X) X.2.1.length r.1 = c → ∀ M', zrs D (B 0) I0 M0 q I M' E (r.1 + 1, r.2) cnt nest pld ca → zsx q E I M E I M' → post () M')
    (h2 : zhr (ztp X) X.2.1.length r.1 ≠ c → zxr D M0 (-1000 - nI r.1) xp) : zis M q.1 [9] ∧ wp_X10_wants D post xp k n q.1 c M := by
  refine ⟨r_is h, ?_⟩
  unfold wp_X10_wants
  refine r_takes hR h hr (fun z M' h' hx => ?_) (fun z M' h' hx => ?_)
  · have y := r_must (c := true) (post := post) (xp := xp) h' hk hn (fun _ => h1 z M' h' hx) (fun y => (nomatch y))
    exact ⟨y.1, k, n, Nat.le_refl _, Nat.le_refl _, y.2⟩
  · have y := r_must (c := false) (post := post) (xp := xp) h' hk hn (fun y => (nomatch y)) (fun _ => h2 z)
    exact ⟨y.1, k, n, Nat.le_refl _, Nat.le_refl _, y.2⟩
theorem r_isSign {post : Int32 → zM → Prop} (hR : RC D X B I0 M0) (h : zrs D (B 0) I0 M0 q I M E r cnt nest pld ca) (hr : r.1 ≤ X.2.1.length) (hp : post (b1 (zsg (zhr (ztp X) X.2.1.length r.1))) M) : zis M q.1 [9] ∧ wp_X10_isSign D post q.1 M := by
  refine ⟨r_is h, ?_⟩
  unfold wp_X10_isSign wp_X10_isSign_L37 wp_X10_isSign_L42
  refine r_here hR h hr (c_in ?_)
  generalize zhr (ztp X) X.2.1.length r.1 = c at hp
  unfold zsg at hp
  refine ifb (fun e => ⟨rfl, ?_⟩) (fun e => ⟨fun z => ⟨rfl, ?_⟩, fun z => ⟨fun z2 => ⟨rfl, ?_⟩, fun z2 => ⟨fun z3 => ⟨rfl, ?_⟩, fun z3 => ⟨rfl, ?_⟩⟩⟩⟩)
  · rw [e] at hp; exact hp
  · subst z; exact hp
  · subst z2; exact hp
  · rw [e, decide_eq_false z, decide_eq_false z2, decide_eq_false z3] at hp; exact hp
  · subst z3; exact hp
theorem r_lies {post : Unit → zM → Prop} {p : Nat} (h : zrs D (B 0) I0 M0 q I M E r cnt nest pld ca) (hp120 : p ≤ 120) (hp : ∀ M', zrs D (B 0) I0 M0 q I M' E (r.1, r.2.1, zlie r.2.2.1 p, r.2.2.2) cnt nest pld ca → zsx q E I M E I M' → post () M') : zis M q.1 [9] ∧ wp_X10_lies D post q.1 (nI p) M := by
  refine ⟨r_is h, ?_⟩
  have h5 := h.2.2.2.2.1
  have hb := h.2.2.2.1.1
  have hw := h.2.2.2.2.2.2.2.2.2
  obtain ⟨k1, k2⟩ := zrs_R (r1 := (r.1, r.2.1, zlie r.2.2.1 p, r.2.2.2)) (nest1 := nest) (pld1 := pld) h rfl rfl (zlie_b hw hp120)
  have hp' := hp _ k1 k2
  unfold wp_X10_lies wp_X10_lies_L20
  refine cgI h5 rfl ?_
  cases e : r.2.2.1 with
  | none =>
    refine ⟨fun z => absurd z (by decide), fun _ => czd (cp h5 hb (by simp) ?_)⟩
    have e2 : zwi (zlie none p) = nI p := rfl
    simp only [e, e2] at hp'
    exact hp'
  | some w =>
    have hw' := hw w e
    refine ⟨fun _ => cgI h5 rfl ?_, fun z => absurd (nI_pos' (by omega)) z⟩
    rw [e]
    refine c_min (a := w) (by omega) (by omega) (czd (cp h5 hb (by simp) ?_))
    have e2 : zwi (zlie (some w) p) = nI (min w p) := rfl
    simp only [e, e2] at hp'
    exact hp'
theorem r_uses {post : Unit → zM → Prop} {a ty p : Nat} (h : zrs D (B 0) I0 M0 q I M E r cnt nest pld ca) (ha : a < 5) (hty : ty ≤ 3) (hp120 : p ≤ 120) (hp : ∀ M', zrs D (B 0) I0 M0 q I M' E (zuse r a ty p) cnt nest pld ca → zsx q E I M E I M' → post () M') : zis M q.1 [9] ∧ wp_X10_uses D post q.1 (nI a) (nI ty) (nI p) M := by
  refine ⟨r_is h, ?_⟩
  have h5 := h.2.2.2.2.1
  have h6 := h.2.2.2.2.2.1
  have hb := h.2.2.2.1.2.1
  have n12 : q.1 ≠ q.2.1 := kn_ne h5 h6 (by simp)
  obtain ⟨k1, k2⟩ := zrs_m (cnt1 := cnt) (r1 := (r.1, r.2.1, r.2.2.1, r.2.2.2.1 ||| ((1 : Int32) <<< (nI a &&& 31)), r.2.2.2.2)) h rfl rfl rfl rfl
  unfold wp_X10_uses wp_X10_uses_L62
  refine cgR (x := some q.2.1) h5 rfl (czd (cgI h6 rfl (cp h6 hb (by simp) ?_)))
  have hfin := hp
  unfold zuse at hp
  simp only [List.set_cons_succ, List.set_cons_zero] at k1 k2 ⊢
  generalize zu M q.2.1 (some (.inr (10, [.null, .int (nI cnt), .ref q.2.2.2, .ref q.2.2.1, .int (r.2.2.2.1 ||| ((1 : Int32) <<< (nI a &&& 31)))]))) = M1 at k1 k2 ⊢
  have g5 := k1.2.2.2.2.1
  have g6 := k1.2.2.2.2.2.1
  obtain ⟨f, g7, g8⟩ := k1.2.2.2.2.2.2.1
  have hbT := k1.2.2.2.1.2.2
  have ga := g8 a ha
  have gty : (r.2.2.2.2 a) ≤ 3 := ga.2
  have hv : vp_in (nI a) 5 := vp_in_nI ha (by decide)
  have hcl : (nI a).toNatClampNeg = a := nI_clamp (by omega)
  rw [show (0 : Int32) = nI 0 from rfl, nI_leI (by omega) (by decide)]
  refine ⟨fun z => ?_, fun z => cgR (x := some q.2.1) g5 rfl (czd (cgR (x := some q.2.2.1) g6 rfl (czd (caI g7 hv ?_))))⟩
  · have : ty = 0 := by omega
    subst this
    rw [if_neg (fun y => y.1 rfl), if_neg (fun y => y.1 rfl)] at hp
    exact hp M1 k1 k2
  · rw [hcl, ga.1]
    show (nI (r.2.2.2.2 a) = nI ty → _) ∧ (¬ nI (r.2.2.2.2 a) = nI ty → _)
    rw [nI_eq (by omega) (by omega)]
    refine ⟨fun z2 => ?_, fun z2 => cgR (x := some q.2.1) g5 rfl (czd (cgR (x := some q.2.2.1) g6 rfl (czd (caI g7 hv ?_))))⟩
    · rw [if_neg (fun y => y.2.2 z2), if_neg (fun y => by omega)] at hp
      exact hp M1 k1 k2
    · rw [hcl, ga.1]
      show (nI (r.2.2.2.2 a) ≤ nI 0 → _) ∧ (¬ nI (r.2.2.2.2 a) ≤ nI 0 → _)
      rw [nI_leI (by omega) (by decide)]
      refine ⟨fun z3 => cgR (x := some q.2.1) g5 rfl (czd (cgR (x := some q.2.2.1) g6 rfl (czd ⟨5, f, g7, hbT, hv, ?_⟩))), fun z3 => r_lies k1 hp120 fun M' k3 k4 => ?_⟩
      · rw [if_neg (fun y => by omega), if_pos ⟨by omega, by omega⟩] at hp
        obtain ⟨k3, k4⟩ := zrs_T (f' := upd f a (nI ty)) (r1 := (r.1, r.2.1, r.2.2.1, r.2.2.2.1 ||| ((1 : Int32) <<< (nI a &&& 31)), fun j => if j = a then ty else r.2.2.2.2 j)) k1 rfl rfl rfl rfl (fun i hi => by
          by_cases e : i = a
          · subst e
            rw [updS]
            show nI ty = nI (if i = i then ty else r.2.2.2.2 i) ∧ (if i = i then ty else r.2.2.2.2 i) ≤ 3
            rw [if_pos rfl]
            exact ⟨rfl, hty⟩
          · rw [updN e]
            show f i = nI (if i = a then ty else r.2.2.2.2 i) ∧ (if i = a then ty else r.2.2.2.2 i) ≤ 3
            rw [if_neg e]
            exact g8 i hi)
        rw [hcl]
        exact hp _ k3 (zsx_t k2 k4)
      · rw [if_pos ⟨by omega, by omega, z2⟩, if_neg (fun y => by omega)] at hp
        exact hp M' k3 (zsx_t k2 k4)
theorem r_some {post : Int32 → zM → Prop} {c : Int32} {mx : Nat} (hR : RC D X B I0 M0) (hc : c ≠ -1) (hm : mx ≤ 10) (h : zrs D (B 0) I0 M0 q I M E r cnt nest pld ca) (hr : r.1 ≤ X.2.1.length)
    (hp : ∀ M', zrs D (B 0) I0 M0 q I M' E (r.1 + zcnt (ztp X) X.2.1.length c mx r.1, r.2) cnt nest pld ca → zsx q E I M E I M' → post (nI (zcnt (ztp X) X.2.1.length c mx r.1)) M') : zis M q.1 [9] ∧ wp_X10_some D post q.1 c (nI mx) M := by
  have loop : ∀ (f i : Nat) (r : zRh) (M1 : zM), i ≤ mx → mx - i < f → r.1 ≤ X.2.1.length → zrs D (B 0) I0 M0 q I M1 E r cnt nest pld ca → zsx q E I M E I M1 → (∀ M', zrs D (B 0) I0 M0 q I M' E (r.1 + zcnt (ztp X) X.2.1.length c (mx - i) r.1, r.2) cnt nest pld ca → zsx q E I M E I M' → post (nI (i + zcnt (ztp X) X.2.1.length c (mx - i) r.1)) M') →
      wp_X10_some_L2 D post q.1 f c (nI mx) (nI i) M1 := by
    intro f
    induction f with
    | zero => intro i r M1 _ hf; omega
    | succ f ih =>
      intro i r M1 hi hf hr h1 hx hp
      unfold wp_X10_some_L2 wp_X10_some_L21
      rw [nI_leI (by omega) (by omega)]
      refine ⟨fun z => ?_, fun z => r_takes hR h1 hr (fun z2 M' h2 hx2 => ⟨fun y => absurd y (by decide), fun _ => ?_⟩) (fun z2 M' h2 hx2 => ⟨fun _ => ?_, fun y => absurd rfl y⟩)⟩
      · rw [show mx - i = 0 by omega, zcnt, Nat.add_zero, Nat.add_zero] at hp
        exact hp M1 h1 hx
      · obtain ⟨w, hw⟩ : ∃ w, mx - i = w + 1 := ⟨mx - i - 1, by omega⟩
        have hlt := zhr_t z2 hc
        rw [hw, zcnt, if_pos z2] at hp
        rw [nI_1]
        refine ih (i + 1) (r.1 + 1, r.2) M' (by omega) (by omega) (by show r.1 + 1 ≤ _; omega) h2 (zsx_t hx hx2) fun M'' h3 hx3 => ?_
        rw [show mx - (i + 1) = w by omega] at h3 ⊢
        have e1 : r.1 + 1 + zcnt (ztp X) X.2.1.length c w (r.1 + 1) = r.1 + (zcnt (ztp X) X.2.1.length c w (r.1 + 1) + 1) := by omega
        have e2 : i + 1 + zcnt (ztp X) X.2.1.length c w (r.1 + 1) = i + (zcnt (ztp X) X.2.1.length c w (r.1 + 1) + 1) := by omega
        have h3' : zrs D (B 0) I0 M0 q I M'' E (r.1 + 1 + zcnt (ztp X) X.2.1.length c w (r.1 + 1), r.2) cnt nest pld ca := h3
        rw [e1] at h3'
        have := hp M'' h3' hx3
        rw [← e2] at this
        exact this
      · obtain ⟨w, hw⟩ : ∃ w, mx - i = w + 1 := ⟨mx - i - 1, by omega⟩
        rw [hw, zcnt, if_neg z2, Nat.add_zero, Nat.add_zero] at hp
        exact hp M' h2 (zsx_t hx hx2)
  refine ⟨r_is h, mx + 1, loop (mx + 1) 0 r M (Nat.zero_le _) (by omega) hr h (zsx_r (zrs_z h)) fun M' h' hx' => ?_⟩
  rw [Nat.sub_zero] at h' ⊢
  rw [Nat.zero_add]
  exact hp M' h' hx'
end RD3
