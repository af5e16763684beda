/-! the component's reader: parts -/
section RD8
variable {D : zD} {X : zSg} {B : Nat → Nat} {I0 M0 : zM}
theorem zst1_x {tp : Nat → Int32} {n d : Nat} {pl : Bool} {r r1 : zRh} {x : zN d} (hb : zbg tp n pl r = true) (h : zst1 tp n d pl r = .inr (x, r1)) : zfx tp n r r1 (znL d x) (znC d x) (zwfN d pl x) := by
  unfold zst1 at h
  unfold zbg at hb
  split at h
  · rename_i e
    cases h
    have hc : zhr tp n r.1 ≠ -1 := fun z => by rw [z] at e; cases pl <;> exact absurd e (by decide)
    rw [zmk_L]
    have hC : znC d (zmk d (if zsg (zhr tp n r.1) = true then (0, zhr tp n r.1, 0, false, 0, 0, 0) else (1, 0, 0, false, 0, 0, 0))) = 0 := by cases d <;> rfl
    have hW : ∀ q : zLf, zwfF pl q → zwfN d pl (zmk d q) := by intro q hq; cases d <;> exact hq
    rw [hC]
    by_cases e1 : zsg (zhr tp n r.1) = true
    · rw [if_pos e1]
      exact zfx_w (zfx_p (zax_1 rfl hc) rfl) fun _ => hW _ e1
    · rw [if_neg e1]
      rw [Bool.or_eq_true, Bool.and_eq_true, decide_eq_true_eq] at e
      obtain ⟨e2, e3⟩ := e.resolve_left e1
      exact zfx_w (zfx_p (zax_1 e2 (by decide)) rfl) fun _ => hW _ e3
  · rename_i e
    have e' : (zsg (zhr tp n r.1) || (decide (zhr tp n r.1 = 35) && pl)) = false := Bool.eq_false_iff.mpr e
    rw [e', Bool.false_or, decide_eq_true_eq] at hb
    exact zon_x d pl r x r1 (fun e he pl r t r1 hr hh => zrd_x e pl r t r1 hr hh) hb h
theorem zRP_of {d dd : Nat} (hR : RC D X B I0 M0) (hE1 : ∃ g, I0 (D.2.2.2 1) = some (.inl (5, 0, .inr (.inr (.inr (.inr g)))))) (hO : zRO D X B I0 M0 d dd) : zRP D X B I0 M0 d (dd + 1) := by
  intro pl u pld r cnt ca q I M E post xp k n hu hpl hpu h hr h8 hk hn hf hp
  have hN : X.2.1.length ≤ 120 := hR.2.2.1.1
  obtain ⟨g0, hg0⟩ := hE1
  have hE0 : I0 (D.2.2.2 1) ≠ none := by rw [hg0]; simp
  refine ⟨r_is h, ?_⟩
  refine ⟨by omega, by omega, fun P hPn hP0 => ⟨1, 3, by omega, by omega, ?_⟩⟩
  unfold wp_X12_init
  refine ⟨Nat.le_refl _, Nat.le_refl _, fun L hL hL0 => ?_⟩
  unfold wp_J3_init wp_J2_init wp_J1_init
  have nPL : P ≠ L := fun z => by subst z; rw [zu_s] at hL; cases hL
  have hML : M L = none := by rw [zu_n nPL.symm] at hL; exact hL
  refine cp0 hL0 (by simp) (cp0 hL0 (by simp) (cp (kw zu_s hL) hP0 (by simp) ⟨X.2.1.length + 1, ?_⟩))
  simp only [List.set_cons_succ, List.set_cons_zero]
  have e9 : zu (zu (zu M P (some (.inr (11, [.null])))) L (some (.inr (26, [.int 0, .ref (D.2.2.2 1), .int 0])))) P (some (.inr (11, [.ref L]))) = zu (zu M L (some (.inr (26, [.int 0, .ref (D.2.2.2 1), .int 0])))) P (some (.inr (11, [.ref L]))) := by
    rw [zu_c nPL, zu_zu]
  rw [e9]
  have hP' : zu M L (some (.inr (26, [.int 0, .ref (D.2.2.2 1), .int 0]))) P = none := by rw [zu_n nPL]; exact hPn
  have s1 := zrs_n (e := .inr (11, [.ref L])) (zrs_o (e := .inr (26, [.int 0, .ref (D.2.2.2 1), .int 0])) h hML) hP'
  have x1 := zsx_n (e := .inr (11, [.ref L])) (zsx_o (e := .inr (26, [.int 0, .ref (D.2.2.2 1), .int 0])) (zsx_r (q := q) (E := E) (zrs_z h)) hML) hP'
  have hIP : zu I P (some (.inr (11, [.ref L]))) P = some (.inr (11, [.ref L])) := zu_s
  have hov : zov D M0 q E (zu I P (some (.inr (11, [.ref L])))) (zu (zu M L (some (.inr (26, [.int 0, .ref (D.2.2.2 1), .int 0])))) P (some (.inr (11, [.ref L])))) L (D.2.2.2 1) [] := by
    have hid : zu I P (some (.inr (11, [.ref L]))) (D.2.2.2 1) = some (.inl (5, 0, .inr (.inr (.inr (.inr g0))))) := s1.1.1 _ _ hg0
    refine ⟨⟨none_0 (zrs_0 h) hML, by rw [zu_n nPL.symm]; exact none_I (zrs_z h) hML, hL0, fun i a ha => (by cases ha), 0, 0, g0, by rw [zu_n nPL.symm, zu_s]; rfl, zrs_z s1 _ _ hid, Nat.le_refl _, by simp, fun i a ha => (by cases ha), Or.inl ⟨rfl, rfl⟩⟩, fun z => ?_, fun z => ?_⟩
    · exact zrs_some h q.2.2.2 (Or.inr (Or.inr (Or.inr (Or.inl rfl)))) (by rw [← z]; exact hML)
    · rw [hid] at z; cases z
  have hEp0 : zu I P (some (.inr (11, [.ref L]))) (D.2.2.2 1) = none → M (D.2.2.2 1) = none := fun z => absurd z (fun y => hE0 (none_I s1.1.1 y))
  have loop : ∀ (F : Nat) (acc : List (zN d)) (pa : List Nat) (r1 : zRh) (I1 M1 : zM) (E1 Ep : Nat) (ca1 : List Nat) (kk nn : Nat), X.2.1.length - r1.1 < F → r1.1 ≤ X.2.1.length → r1.2.1 ≤ 8 → acc.length = pa.length → acc.length ≤ r1.1 → r1.1 = r.1 + (ztL d acc).length →
      zrs D (B 0) I0 M0 q I1 M1 E1 r1 (cnt + ztM d acc) u pld (ca ++ ca1) → zsx q E I M E1 I1 M1 → zov D M0 q E1 I1 M1 L Ep pa → (I1 Ep = none → M Ep = none) → I1 P = some (.inr (11, [.ref L])) → (∀ (i : Nat) (x : zN d), acc[i]? = some x → ∃ a, pa[i]? = some a ∧ zNd I1 d a x) → zLk I1 ca1 (zcs d u r.1 acc) →
      8 * zrm X.2.1.length r1.1 (zrL (ztp X) X.2.1.length (zmk d) (zon (ztp X) X.2.1.length d pl) pl F r1) + 2 ≤ kk → 1000 * zrm X.2.1.length r1.1 (zrL (ztp X) X.2.1.length (zmk d) (zon (ztp X) X.2.1.length d pl) pl F r1) + 10 ≤ nn →
      (∀ e, zrL (ztp X) X.2.1.length (zmk d) (zon (ztp X) X.2.1.length d pl) pl F r1 = .inl e → zxr D M0 (-1000 - nI e) xp) →
      (∀ t' r', zrL (ztp X) X.2.1.length (zmk d) (zon (ztp X) X.2.1.length d pl) pl F r1 = .inr (t', r') → ∀ b I' M' E' ca', zrs D (B 0) I0 M0 q I' M' E' r' (cnt + ztM d (acc ++ t')) u pld (ca ++ ca') → zsx q E I M E' I' M' → zPs I' (zNd I' d) b (acc ++ t') → zLk I' ca' (zcs d u r.1 (acc ++ t')) → r'.2.1 ≤ 8 → post (some b) M') →
      wp_X10_parts_L8 D (wp_X10_parts D dd) post xp q.1 F kk nn (some P) M1 := by
    intro F
    induction F with
    | zero => intro acc pa r1 I1 M1 E1 Ep ca1 kk nn hF; omega
    | succ F ih =>
      intro acc pa r1 I1 M1 E1 Ep ca1 kk nn hF hr1 h81 hal hac hpos hs1 hx1 hv1 hEp hIP1 hel hlk hk1 hn1 hf1 hp1
      rw [zrL_s] at hk1 hn1 hf1 hp1
      -- the list ends here
      have stop : zbg (ztp X) X.2.1.length pl r1 = false → wp_X10_parts_L68 D (wp_X10_parts D dd) post xp q.1 kk nn (some P) M1 := by
        intro e
        unfold wp_X10_parts_L68
        rw [e, if_neg (by decide)] at hp1
        obtain ⟨I2, y1, y2, y3, f, y4, y5⟩ := zov_fr hs1 hv1 hx1 hML hEp hE0 (by omega)
        refine hp1 [] r1 rfl P I2 M1 E1 ca1 (by rw [List.append_nil]; exact y2) y3 ?_ (by rw [List.append_nil]; exact zLk_m hlk y1) h81
        rw [List.append_nil]
        refine ⟨L, y1 _ _ hIP1, f, by rw [hal]; exact y4, fun i x hx => ?_⟩
        obtain ⟨a, h1, h2⟩ := hel i x hx
        exact ⟨a, y5 i a h1, zNd_m y1 d a x h2⟩
      -- one part more
      have more : zbg (ztp X) X.2.1.length pl r1 = true → wp_X10_parts_L40 D (wp_X10_parts D dd) post xp q.1 (wp_X10_parts_L8 D (wp_X10_parts D dd) post xp q.1 F) kk nn (some P) M1 := by
        intro e
        rw [e, if_pos rfl] at hk1 hn1 hf1 hp1
        unfold wp_X10_parts_L40
        have h5 := hs1.2.2.2.2.1
        have h6 := hs1.2.2.2.2.2.1
        obtain ⟨s2, x2⟩ := zrs_m (cnt1 := cnt + ztM d acc + 1) (r1 := r1) hs1 rfl rfl rfl rfl
        refine cgR (x := some q.2.1) h5 rfl (czd (cgI h6 rfl (cp h6 hs1.2.2.2.1.2.1 (by simp) (czd ?_))))
        rw [nI_1]
        simp only [List.set_cons_succ, List.set_cons_zero]
        generalize zu M1 q.2.1 (some (.inr (10, [.null, .int (nI (cnt + ztM d acc + 1)), .ref q.2.2.2, .ref q.2.2.1, .int r1.2.2.2.1]))) = M2 at s2 x2 ⊢
        have v2 := zov_k hs1 hv1 x2
        refine cgR (x := some L) (zrs_z s2 _ _ hIP1) rfl ?_
        have hx2 := zsx_t hx1 x2
        -- the part is read: what then
        have cont : ∀ (k7 n8 : Nat) (x : zN d) (r2 : zRh), zst1 (ztp X) X.2.1.length d pl r1 = .inr (x, r2) → k7 = 8 * (r2.1 - r1.1) - 2 → n8 = 1000 * (r2.1 - r1.1) - 400 → k7 ≤ kk → n8 ≤ nn →
            ∀ a I3 M3 E3 ca3, zrs D (B 0) I0 M0 q I3 M3 E3 r2 (cnt + ztM d acc + 1 + znM d x - 1) u pld ((ca ++ ca1) ++ ca3) → zsx q E1 I1 M2 E3 I3 M3 → zNd I3 d a x → zLk I3 ca3 (zcN d u r1.1 x) → r2.2.1 ≤ 8 → zd (some L) fun b9 => (zis M3 b9 [26] ∧ (∃ k11 n12, k11 ≤ (kk - k7) ∧ n12 ≤ (nn - n8) ∧ wp_J3_add D (fun r10 M => wp_X10_parts_L8 D (wp_X10_parts D dd) post xp q.1 F ((kk - k7) - k11) ((nn - n8) - n12) (some P) M) k11 n12 b9 (some a) M3)) := by
          intro k7 n8 x r2 hst hk7 hn8 hk7' hn8' a I3 M3 E3 ca3 s3 x3 hna hl3 h83
          rw [hst] at hk1 hn1 hf1 hp1
          have hfx := zst1_x e hst
          have hps := znL_ps d x
          have e2 : r2.1 = r1.1 + (znL d x).length := hfx.2.1
          have hr2 : r2.1 ≤ X.2.1.length := by rw [e2]; exact hfx.1.1
          have v3 := zov_k s2 v2 x3
          have hx3 := zsx_t hx2 x3
          have hM : znM d x ≥ 1 := znM_pos d x
          have ec : cnt + ztM d acc + 1 + znM d x - 1 = cnt + ztM d (acc ++ [x]) := by
            unfold ztM
            rw [List.map_append, List.sum_append, List.map_cons, List.map_nil, List.sum_cons, List.sum_nil]
            omega
          rw [ec, List.append_assoc] at s3
          -- what is left to do
          have hz' : zrm X.2.1.length r1.1 (zglu (.inr (x, r2)) (zrL (ztp X) X.2.1.length (zmk d) (zon (ztp X) X.2.1.length d pl) pl F)) = (r2.1 - r1.1) + zrm X.2.1.length r2.1 (zrL (ztp X) X.2.1.length (zmk d) (zon (ztp X) X.2.1.length d pl) pl F r2) := by
            cases eL : zrL (ztp X) X.2.1.length (zmk d) (zon (ztp X) X.2.1.length d pl) pl F r2 with
            | inl e3 =>
              rw [zglu_2 eL]
              show X.2.1.length + 1 - r1.1 = (r2.1 - r1.1) + (X.2.1.length + 1 - r2.1)
              omega
            | inr y =>
              obtain ⟨t, r3⟩ := y
              have := zrL_x (d := d) (pl := pl) (one := zon (ztp X) X.2.1.length d pl) (fun r q r1 hc hq => zon_x d pl r q r1 (fun e he pl r t r1 hr hh => zrd_x e pl r t r1 hr hh) hc hq) F r2 t r3 hr2 eL
              have e3 : r3.1 = r2.1 + (ztL d t).length := this.2.1
              rw [zglu_3 eL]
              show r3.1 - r1.1 = (r2.1 - r1.1) + (r3.1 - r2.1)
              omega
          rw [hz'] at hk1 hn1
          have add := zov_add (post := fun _ M => wp_X10_parts_L8 D (wp_X10_parts D dd) post xp q.1 F ((kk - k7) - 1) ((nn - n8) - 300) (some P) M) (k := 1) (n := 300) hE0 s3 v3 hx3 hML (fun z => hEp (none_I (zsx_i x3) z)) (znd_i hna) (by omega) (Nat.le_refl _) (Nat.le_refl _) fun M4 Ep4 s4 v4 x4 hEp4 _ => ?_
          · exact czd ⟨add.1, 1, 300, by omega, by omega, add.2⟩
          · refine ih (acc ++ [x]) (pa ++ [a]) r2 I3 M4 E3 Ep4 (ca1 ++ ca3) _ _ (by omega) hr2 h83 (by rw [List.length_append, List.length_append, hal]; rfl) (by rw [List.length_append]; simp only [List.length_cons, List.length_nil]; omega) ?_ s4 x4 v4 hEp4 (zsx_i x3 _ _ hIP1) (fun i y hy => ?_) ?_ (by omega) (by omega) (fun e3 he3 => ?_) (fun t' r' ht' => ?_)
            · have e5 : ztL d (acc ++ [x]) = ztL d acc ++ znL d x := by unfold ztL; rw [List.flatMap_append, List.flatMap_cons, List.flatMap_nil, List.append_nil]
              rw [e5, List.length_append]; omega
            · by_cases hi : i < acc.length
              · rw [List.getElem?_append_left hi] at hy
                rw [List.getElem?_append_left (by omega)]
                obtain ⟨a', h1, h2⟩ := hel i y hy
                exact ⟨a', h1, zNd_m (zsx_i x3) d a' y h2⟩
              · rw [List.getElem?_append_right (by omega)] at hy
                rw [List.getElem?_append_right (by omega), ← hal]
                cases hj : i - acc.length with
                | zero => rw [hj] at hy; cases hy; exact ⟨a, rfl, hna⟩
                | succ j => rw [hj] at hy; cases hy
            · rw [zcs_app, zcs_1, ← hpos]
              exact zLk_a (zLk_m hlk (zsx_i x3)) hl3
            · exact hf1 e3 (zglu_2 he3)
            · intro b I' M' E' ca' z1 z2 z3 z4 z5
              have := hp1 (x :: t') r' (zglu_3 ht') b I' M' E' ca'
              rw [show acc ++ x :: t' = acc ++ [x] ++ t' by rw [List.append_assoc]; rfl] at this
              exact this z1 z2 z3 z4 z5
        cases hst : zst1 (ztp X) X.2.1.length d pl r1 with
        | inl e3 =>
          rw [hst] at hk1 hn1 hf1
          have hz : zrm X.2.1.length r1.1 (zst1 (ztp X) X.2.1.length d pl r1) = X.2.1.length + 1 - r1.1 := by rw [hst]; rfl
          have hk1' : 8 * (X.2.1.length + 1 - r1.1) + 2 ≤ kk := hk1
          have hn1' : 1000 * (X.2.1.length + 1 - r1.1) + 10 ≤ nn := hn1
          have main := r_part hR hO hu hpl hpu (by omega) s2 hr1 h81 e (k := kk) (n := nn) (xp := xp) (post := fun r6 M => zd (some L) fun b9 => (zis M b9 [26] ∧ (∃ k11 n12, k11 ≤ (kk - kk) ∧ n12 ≤ (nn - nn) ∧ wp_J3_add D (fun r10 M => wp_X10_parts_L8 D (wp_X10_parts D dd) post xp q.1 F ((kk - kk) - k11) ((nn - nn) - n12) (some P) M) k11 n12 b9 r6 M))) (by rw [hz]; omega) (by rw [hz]; omega) (fun e4 he4 => by rw [hst] at he4; cases he4; exact hf1 e3 zglu_1) (fun x r2 hx => by rw [hst] at hx; cases hx)
          exact ⟨main.1, kk, nn, Nat.le_refl _, Nat.le_refl _, main.2⟩
        | inr y =>
          obtain ⟨x, r2⟩ := y
          have hfx := zst1_x e hst
          have hps := znL_ps d x
          have e2 : r2.1 = r1.1 + (znL d x).length := hfx.2.1
          have hr2 : r2.1 ≤ X.2.1.length := by rw [e2]; exact hfx.1.1
          have hz : zrm X.2.1.length r1.1 (zst1 (ztp X) X.2.1.length d pl r1) = r2.1 - r1.1 := by rw [hst]; rfl
          have hle : 8 * (r2.1 - r1.1) + 2 ≤ kk ∧ 1000 * (r2.1 - r1.1) + 10 ≤ nn := by
            rw [hst] at hk1 hn1
            cases eL : zrL (ztp X) X.2.1.length (zmk d) (zon (ztp X) X.2.1.length d pl) pl F r2 with
            | inl e3 =>
              rw [zglu_2 eL] at hk1 hn1
              have a1 : 8 * (X.2.1.length + 1 - r1.1) + 2 ≤ kk := hk1
              have a2 : 1000 * (X.2.1.length + 1 - r1.1) + 10 ≤ nn := hn1
              omega
            | inr y =>
              obtain ⟨t, r3⟩ := y
              have := zrL_x (d := d) (pl := pl) (one := zon (ztp X) X.2.1.length d pl) (fun r q r1 hc hq => zon_x d pl r q r1 (fun e he pl r t r1 hr hh => zrd_x e pl r t r1 hr hh) hc hq) F r2 t r3 hr2 eL
              have e3 : r3.1 = r2.1 + (ztL d t).length := this.2.1
              rw [zglu_3 eL] at hk1 hn1
              have a1 : 8 * (r3.1 - r1.1) + 2 ≤ kk := hk1
              have a2 : 1000 * (r3.1 - r1.1) + 10 ≤ nn := hn1
              omega
          have main := r_part hR hO hu hpl hpu (by omega) s2 hr1 h81 e (k := 8 * (r2.1 - r1.1) - 2) (n := 1000 * (r2.1 - r1.1) - 400) (xp := xp) (post := fun r6 M => zd (some L) fun b9 => (zis M b9 [26] ∧ (∃ k11 n12, k11 ≤ (kk - (8 * (r2.1 - r1.1) - 2)) ∧ n12 ≤ (nn - (1000 * (r2.1 - r1.1) - 400)) ∧ wp_J3_add D (fun r10 M => wp_X10_parts_L8 D (wp_X10_parts D dd) post xp q.1 F ((kk - (8 * (r2.1 - r1.1) - 2)) - k11) ((nn - (1000 * (r2.1 - r1.1) - 400)) - n12) (some P) M) k11 n12 b9 r6 M))) (by rw [hz]; omega) (by rw [hz]; omega) (fun e4 he4 => by rw [hst] at he4; cases he4)
            (fun x' r2' hx' a I3 M3 E3 ca3 z1 z2 z3 z4 z5 => by rw [hst] at hx'; cases hx'; exact cont _ _ x r2 hst rfl rfl (by omega) (by omega) a I3 M3 E3 ca3 z1 z2 z3 z4 z5)
          exact ⟨main.1, _, _, by omega, by omega, main.2⟩
      have hb : zbg (ztp X) X.2.1.length pl r1 = (zsg (zhr (ztp X) X.2.1.length r1.1) || (decide (zhr (ztp X) X.2.1.length r1.1 = 35) && pl) || decide (zhr (ztp X) X.2.1.length r1.1 = 123)) := rfl
      unfold wp_X10_parts_L8
      refine r_isSign hR hs1 hr1 (ifb (fun e => more ?_) (fun e => r_here hR hs1 hr1 ⟨fun z => more ?_, fun z => r_here hR hs1 hr1 ⟨fun z2 => stop ?_, fun z2 => cgI hs1.2.2.2.2.1 rfl ?_⟩⟩))
      · rw [hb, e]; rfl
      · rw [hb, decide_eq_true z, Bool.or_true]
      · rw [hb, e, decide_eq_false z, decide_eq_false z2]; rfl
      · rw [show (0 : Int32) = nI 0 from rfl, nI_leI (by omega) (by decide)]
        refine ⟨fun z3 => stop ?_, fun z3 => more ?_⟩
        · have hpl0 : pl = false := by cases pl; rfl; exact absurd (hpl.mp rfl) (by omega)
          rw [hb, e, decide_eq_false z, hpl0, Bool.and_false]; rfl
        · have hpl1 : pl = true := hpl.mpr (by omega)
          rw [hb, decide_eq_true z2, hpl1]
          simp
  rw [zrd_e] at hk hn hf hp
  refine loop (X.2.1.length + 1) [] [] r _ _ E (D.2.2.2 1) [] _ _ (by omega) hr h8 rfl (Nat.zero_le _) rfl ?_ x1 hov hEp0 hIP (fun i x hx => by cases hx) zLk_0 (by omega) (by omega) hf (fun t' r' ht' => hp t' r' ht')
  rw [List.append_nil]
  exact s1
end RD8
