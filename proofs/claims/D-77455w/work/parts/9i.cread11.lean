/-! the component's reader: a choice -/
section RF1
variable {D : zD} {X : zSg} {B : Nat → Nat} {I0 M0 I M Is Ms : zM} {q : Nat × Nat × Nat × Nat} {E Es : Nat} {r : zRh} {cnt nest pld : Nat} {ca ba : List Nat} {d : Nat} {kd : Bool} {C Lb Eb a u : Nat}
/-- a choice more in the message's list -/
theorem zrs_c {post : Int32 → zM → Prop} {k n : Nat} (hE0 : I0 (D.2.2.2 1) ≠ none) (h : zrs D (B 0) I0 M0 q I M E r cnt nest pld ca) (hC : zis I C (zok 5)) (h8 : r.2.1 ≤ 8) (hk : 1 ≤ k) (hn : 300 ≤ n)
    (hp : ∀ M' E', zrs D (B 0) I0 M0 q I M' E' (r.1, r.2.1 + 1, r.2.2) cnt nest pld (ca ++ [C]) → zsx q E I M E' I M' → post 1 M') : zis M q.2.2.2 [26] ∧ wp_J3_add D post k n q.2.2.2 (some C) M := by
  have hh := h
  obtain ⟨h1, h2, ⟨i1, i2, i3⟩, h4, h5, h6, ⟨f, h7, h7'⟩, h8', h17, h18⟩ := hh
  have hz := h8'
  obtain ⟨y0, y1, y2, y3, mc, cap, g, h11, h12, z3, z4, z5, z6⟩ := hz
  have hI1 : I (D.2.2.2 1) ≠ none := fun z => hE0 (none_I h1.1 z)
  refine c_addL h8' (zrs_z h) (zrs_0 h) hC (by rw [h17]; omega) hk hn fun M' E' hx' he ho => ?_
  have nL : ∀ x, x = q.1 ∨ x = q.2.1 ∨ x = q.2.2.1 → ¬ (x = q.2.2.2 ∨ (x = E ∧ I x = none)) := by
    intro x hx z
    rcases hx with e | e | e
    · rcases z with z | z
      · rw [e] at z; exact kn_ne h5 h11 (by simp) z
      · rw [e] at z; exact kn_ne h5 h12 (by simp) z.1
    · rcases z with z | z
      · rw [e] at z; exact kn_ne h6 h11 (by simp) z
      · rw [e] at z; exact kn_ne h6 h12 (by simp) z.1
    · rcases z with z | z
      · rw [e] at z; exact kn_ne h7 h11 (by simp) z
      · rw [e] at z; exact kn_ne h7 h12 (by simp) z.1
  have hU : ∀ x, x = q.2.2.2 ∨ (x = E ∧ I x = none) → M0 x = none := by
    intro x hxx
    rcases hxx with e | ⟨e, ei⟩
    · subst e; exact y0
    · subst e
      rcases z6 with z6 | z6
      · exact absurd ei (by rw [z6.1]; exact hI1)
      · exact z6.2.1
  refine hp M' E' ⟨ext_t h1 hx' fun x hxx => Or.inr (hU x hxx), h2, ⟨i1, i2, i3⟩, h4, hx'.2.2.1 _ _ h5 (nL _ (Or.inl rfl)), hx'.2.2.1 _ _ h6 (nL _ (Or.inr (Or.inl rfl))), ⟨f, hx'.2.2.1 _ _ h7 (nL _ (Or.inr (Or.inr rfl))), h7'⟩, ho, ?_, h18⟩ ⟨ext_w h1.2.1 hx' fun x hxx => ?_, he⟩
  · rw [List.length_append, h17]; rfl
  · rcases hxx with e | ⟨e, ei⟩
    · exact Or.inl (Or.inr (Or.inr (Or.inr (Or.inl e))))
    · exact Or.inl (Or.inr (Or.inr (Or.inr (Or.inr ⟨e, ei⟩))))
def zGb (d u : Nat) : Nat → List Int32 × List (zN d) → List zCh := fun r b => zalg (zcN d (u + 1)) (fun x => (znL d x).length) (r + b.1.length + 1) b.2
theorem zalg_1 {α β : Type} {g : Nat → α → List β} {len : α → Nat} {p : Nat} {x : α} : zalg g len p [x] = g p x := by rw [zalg, zalg, List.append_nil]
/-- a choice's branches, one after the other -/
theorem r_bloop {dd : Nat} {post : Option Nat → zM → Prop} {xp : Nat → zM → Prop} {pl : Bool} {x2 : Int32} {r0 : zRh} {p0 cnt0 : Nat} {cb : List Nat} (hR : RC D X B I0 M0) (hJ : zJs D M0) (hE0 : I0 (D.2.2.2 1) ≠ none) (hP : zRP D X B I0 M0 d dd) (hu : u + 1 + d = 3) (hpl : pl = true ↔ 0 < pld) (hpu : pld ≤ u + 1) (hL : Ms Lb = none) :
    ∀ (F : Nat) (acc : List (List Int32 × List (zN d))) (r1 : zRh) (I1 M1 : zM) (E1 Eb : Nat) (ba ca1 : List Nat) (kk nn : Nat), X.2.1.length - r1.1 < F → r1.1 ≤ X.2.1.length → r1.2.1 ≤ 8 → acc.length ≤ 10 → (∀ b ∈ acc, zkv kd b.1 ≤ 1009) → r1.1 = p0 + (acc.map fun b => (zbL d b).length).sum →
      zrs D (B 0) I0 M0 q I1 M1 E1 r1 (cnt0 + (acc.map fun b => ztM d b.2).sum) (u + 1) pld (cb ++ ca1) → zsx q Es Is Ms E1 I1 M1 → zov D M0 q E1 I1 M1 Lb Eb ba → (I1 Eb = none → Ms Eb = none) → I1 C = some (.inr (zci kd, [.ref Lb, .int (nI u), .int (nI a)])) → zBr I1 d kd acc ba → zLk I1 ca1 (zalg (zGb d u) (fun b => (zbL d b).length) p0 acc) →
      8 * zrm X.2.1.length r1.1 (zrB (ztp X) X.2.1.length (zrd (ztp X) X.2.1.length d pl) kd F acc r1) ≤ kk + 3 → 1000 * zrm X.2.1.length r1.1 (zrB (ztp X) X.2.1.length (zrd (ztp X) X.2.1.length d pl) kd F acc r1) ≤ nn + 900 →
      (∀ e, zrB (ztp X) X.2.1.length (zrd (ztp X) X.2.1.length d pl) kd F acc r1 = .inl e → zxr D M0 (-1000 - nI e) xp) →
      (∀ bs r2, zrB (ztp X) X.2.1.length (zrd (ztp X) X.2.1.length d pl) kd F acc r1 = .inr (bs, r2) → zhr (ztp X) X.2.1.length r2.1 = 125 → bs.length ≤ 10 → (∀ b ∈ bs, zkv kd b.1 ≤ 1009) → ∀ (I2 M2 : zM) (E2 Eb2 : Nat) (ba2 ca2 : List Nat) (kk nn : Nat), zrs D (B 0) I0 M0 q I2 M2 E2 r2 (cnt0 + (bs.map fun b => ztM d b.2).sum) (u + 1) pld (cb ++ ca2) → zsx q Es Is Ms E2 I2 M2 → zov D M0 q E2 I2 M2 Lb Eb2 ba2 → (I2 Eb2 = none → Ms Eb2 = none) →
        I2 C = some (.inr (zci kd, [.ref Lb, .int (nI u), .int (nI a)])) → zBr I2 d kd bs ba2 → zLk I2 ca2 (zalg (zGb d u) (fun b => (zbL d b).length) p0 bs) → r2.2.1 ≤ 8 → ((zis M2 C [18] ∧ wp_X21_other D (fun r42 M => wp_X10_choice_L171 D (wp_X10_parts D dd) post xp q.1 kk nn x2 (some C) (some C) r42 M) C M2) ∨ (zis M2 C [19] ∧ wp_X22_other D (fun r45 M => wp_X10_choice_L171 D (wp_X10_parts D dd) post xp q.1 kk nn x2 (some C) (some C) r45 M) C M2))) →
      wp_X10_choice_L149 D (wp_X10_parts D dd) post xp q.1 F kk nn x2 (some C) M1 := by
  have hN : X.2.1.length ≤ 120 := hR.2.2.1.1
  have hsub : ∀ (r : zRh) (t : List (zN d)) (r1 : zRh), r.1 ≤ X.2.1.length → zrd (ztp X) X.2.1.length d pl r = .inr (t, r1) → r1.1 = r.1 + (ztL d t).length := fun r t r1 hr hh => (zrd_x d pl r t r1 hr hh).2.1
  intro F
  induction F with
  | zero => intro acc r1 I1 M1 E1 Eb ba ca1 kk nn hF; omega
  | succ F ih =>
    intro acc r1 I1 M1 E1 Eb ba ca1 kk nn hF hr1 h81 h10 hkey hpos hs1 hx1 hv1 hEb hC1 hb1 hlk hk1 hn1 hf1 hp1
    obtain ⟨zs1, zs2⟩ := zrB_s (tp := ztp X) (n := X.2.1.length) (f := F) (sub := zrd (ztp X) X.2.1.length d pl) (kd := kd) (acc := acc) (r := r1)
    unfold wp_X10_choice_L149
    cases e1 : zrb1 (ztp X) X.2.1.length (zrd (ztp X) X.2.1.length d pl) kd acc r1 with
    | inl e =>
      rw [zs1 e e1] at hk1 hn1 hf1
      have hk' : 8 * (X.2.1.length + 1 - r1.1) ≤ kk + 3 := hk1
      have hn' : 1000 * (X.2.1.length + 1 - r1.1) ≤ nn + 900 := hn1
      have hz : zrm X.2.1.length r1.1 (zrb1 (ztp X) X.2.1.length (zrd (ztp X) X.2.1.length d pl) kd acc r1) = X.2.1.length + 1 - r1.1 := by rw [e1]; rfl
      have main := r_branch (k := kk) (n := nn) (xp := xp) (post := fun _ M => ((zis M q.1 [9] ∧ wp_X10_here D (fun r38 M => ((¬ r38 = (125 : Int32) → wp_X10_choice_L149 D (wp_X10_parts D dd) post xp q.1 F (kk - kk) (nn - nn) x2 (some C) M) ∧ (r38 = (125 : Int32) → ((zd (some C) fun b41 => ((zis M b41 [18] ∧ wp_X21_other D (fun r42 M => wp_X10_choice_L171 D (wp_X10_parts D dd) post xp q.1 (kk - kk) (nn - nn) x2 (some b41) (some b41) r42 M) b41 M) ∨ (zis M b41 [19] ∧ wp_X22_other D (fun r45 M => wp_X10_choice_L171 D (wp_X10_parts D dd) post xp q.1 (kk - kk) (nn - nn) x2 (some b41) (some b41) r45 M) b41 M))))))) q.1 M)))
        hR hJ hE0 hP hu hpl hpu hs1 hr1 h81 hx1 hL hEb hv1 hC1 hb1 h10 hkey (by rw [hz]; omega) (by rw [hz]; omega) (fun e' he' => by rw [e1] at he'; cases he'; exact hf1 _ rfl) (fun b r3 he' => by rw [e1] at he'; cases he')
      exact ⟨main.1, kk, nn, Nat.le_refl _, Nat.le_refl _, main.2⟩
    | inr y =>
      obtain ⟨b, r3⟩ := y
      obtain ⟨x1, x2', x3, x4⟩ := zrb1_x hsub e1
      have hl11 : acc.length + 1 ≤ 10 := by omega
      rw [zs2 b r3 e1] at hk1 hn1 hf1 hp1
      have hlen : 2 ≤ (zbL d b).length := by
        show 2 ≤ (b.1 ++ 40 :: (ztL d b.2 ++ [41])).length
        simp only [List.length_append, List.length_cons, List.length_nil]
        omega
      have hz : zrm X.2.1.length r1.1 (zrb1 (ztp X) X.2.1.length (zrd (ztp X) X.2.1.length d pl) kd acc r1) = r3.1 - r1.1 := by rw [e1]; rfl
      have hle : 8 * (r3.1 - r1.1) ≤ kk + 3 ∧ 1000 * (r3.1 - r1.1) ≤ nn + 900 := by
        by_cases h125 : zhr (ztp X) X.2.1.length r3.1 = 125
        · rw [if_pos h125] at hk1 hn1
          exact ⟨hk1, hn1⟩
        · rw [if_neg h125] at hk1 hn1
          cases eB : zrB (ztp X) X.2.1.length (zrd (ztp X) X.2.1.length d pl) kd F (acc ++ [b]) r3 with
          | inl e =>
            rw [eB] at hk1 hn1
            have a1 : 8 * (X.2.1.length + 1 - r1.1) ≤ kk + 3 := hk1
            have a2 : 1000 * (X.2.1.length + 1 - r1.1) ≤ nn + 900 := hn1
            omega
          | inr y =>
            obtain ⟨bs, r4⟩ := y
            rw [eB] at hk1 hn1
            have a1 : 8 * (r4.1 - r1.1) ≤ kk + 3 := hk1
            have a2 : 1000 * (r4.1 - r1.1) ≤ nn + 900 := hn1
            obtain ⟨new, -, -, -, -, z5⟩ := zrB_x (pl := pl) (fun r t r1 hr hh => zrd_x d pl r t r1 hr hh) F (acc ++ [b]) r3 bs r4 (by rw [List.length_append]; simp only [List.length_cons, List.length_nil]; omega) eB
            have := z5.2.1
            omega
      have main := r_branch (k := 8 * (r3.1 - r1.1) - 3) (n := 1000 * (r3.1 - r1.1) - 900) (xp := xp) (post := fun _ M => ((zis M q.1 [9] ∧ wp_X10_here D (fun r38 M => ((¬ r38 = (125 : Int32) → wp_X10_choice_L149 D (wp_X10_parts D dd) post xp q.1 F (kk - (8 * (r3.1 - r1.1) - 3)) (nn - (1000 * (r3.1 - r1.1) - 900)) x2 (some C) M) ∧ (r38 = (125 : Int32) → ((zd (some C) fun b41 => ((zis M b41 [18] ∧ wp_X21_other D (fun r42 M => wp_X10_choice_L171 D (wp_X10_parts D dd) post xp q.1 (kk - (8 * (r3.1 - r1.1) - 3)) (nn - (1000 * (r3.1 - r1.1) - 900)) x2 (some b41) (some b41) r42 M) b41 M) ∨ (zis M b41 [19] ∧ wp_X22_other D (fun r45 M => wp_X10_choice_L171 D (wp_X10_parts D dd) post xp q.1 (kk - (8 * (r3.1 - r1.1) - 3)) (nn - (1000 * (r3.1 - r1.1) - 900)) x2 (some b41) (some b41) r45 M) b41 M))))))) q.1 M)))
        hR hJ hE0 hP hu hpl hpu hs1 hr1 h81 hx1 hL hEb hv1 hC1 hb1 h10 hkey (by rw [hz]; omega) (by rw [hz]; omega) (fun e' he' => by rw [e1] at he'; cases he') (fun b' r3' he' I2 M2 E2 Eb2 x ca2 s2 y2 v2 hEb2 hI2 hb2 hl2 h82 => ?_)
      · exact ⟨main.1, _, _, by omega, by omega, main.2⟩
      · rw [e1] at he'
        cases he'
        have hkb := (zkey_ok x3).2.1
        have hkey' : ∀ b' ∈ acc ++ [b], zkv kd b'.1 ≤ 1009 := by
          intro b' hb'
          rcases List.mem_append.mp hb' with hb' | hb'
          · exact hkey b' hb'
          · rw [List.mem_singleton.mp hb']; exact hkb
        have ec : cnt0 + (acc.map fun b => ztM d b.2).sum + ztM d b.2 = cnt0 + ((acc ++ [b]).map fun b => ztM d b.2).sum := by
          rw [List.map_append, List.sum_append, List.map_cons, List.map_nil, List.sum_cons, List.sum_nil]
          omega
        have ep : r3.1 = p0 + ((acc ++ [b]).map fun b => (zbL d b).length).sum := by
          rw [List.map_append, List.sum_append, List.map_cons, List.map_nil, List.sum_cons, List.sum_nil]
          omega
        rw [ec, List.append_assoc] at s2
        have hlk' : zLk I2 (ca1 ++ ca2) (zalg (zGb d u) (fun b => (zbL d b).length) p0 (acc ++ [b])) := by
          rw [zalg_app, zalg_1, ← hpos]
          exact zLk_a (zLk_m hlk hI2) hl2
        have hC2 := hI2 _ _ hC1
        have hl10 : (acc ++ [b]).length ≤ 10 := by rw [List.length_append]; simp only [List.length_cons, List.length_nil]; omega
        refine r_here hR s2 x2' ⟨fun z => ?_, fun z => czd ?_⟩
        · rw [if_neg z] at hk1 hn1 hf1 hp1
          have hzz : zrm X.2.1.length r1.1 (zrB (ztp X) X.2.1.length (zrd (ztp X) X.2.1.length d pl) kd F (acc ++ [b]) r3) = (r3.1 - r1.1) + zrm X.2.1.length r3.1 (zrB (ztp X) X.2.1.length (zrd (ztp X) X.2.1.length d pl) kd F (acc ++ [b]) r3) := by
            cases eB : zrB (ztp X) X.2.1.length (zrd (ztp X) X.2.1.length d pl) kd F (acc ++ [b]) r3 with
            | inl e =>
              show X.2.1.length + 1 - r1.1 = (r3.1 - r1.1) + (X.2.1.length + 1 - r3.1)
              omega
            | inr y =>
              obtain ⟨bs, r4⟩ := y
              obtain ⟨new, -, -, -, -, z5⟩ := zrB_x (pl := pl) (fun r t r1 hr hh => zrd_x d pl r t r1 hr hh) F (acc ++ [b]) r3 bs r4 hl10 eB
              have := z5.2.1
              show r4.1 - r1.1 = (r3.1 - r1.1) + (r4.1 - r3.1)
              omega
          rw [hzz] at hk1 hn1
          exact ih (acc ++ [b]) r3 I2 M2 E2 Eb2 (ba ++ [x]) (ca1 ++ ca2) _ _ (by omega) x2' h82 hl10 hkey' ep s2 y2 v2 hEb2 hC2 hb2 hlk' (by omega) (by omega) hf1 hp1
        · rw [if_pos z] at hp1
          exact hp1 _ _ rfl z hl10 hkey' I2 M2 E2 Eb2 (ba ++ [x]) (ca1 ++ ca2) _ _ s2 y2 v2 hEb2 hC2 hb2 hlk' h82
end RF1
