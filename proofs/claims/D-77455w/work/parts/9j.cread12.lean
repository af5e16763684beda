/-! the component's reader: a choice, whole -/
section RG1
variable {D : zD} {X : zSg} {B : Nat → Nat} {I0 M0 I M Is Ms : zM} {q : Nat × Nat × Nat × Nat} {E Es : Nat} {r : zRh} {cnt nest pld : Nat} {ca ba : List Nat} {d : Nat} {kd : Bool} {C Lb Eb a u : Nat}
def zkc (kd : Bool) : Int32 := if kd then 112 else 103
def zq1 (r : zRh) (a : Nat) (kd : Bool) : zRh := ((zuse (r.1 + 3, r.2) a (if kd then 1 else 2) (r.1 + 1)).1, (zuse (r.1 + 3, r.2) a (if kd then 1 else 2) (r.1 + 1)).2.1 + 1, (zuse (r.1 + 3, r.2) a (if kd then 1 else 2) (r.1 + 1)).2.2)
theorem zrC_e {tp : Nat → Int32} {n : Nat} {sub : Bool → zRh → Nat ⊕ (List (zN d) × zRh)} {pl : Bool} (h8 : r.2.1 < 8) : 
    (∀ e, zrB tp n (sub (pl || kd)) kd (n + 1) [] (zq1 r a kd) = .inl e → zrC tp n sub pl r a (zkc kd) = .inl e) ∧
    (∀ bs r2, zrB tp n (sub (pl || kd)) kd (n + 1) [] (zq1 r a kd) = .inr (bs, r2) → zrC tp n sub pl r a (zkc kd) = .inr (.inr (kd, a, bs), (r2.1 + 1, r2.2.1, (if bs.any (fun b => zkv kd b.1 == (if kd then 5 else 3)) then r2.2.2.1 else zlie r2.2.2.1 r2.1), r2.2.2.2))) := by
  have e1 : (zkc kd = 112 ∨ zkc kd = 103) ∧ r.2.1 < 8 := ⟨by cases kd; exact Or.inr rfl; exact Or.inl rfl, h8⟩
  have e2 : decide (zkc kd = 112) = kd := by cases kd <;> rfl
  unfold zrC
  rw [if_pos e1]
  simp only [e2]
  refine ⟨fun e h => ?_, fun bs r2 h => ?_⟩
  · unfold zq1 at h; rw [h]
  · unfold zq1 at h; rw [h]
theorem zbr_at2 {pl : Bool} {bs : List (List Int32 × List (zN d))} {p i : Nat} {y : Nat × Nat} (h : (zbr pl d p bs)[i]? = some y) : ∃ b, bs[i]? = some b ∧ y.1 = zkv pl b.1 := by
  have h1 : ((zbr pl d p bs).map Prod.fst)[i]? = some y.1 := by rw [List.getElem?_map, h]; rfl
  rw [zbr_k, List.getElem?_map] at h1
  cases e : bs[i]? with
  | none => rw [e] at h1; cases h1
  | some b => rw [e] at h1; exact ⟨b, rfl, (Option.some.inj h1).symm⟩
/-- a choice is made -/
theorem r_init20 {P : Unit → zM → Prop} {M4 : zM} (hC : M4 C = none) (hC0 : zB D ≤ C) (hp : ∀ L, M4 L = none → zB D ≤ L → L ≠ C → P () (zu (zu M4 L (some (.inr (26, [.int 0, .ref (D.2.2.2 1), .int 0])))) C (some (.inr (zci kd, [.ref L, .int (nI u), .int (nI a)]))))) :
    wp_X20_init D P 1 3 C (nI a) (nI u) (zu M4 C (some (.inr (zci kd, [.null, .int 0, .int 0])))) := by
  have m2 : (zci kd, 2) ∈ ([(14, 0), (15, 0), (16, 0), (18, 2), (19, 2)] : List (Nat × Nat)) := by cases kd <;> decide
  have m0 : (zci kd, 0) ∈ ([(18, 0), (19, 0)] : List (Nat × Nat)) := by cases kd <;> decide
  have m1 : (zci kd, 1) ∈ ([(18, 1), (19, 1)] : List (Nat × Nat)) := by cases kd <;> decide
  unfold wp_X20_init wp_X16_init wp_X13_init
  refine cpm zu_s m2 hC0 (by simp) ⟨Nat.le_refl _, Nat.le_refl _, fun L hL hL0 => ?_⟩
  rw [zu_zu] at hL ⊢
  have nLC : L ≠ C := fun z => by subst z; rw [zu_s] at hL; cases hL
  have hML : M4 L = none := by rw [zu_n nLC] at hL; exact hL
  unfold wp_J3_init wp_J2_init wp_J1_init
  refine cp0 hL0 (by simp) (cp0 hL0 (by simp) (cpm (kw zu_s hL) m0 hC0 (by simp) (cpm zu_s m1 hC0 (by simp) ?_)))
  simp only [List.set_cons_succ, List.set_cons_zero]
  rw [zu_zu, zu_c nLC.symm, zu_zu]
  exact hp L hML hL0 nLC
theorem zRC_s {dd : Nat} (hR : RC D X B I0 M0) (hJ : zJs D M0) (hE1 : ∃ g, I0 (D.2.2.2 1) = some (.inl (5, 0, .inr (.inr (.inr (.inr g)))))) (hP : zRP D X B I0 M0 d dd) : zRC D X B I0 M0 (d + 1) dd := by
  intro pl u pld r cnt ca q I M E post xp k n a c hu hpl hpu hcnt h h8 hc0 hz0 hr2 hk hn hf hp
  have hN : X.2.1.length ≤ 120 := hR.2.2.1.1
  obtain ⟨g0, hg0⟩ := hE1
  have hE0 : I0 (D.2.2.2 1) ≠ none := by rw [hg0]; simp
  have hzon : zon (ztp X) X.2.1.length (d + 1) pl r = zrC (ztp X) X.2.1.length (zrd (ztp X) X.2.1.length d) pl r a c := by unfold zon; simp only [hz0]
  rw [hzon] at hk hn hf hp
  obtain ⟨ha, hca, hA1, hc2⟩ := zr0_h hz0
  have h5 := h.2.2.2.2.1
  have h6 := h.2.2.2.2.2.1
  have hb5 := h.2.2.2.1.1
  refine ⟨r_is h, ?_⟩
  have no : ¬ ((c = 112 ∨ c = 103) ∧ r.2.1 < 8) → wp_X10_choice_L40 D (wp_X10_parts D dd) post xp q.1 k n (nI a) c (nI (r.1 + 1)) (some q.1) M := by
    intro hno
    unfold zrC at hk hn hf
    rw [if_neg hno] at hk hn hf
    have hk' : 8 * (X.2.1.length + 1 - r.1) ≤ k + 3 := hk
    have hn' : 1000 * (X.2.1.length + 1 - r.1) ≤ n + 407 := hn
    unfold wp_X10_choice_L40 wp_X10_choice_L41
    exact czd ⟨r_is h, 1, 7, by omega, by omega, (r_must (c := false) h (Nat.le_refl _) (Nat.le_refl _) (fun y => (nomatch y)) (fun _ => hf _ rfl)).2⟩
  have yes : ∀ kd : Bool, c = zkc kd → r.2.1 < 8 → wp_X10_choice_L41 D (wp_X10_parts D dd) post xp q.1 k n (nI a) c (nI (r.1 + 1)) (some q.1) (b1 true) M := by
    intro kd hckd h88
    subst hckd
    have hcn : zkc kd ≠ -1 := by cases kd <;> decide
    have hr3 := pos_n hc2.symm hcn
    obtain ⟨zE1, zE2⟩ := zrC_e (tp := ztp X) (n := X.2.1.length) (sub := zrd (ztp X) X.2.1.length d) (pl := pl) (kd := kd) (a := a) (r := r) h88
    -- what is left for the branches
    have hroom : 8 * zrm X.2.1.length (r.1 + 3) (zrB (ztp X) X.2.1.length (zrd (ztp X) X.2.1.length d (pl || kd)) kd (X.2.1.length + 1) [] (zq1 r a kd)) + 17 ≤ k - 4 ∧ 1000 * zrm X.2.1.length (r.1 + 3) (zrB (ztp X) X.2.1.length (zrd (ztp X) X.2.1.length d (pl || kd)) kd (X.2.1.length + 1) [] (zq1 r a kd)) + 2000 ≤ n - 313 := by
      cases eB : zrB (ztp X) X.2.1.length (zrd (ztp X) X.2.1.length d (pl || kd)) kd (X.2.1.length + 1) [] (zq1 r a kd) with
      | inl e =>
        rw [zE1 e eB] at hk hn
        have hk' : 8 * (X.2.1.length + 1 - r.1) ≤ k + 3 := hk
        have hn' : 1000 * (X.2.1.length + 1 - r.1) ≤ n + 407 := hn
        show 8 * (X.2.1.length + 1 - (r.1 + 3)) + 17 ≤ k - 4 ∧ 1000 * (X.2.1.length + 1 - (r.1 + 3)) + 2000 ≤ n - 313
        omega
      | inr y =>
        obtain ⟨bs, r2⟩ := y
        rw [zE2 bs r2 eB] at hk hn
        have hk' : 8 * (r2.1 + 1 - r.1) ≤ k + 3 := hk
        have hn' : 1000 * (r2.1 + 1 - r.1) ≤ n + 407 := hn
        obtain ⟨new, -, -, -, -, z5⟩ := zrB_x (pl := pl || kd) (fun r t r1 hr hh => zrd_x d (pl || kd) r t r1 hr hh) _ _ _ _ _ (Nat.zero_le _) eB
        have z6 : r2.1 = r.1 + 3 + (new.flatMap (zbL d)).length := z5.2.1
        show 8 * (r2.1 - (r.1 + 3)) + 17 ≤ k - 4 ∧ 1000 * (r2.1 - (r.1 + 3)) + 2000 ≤ n - 313
        omega
    unfold wp_X10_choice_L41
    refine czd ⟨r_is h, 1, 7, by omega, by omega, (r_must (c := true) h (Nat.le_refl _) (Nat.le_refl _) (fun _ => cgI h5 rfl (cp h5 hb5 (by simp) ?_)) (fun y => (nomatch y))).2⟩
    obtain ⟨s3, x3⟩ := zrs_R (r1 := (r.1 + 3, r.2)) (nest1 := u) (pld1 := pld) h rfl rfl h.2.2.2.2.2.2.2.2.2
    rw [nI_1]
    simp only [List.set_cons_succ, List.set_cons_zero]
    generalize zu M q.1 (some (.inr (9, [.ref q.2.1, .int (nI (r.1 + 3)), .int (nI u), .int (nI pld), .int (zwi r.2.2.1), .ref (B 0)]))) = M3 at s3 x3 ⊢
    -- behind the making of the choice
    have mid : ∀ (C L : Nat) (M4 : zM), zrs D (B 0) I0 M0 q I M4 E (zuse (r.1 + 3, r.2) a (if kd then 1 else 2) (r.1 + 1)) cnt u pld ca → zsx q E I M E I M4 → M4 C = none → zB D ≤ C → M4 L = none → zB D ≤ L → L ≠ C → wp_X10_choice_L104 D (wp_X10_parts D dd) post xp q.1 ((k - 1 - 1) - 1) ((n - 7 - 3) - 3) (zkc kd) (some C) (zu (zu M4 L (some (.inr (26, [.int 0, .ref (D.2.2.2 1), .int 0])))) C (some (.inr (zci kd, [.ref L, .int (nI u), .int (nI a)])))) := by
      intro C L M4 s4 x4 hC hC0 hL hL0 nLC
      have hC' : zu M4 L (some (.inr (26, [.int 0, .ref (D.2.2.2 1), .int 0]))) C = none := by rw [zu_n nLC.symm]; exact hC
      have s5 := zrs_n (e := .inr (zci kd, [.ref L, .int (nI u), .int (nI a)])) (zrs_o (e := .inr (26, [.int 0, .ref (D.2.2.2 1), .int 0])) s4 hL) hC'
      have x5 := zsx_n (e := .inr (zci kd, [.ref L, .int (nI u), .int (nI a)])) (zsx_o (e := .inr (26, [.int 0, .ref (D.2.2.2 1), .int 0])) x4 hL) hC'
      have hov : zov D M0 q E (zu I C (some (.inr (zci kd, [.ref L, .int (nI u), .int (nI a)])))) (zu (zu M4 L (some (.inr (26, [.int 0, .ref (D.2.2.2 1), .int 0])))) C (some (.inr (zci kd, [.ref L, .int (nI u), .int (nI a)])))) L (D.2.2.2 1) [] := by
        have hid : zu I C (some (.inr (zci kd, [.ref L, .int (nI u), .int (nI a)]))) (D.2.2.2 1) = some (.inl (5, 0, .inr (.inr (.inr (.inr g0))))) := s5.1.1 _ _ hg0
        refine ⟨⟨none_0 (zrs_0 s4) hL, by rw [zu_n nLC]; exact none_I (zrs_z s4) hL, hL0, fun i a ha => (by cases ha), 0, 0, g0, by rw [zu_n nLC, zu_s]; rfl, zrs_z s5 _ _ hid, Nat.le_refl _, by simp, fun i a ha => (by cases ha), Or.inl ⟨rfl, rfl⟩⟩, fun z => ?_, fun z => ?_⟩
        · exact zrs_some s4 q.2.2.2 (Or.inr (Or.inr (Or.inr (Or.inl rfl)))) (by rw [← z]; exact hL)
        · rw [hid] at z; cases z
      have hML : M L = none := by
        cases e9 : M L with
        | none => rfl
        | some v => exact absurd hL (x4.1.2.2.2 L (by rw [e9]; simp)).1
      have hEp0 : zu I C (some (.inr (zci kd, [.ref L, .int (nI u), .int (nI a)]))) (D.2.2.2 1) = none → M (D.2.2.2 1) = none := fun z => absurd z (fun y => hE0 (none_I s5.1.1 y))
      have hIC : zu I C (some (.inr (zci kd, [.ref L, .int (nI u), .int (nI a)]))) C = some (.inr (zci kd, [.ref L, .int (nI u), .int (nI a)])) := zu_s
      generalize zu I C (some (.inr (zci kd, [.ref L, .int (nI u), .int (nI a)]))) = I5 at s5 x5 hov hEp0 hIC
      generalize zu (zu M4 L (some (.inr (26, [.int 0, .ref (D.2.2.2 1), .int 0])))) C (some (.inr (zci kd, [.ref L, .int (nI u), .int (nI a)]))) = M5 at s5 x5 hov ⊢
      unfold wp_X10_choice_L104
      have hCz : zis I5 C (zok 5) := cis hIC (by cases kd <;> decide)
      refine cgR (x := some q.2.1) s5.2.2.2.2.1 rfl (czd (cgR (x := some q.2.2.2) s5.2.2.2.2.2.1 rfl (czd ?_)))
      have add := zrs_c (post := fun _ M => (zgI M q.1 9 2 fun g74 => (zp D M q.1 9 2 (.int (g74 + (1 : Int32))) fun M => (zgI M q.1 9 3 fun g75 => ((¬ zkc kd = (112 : Int32) → wp_X10_choice_L145 D (wp_X10_parts D dd) post xp q.1 (((k - 1 - 1) - 1) - 1) (((n - 7 - 3) - 3) - 300) (zkc kd) (some C) (some q.1) g75 (0 : Int32) M) ∧ (zkc kd = (112 : Int32) → wp_X10_choice_L145 D (wp_X10_parts D dd) post xp q.1 (((k - 1 - 1) - 1) - 1) (((n - 7 - 3) - 3) - 300) (zkc kd) (some C) (some q.1) g75 (1 : Int32) M)))))) (k := 1) (n := 300) hE0 s5 hCz h8 (Nat.le_refl _) (Nat.le_refl _) fun M6 E6 s6 x6 => ?_
      · exact ⟨add.1, 1, 300, by omega, by omega, add.2⟩
      have x6' := zsx_t x5 x6
      have v6 := zov_k s5 hov x6
      obtain ⟨s7, x7⟩ := zrs_R (r1 := (zq1 r a kd)) (nest1 := u + 1) (pld1 := pld) s6 rfl rfl s6.2.2.2.2.2.2.2.2.2
      refine cgI s6.2.2.2.2.1 rfl (cp s6.2.2.2.2.1 s6.2.2.2.1.1 (by simp) (cgI (k := 3) (x := nI pld) zu_s rfl ?_))
      rw [nI_1]
      simp only [List.set_cons_succ, List.set_cons_zero]
      have v7 := zov_k s6 v6 x7
      have x7' := zsx_t x6' x7
      have go : ∀ w : Nat, w = (if kd then 1 else 0) → wp_X10_choice_L145 D (wp_X10_parts D dd) post xp q.1 (((k - 1 - 1) - 1) - 1) (((n - 7 - 3) - 3) - 300) (zkc kd) (some C) (some q.1) (nI pld) (nI w) (zu M6 q.1 (some (.inr (9, [.ref q.2.1, .int (nI (zuse (r.1 + 3, r.2) a (if kd then 1 else 2) (r.1 + 1)).1), .int (nI (u + 1)), .int (nI pld), .int (zwi (zuse (r.1 + 3, r.2) a (if kd then 1 else 2) (r.1 + 1)).2.2.1), .ref (B 0)])))) := by
        intro w hw
        unfold wp_X10_choice_L145
        obtain ⟨s8, x8⟩ := zrs_R (r1 := (zq1 r a kd)) (nest1 := u + 1) (pld1 := pld + w) s7 rfl rfl s6.2.2.2.2.2.2.2.2.2
        refine czd (cp zu_s s6.2.2.2.1.1 (by simp) ⟨X.2.1.length + 1, ?_⟩)
        rw [nI_add]
        simp only [List.set_cons_succ, List.set_cons_zero]
        have v8 := zov_k s7 v7 x8
        have x8' := zsx_t x7' x8
        have hI5 : zle I I5 := zsx_i x5
        have e0 : ∀ {α : Type} (f : α → Nat), (([] : List α).map f).sum = 0 := fun f => rfl
        refine r_bloop (r0 := r) (d := d) (kd := kd) (C := C) (Lb := L) (a := a) (u := u) (pl := pl || kd) (pld := pld + w) (p0 := r.1 + 3) (cnt0 := cnt) (cb := ca ++ [C]) (Is := I) (Ms := M) (Es := E) hR hJ hE0 hP (by omega) ?_ ?_ hML (X.2.1.length + 1) [] (zq1 r a kd) I5 _ E6 (D.2.2.2 1) [] [] _ _ (by omega) hr3 (by show r.2.1 + 1 ≤ 8; omega) (Nat.zero_le _) (fun b hb => by cases hb) rfl ?_ x8' v8 hEp0 hIC ⟨rfl, fun i b hb => by cases hb⟩ zLk_0 (by show 8 * zrm X.2.1.length (r.1 + 3) _ ≤ _; omega) (by show 1000 * zrm X.2.1.length (r.1 + 3) _ ≤ _; omega) (fun e he => hf e (zE1 e he)) ?_
        · rw [hw]
          cases kd
          · rw [Bool.or_false]; exact hpl
          · simp
        · rw [hw]; split <;> omega
        · rw [List.append_nil]; exact s8
        · intro bs r2 hB h125 hbl hkeys I9 M9 E9 Eb9 ba9 ca9 kk nn s9 x9 v9 hEb9 hC9 hb9 hl9 h89
          have hr2N := zhr_t h125 (by decide)
          have hzE := zE2 bs r2 hB
          have hany := zix_any (f := zkf kd) (q := if kd then 5 else 3) bs
          -- behind the last branch
          have l187 : ∀ M10, zrs D (B 0) I0 M0 q I9 M10 E9 (r2.1, r2.2.1, (if bs.any (fun b => zkv kd b.1 == (if kd then 5 else 3)) then r2.2.2.1 else zlie r2.2.2.1 r2.1), r2.2.2.2) (cnt + (bs.map fun b => ztM d b.2).sum) (u + 1) (pld + w) ((ca ++ [C]) ++ ca9) → zsx q E9 I9 M9 E9 I9 M10 → wp_X10_choice_L187 D (wp_X10_parts D dd) post xp q.1 kk nn (zkc kd) (some C) M10 := by
            intro M10 s10 y10
            generalize hww : (if bs.any (fun b => zkv kd b.1 == (if kd then 5 else 3)) then r2.2.2.1 else zlie r2.2.2.1 r2.1) = ww at hzE s10
            have hlie := s10.2.2.2.2.2.2.2.2.2
            obtain ⟨s11, y11⟩ := zrs_R (r1 := (r2.1 + 1, r2.2.1, ww, r2.2.2.2)) (nest1 := u + 1) (pld1 := pld + w) s10 rfl rfl hlie
            obtain ⟨s12, y12⟩ := zrs_R (r1 := (r2.1 + 1, r2.2.1, ww, r2.2.2.2)) (nest1 := u) (pld1 := pld + w) s11 rfl rfl hlie
            obtain ⟨s13, y13⟩ := zrs_R (r1 := (r2.1 + 1, r2.2.1, ww, r2.2.2.2)) (nest1 := u) (pld1 := pld) s12 rfl rfl hlie
            have b10 := s10.2.2.2.1.1
            have fin : ∀ w2 : Nat, w2 = w → wp_X10_choice_L223 D (wp_X10_parts D dd) post xp q.1 kk nn (some C) (some q.1) (nI (pld + w)) (nI w2) (zu (zu M10 q.1 (some (.inr (9, [.ref q.2.1, .int (nI (r2.1 + 1)), .int (nI (u + 1)), .int (nI (pld + w)), .int (zwi ww), .ref (B 0)])))) q.1 (some (.inr (9, [.ref q.2.1, .int (nI (r2.1 + 1)), .int (nI u), .int (nI (pld + w)), .int (zwi ww), .ref (B 0)])))) := by
              rintro w2 rfl
              unfold wp_X10_choice_L223
              refine czd (cp zu_s b10 (by simp) ?_)
              rw [nI_sub (by omega), Nat.add_sub_cancel]
              simp only [List.set_cons_succ, List.set_cons_zero]
              have yy := zsx_t y10 (zsx_t y11 (zsx_t y12 y13))
              have v13 := zov_k s9 v9 yy
              obtain ⟨I', z1, z2, z3, f, z4, z5⟩ := zov_fr s13 v13 (zsx_t x9 yy) hML hEb9 hE0 (by have := hb9.1; omega)
              have hC' := z1 _ _ hC9
              have hbr := zBr_m hb9 z1
              have hxs : zCh0 I' C (a, (if kd then 1 else 2), u, r.1, zbr kd d (r.1 + 3) bs) := by
                refine ⟨L, ?_, f, by rw [zbr_len, hb9.1]; exact z4, fun i y hy => ?_⟩
                · rw [hC']
                  cases kd <;> rfl
                · obtain ⟨b, h1, h2⟩ := zbr_at2 hy
                  obtain ⟨x, P, h3, h4, -⟩ := hbr.2 i b h1
                  exact ⟨x, z5 i x h3, P, by rw [h2]; exact h4⟩
              have hlk : zLk I' ([C] ++ ca9) (zcN (d + 1) u r.1 (.inr (kd, a, bs))) := by
                show zLk I' ([C] ++ ca9) ([(a, (if kd then 1 else 2), u, r.1, zbr kd d (r.1 + 3) bs)] ++ zalg (zGb d u) (fun b => (zbL d b).length) (r.1 + 3) bs)
                refine zLk_a ⟨rfl, fun i y hy => ?_⟩ (zLk_m hl9 z1)
                cases i with
                | zero => cases hy; exact ⟨C, rfl, hxs⟩
                | succ i => cases hy
              refine hp (.inr (kd, a, bs)) (r2.1 + 1, r2.2.1, ww, r2.2.2.2) hzE C I' _ E9 ([C] ++ ca9) ?_ z3 ⟨L, nI u, ?_, f, by rw [show (kd, a, bs).2.2.length = bs.length from rfl, hb9.1]; exact z4, fun i b hb => ?_⟩ hlk h89
              · have ec : cnt + znM (d + 1) (.inr (kd, a, bs)) - 1 = cnt + (bs.map fun b => ztM d b.2).sum := by
                  show cnt + (1 + (bs.map fun b => (b.2.map (znM d)).sum).sum) - 1 = _
                  have : (bs.map fun b => (b.2.map (znM d)).sum) = bs.map fun b => ztM d b.2 := rfl
                  rw [this]; omega
                rw [ec, ← List.append_assoc]
                exact z2
              · exact hC'
              · obtain ⟨x, P, h3, h4, h5⟩ := hbr.2 i b hb
                exact ⟨x, z5 i x h3, P, h4, h5⟩
            unfold wp_X10_choice_L187
            refine cgI s10.2.2.2.2.1 rfl (cp s10.2.2.2.2.1 b10 (by simp) (cgI (k := 2) (x := nI (u + 1)) zu_s rfl ?_))
            rw [nI_1]
            simp only [List.set_cons_succ, List.set_cons_zero]
            refine cp zu_s b10 (by simp) (cgI (k := 3) (x := nI (pld + w)) zu_s rfl ?_)
            rw [nI_pred]
            simp only [List.set_cons_succ, List.set_cons_zero]
            refine ⟨fun z => ?_, fun z => ?_⟩
            · have : kd = false := by cases kd; rfl; exact absurd rfl z
              exact fin 0 (by rw [hw, this]; rfl)
            · have : kd = true := by cases kd; exact absurd z (by decide); rfl
              exact fin 1 (by rw [hw, this]; rfl)
          have l171 : wp_X10_choice_L171 D (wp_X10_parts D dd) post xp q.1 kk nn (zkc kd) (some C) (some C) (nI (if kd then 5 else 3)) M9 := by
            unfold wp_X10_choice_L171
            refine czd (c_of0 (zov_ch v9 (zrs_z s9) hC9 hb9 hbl) (by rw [zcx8_2, List.length_map, List.length_map]; exact hbl) (fun y hy => ?_) (by split <;> decide) ?_)
            · have hy' : y ∈ zkx (zcx8 kd a u (bs.map (zkf kd))) := hy
              rw [zcx8_k] at hy'
              obtain ⟨b, hb1, rfl⟩ := List.mem_map.mp hy'
              exact hkeys b hb1
            · rw [zcx8_k, zoi_2 (by rw [List.length_map]; exact hbl)]
              refine ⟨fun z => ?_, fun z => cgI s9.2.2.2.2.1 rfl (r_lies s9 (by omega) fun M10 s10 y10 => l187 M10 ?_ y10)⟩
              · have e : bs.any (fun b => zkv kd b.1 == (if kd then 5 else 3)) = true := by
                  cases e9 : zix (if kd then 5 else 3) 0 (bs.map (zkf kd)) with
                  | none => exact absurd e9 z
                  | some w => rw [e9] at hany; exact hany.symm
                refine l187 M9 ?_ (zsx_r (zrs_z s9))
                rw [e, if_pos rfl]
                exact s9
              · have e : bs.any (fun b => zkv kd b.1 == (if kd then 5 else 3)) = false := by
                  rw [z] at hany
                  exact hany.symm
                rw [e, if_neg (by decide)]
                exact s10
          have hCi : zis M9 C [zci kd] := cis (zrs_z s9 _ _ hC9) (List.mem_singleton.mpr rfl)
          cases kd
          · exact Or.inr ⟨hCi, l171⟩
          · exact Or.inl ⟨hCi, l171⟩
      refine ⟨fun z => ?_, fun z => ?_⟩
      · have : kd = false := by cases kd; rfl; exact absurd rfl z
        exact go 0 (by rw [this]; rfl)
      · have : kd = true := by cases kd; exact absurd z (by decide); rfl
        exact go 1 (by rw [this]; rfl)
    have l67 : ∀ y : Int32, y = (if kd then 1 else 2) → wp_X10_choice_L67 D (wp_X10_parts D dd) post xp q.1 (k - 1) (n - 7) (nI a) (zkc kd) (nI (r.1 + 1)) (some q.1) (nI a) y M3 := by
      rintro y rfl
      unfold wp_X10_choice_L67
      cases kd
      · refine czd (r_uses (ty := 2) s3 ha (by decide) (by omega) fun M4 s4 x4 => ⟨fun _ => ⟨by omega, by omega, fun C hC hC0 => cgI (kw s4.2.2.2.2.1 hC) rfl ⟨1, 3, by omega, by omega, ?_⟩⟩, fun z => absurd z (by decide)⟩)
        unfold wp_X22_init
        exact ⟨1, 3, Nat.le_refl _, Nat.le_refl _, r_init20 (kd := false) hC hC0 fun L hL hL0 nLC => mid C L M4 s4 (zsx_t x3 x4) hC hC0 hL hL0 nLC⟩
      · refine czd (r_uses (ty := 1) s3 ha (by decide) (by omega) fun M4 s4 x4 => ⟨fun z => absurd rfl z, fun _ => ⟨by omega, by omega, fun C hC hC0 => cgI (kw s4.2.2.2.2.1 hC) rfl ⟨1, 3, by omega, by omega, ?_⟩⟩⟩)
        unfold wp_X21_init
        exact ⟨1, 3, Nat.le_refl _, Nat.le_refl _, r_init20 (kd := true) hC hC0 fun L hL hL0 nLC => mid C L M4 s4 (zsx_t x3 x4) hC hC0 hL hL0 nLC⟩
    refine ⟨fun z => ?_, fun z => ?_⟩
    · have : kd = false := by cases kd; rfl; exact absurd rfl z
      exact l67 2 (by rw [this]; rfl)
    · have : kd = true := by cases kd; exact absurd z (by decide); rfl
      exact l67 1 (by rw [this]; rfl)
  have l13 : ∀ kd : Bool, c = zkc kd → wp_X10_choice_L13 D (wp_X10_parts D dd) post xp q.1 k n (nI a) c (nI (r.1 + 1)) (some q.1) M := by
    intro kd hckd
    obtain ⟨y0, y1, y2, y3, mc, cap, g, k5, -⟩ := h.2.2.2.2.2.2.2.1
    have hcl := h.2.2.2.2.2.2.2.2.1
    unfold wp_X10_choice_L13
    refine cgI h5 rfl ?_
    rw [show (3 : Int32) = nI 3 from rfl, nI_leI (by decide) (by omega)]
    refine ⟨fun z => by omega, fun _ => cgR (x := some q.2.1) h5 rfl (czd (cgR (x := some q.2.2.2) h6 rfl (czd ⟨cis k5 (by decide), cgI k5 rfl ?_⟩)))⟩
    have hcl' : ca.length = r.2.1 := hcl
    dsimp only
    rw [show (8 : Int32) = nI 8 from rfl, nI_leI (by decide) (by omega)]
    exact ⟨fun z => no (fun y => by omega), fun z => yes kd hckd (by omega)⟩
  unfold wp_X10_choice
  exact ⟨fun z => l13 true z, fun z => ⟨fun z2 => no (fun y => y.1.elim z z2), fun z2 => l13 false z2⟩⟩
end RG1
