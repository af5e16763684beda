/-! the component's reader: braces -/
section RD9
variable {D : zD} {X : zSg} {B : Nat → Nat} {I0 M0 I M : zM} {q : Nat × Nat × Nat × Nat} {E : Nat} {r : zRh} {cnt nest pld : Nat} {ca : List Nat}
theorem cpm {b ci i : Nat} {fs : List Value} {L : List (Nat × Nat)} {v : Value} {Φ : zM → Prop} (hM : M b = some (.inr (ci, fs))) (hL : (ci, i) ∈ L) (hb : zB D ≤ b) (hi : i < fs.length) (h : Φ (zu M b (some (.inr (ci, fs.set i v))))) : zpm D M b L v Φ := ⟨(ci, i), fs, hL, hM, hb, hi, h⟩
/-- a new cell is apart from the reader's -/
theorem zapt_new (h : zrs D (B 0) I0 M0 q I M E r cnt nest pld ca) {b : Nat} (hb : M b = none) : zapt q E b :=
  ⟨fun z => zrs_some h _ (Or.inl rfl) (by rw [← z]; exact hb), fun z => zrs_some h _ (Or.inr (Or.inl rfl)) (by rw [← z]; exact hb), fun z => zrs_some h _ (Or.inr (Or.inr (Or.inl rfl))) (by rw [← z]; exact hb), fun z => zrs_some h _ (Or.inr (Or.inr (Or.inr (Or.inl rfl)))) (by rw [← z]; exact hb), fun z => zrs_some h _ (Or.inr (Or.inr (Or.inr (Or.inr rfl)))) (by rw [← z]; exact hb)⟩
theorem zapt_u {b : Nat} (h : zapt q E b) : ¬ zrU q E I b := fun z => by
  obtain ⟨h1, h2, h3, h4, h5⟩ := h
  rcases z with z | z | z | z | ⟨z, -⟩
  · exact h1 z
  · exact h2 z
  · exact h3 z
  · exact h4 z
  · exact h5 z
/-- what is to be shown of a choice -/
def zRC (D : zD) (X : zSg) (B : Nat → Nat) (I0 M0 : zM) (d dd : Nat) : Prop := ∀ (pl : Bool) (u pld : Nat) (r : zRh) (cnt : Nat) (ca : List Nat) (q : Nat × Nat × Nat × Nat) (I M : zM) (E : Nat) (post : Option Nat → zM → Prop) (xp : Nat → zM → Prop) (k n a : Nat) (c : Int32), u + d = 3 → (pl = true ↔ 0 < pld) → pld ≤ u → 1 ≤ cnt →
  zrs D (B 0) I0 M0 q I M E (r.1 + 2, r.2) cnt u pld ca → r.2.1 ≤ 8 → zhr (ztp X) X.2.1.length r.1 = 123 → zr0 (ztp X) X.2.1.length r = .inr (.inr (a, c)) → r.1 + 2 ≤ X.2.1.length → 8 * zrm X.2.1.length r.1 (zon (ztp X) X.2.1.length d pl r) ≤ k + 3 → 1000 * zrm X.2.1.length r.1 (zon (ztp X) X.2.1.length d pl r) ≤ n + 407 →
  (∀ e, zon (ztp X) X.2.1.length d pl r = .inl e → zxr D M0 (-1000 - nI e) xp) →
  (∀ x r', zon (ztp X) X.2.1.length d pl r = .inr (x, r') → ∀ a I' M' E' ca', zrs D (B 0) I0 M0 q I' M' E' r' (cnt + znM d x - 1) u pld (ca ++ ca') → zsx q E I M E' I' M' → zNd I' d a x → zLk I' ca' (zcN d u r.1 x) → r'.2.1 ≤ 8 → post (some a) M') →
  zis M q.1 [9] ∧ wp_X10_choice D (wp_X10_parts D dd) post xp k n q.1 (nI a) c (nI (r.1 + 1)) M
theorem zon_1 {tp : Nat → Int32} {n d : Nat} {pl : Bool} {r : zRh} {e : Nat} (h : zr0 tp n r = .inl e) : zon tp n d pl r = .inl e := by
  cases d <;> (unfold zon; simp only [h])
theorem zon_2 {tp : Nat → Int32} {n d : Nat} {pl : Bool} {r r1 : zRh} {x : zLf} (h : zr0 tp n r = .inr (.inl (x, r1))) : zon tp n d pl r = .inr (zmk d x, r1) := by
  cases d <;> (unfold zon; simp only [h]) <;> rfl
theorem zRO_of {d dd : Nat} (hR : RC D X B I0 M0) (hC : zRC D X B I0 M0 d dd) : zRO D X B I0 M0 d dd := by
  intro pl u pld r cnt ca q I M E post xp k n hu hpl hpu hcnt h h8 hc0 hk hn hf hp
  have hr1 := pos_n hc0 (by decide)
  have hN : X.2.1.length ≤ 120 := hR.2.2.1.1
  refine ⟨r_is h, ?_⟩
  unfold wp_X10_braced
  have h5 := h.2.2.2.2.1
  have hb5 := h.2.2.2.1.1
  have mkN : ∀ (q : zLf) (I : zM) (a : Nat), zLe I a q → zNd I d a (zmk d q) := by intro q I a hq; cases d <;> exact hq
  -- a brace without branches has been read
  have okL : ∀ (x : zLf) (r2 : zRh), zr0 (ztp X) X.2.1.length r = .inr (.inl (x, r2)) → r2.2.1 = r.2.1 → ∀ a I' M', zrs D (B 0) I0 M0 q I' M' E r2 cnt u pld ca → zsx q E I M E I' M' → zLe I' a x → post (some a) M' := by
    intro x r2 hx hr2 a I' M' s x1 hle
    refine hp (zmk d x) r2 (zon_2 hx) a I' M' E [] (by rw [List.append_nil, zmk_M, Nat.add_sub_cancel]; exact s) x1 (mkN x I' a hle) (by rw [zmk_c]; exact zLk_0) (by rw [hr2]; exact h8)
  have kn3 : 21 ≤ k → True := fun _ => trivial
  refine cgI h5 rfl (r_here hR h hr1 (c_in ?_))
  cases eA : zin (zhr (ztp X) X.2.1.length (r.1 + 1)).toInt64 65 69 with
  | false =>
    have hz : zr0 (ztp X) X.2.1.length r = .inl (r.1 + 1) := by unfold zr0; simp only [eA]; rfl
    have hzk : zrm X.2.1.length r.1 (zon (ztp X) X.2.1.length d pl r) = X.2.1.length + 1 - r.1 := by rw [zon_1 hz]; rfl
    rw [hzk] at hk hn
    exact ⟨r_is h, 1, 7, by omega, by omega, (r_must (c := false) h (Nat.le_refl _) (Nat.le_refl _) (fun y => (nomatch y)) (fun _ => hf _ (zon_1 hz))).2⟩
  | true =>
    obtain ⟨a, ha, hca, hcs, hcl⟩ := zAE eA
    have hA1 : nI (65 + a) ≠ -1 := fun z => by
      have := congrArg Int32.toInt z
      rw [nI_toInt (by omega)] at this
      have e2 : (-1 : Int32).toInt = -1 := by decide
      omega
    have hr2 := pos_n hca hA1
    have hk16 : 6 ≤ k ∧ 600 ≤ n := by
      cases ez : zon (ztp X) X.2.1.length d pl r with
      | inl e =>
        rw [ez] at hk hn
        have h1 : 8 * (X.2.1.length + 1 - r.1) ≤ k + 2 := hk
        have h2 : 1000 * (X.2.1.length + 1 - r.1) ≤ n + 400 := hn
        omega
      | inr y =>
        obtain ⟨x, r'⟩ := y
        have hfx := zon_x d pl r x r' (fun e he pl r t r1 hr hh => zrd_x e pl r t r1 hr hh) hc0 ez
        rw [ez] at hk hn
        have h1 : 8 * (r'.1 - r.1) ≤ k + 2 := hk
        have h2 : 1000 * (r'.1 - r.1) ≤ n + 400 := hn
        have h3 : r'.1 = r.1 + (znL d x).length := hfx.2.1
        have h4 := znL_ps d x
        omega
    refine ⟨r_is h, 1, 7, by omega, by omega, (r_must (c := true) h (Nat.le_refl _) (Nat.le_refl _) (fun _ => ?_) (fun y => (nomatch y))).2⟩
    refine r_here hR h hr1 (cgI h5 rfl (cp h5 hb5 (by simp) ?_))
    obtain ⟨s2, x2⟩ := zrs_R (r1 := (r.1 + 2, r.2)) (nest1 := u) (pld1 := pld) h rfl rfl h.2.2.2.2.2.2.2.2.2
    rw [nI_1]
    simp only [List.set_cons_succ, List.set_cons_zero]
    refine r_here hR s2 hr2 (cgI s2.2.2.2.2.1 rfl (cp s2.2.2.2.2.1 hb5 (by simp) ?_))
    obtain ⟨s3, x3⟩ := zrs_R (r1 := (r.1 + 3, r.2)) (nest1 := u) (pld1 := pld) s2 rfl rfl h.2.2.2.2.2.2.2.2.2
    rw [nI_1]
    simp only [List.set_cons_succ, List.set_cons_zero]
    have hx3 := zsx_t x2 x3
    have hcs' : zhr (ztp X) X.2.1.length (r.1 + 1, r.2).1 - 65 = nI a := hcs
    rw [hcs']
    have hc2 : zhr (ztp X) X.2.1.length (r.1 + 2, r.2).1 = zhr (ztp X) X.2.1.length (r.1 + 2) := rfl
    rw [hc2]
    have hz0 : zr0 (ztp X) X.2.1.length r = (if zhr (ztp X) X.2.1.length (r.1 + 2) = 125 then .inr (.inl ((2, 0, a, false, 0, 0, 0), zuse (r.1 + 3, r.2) a 0 (r.1 + 1)))
      else if zhr (ztp X) X.2.1.length (r.1 + 2) = 108 then (if zhr (ztp X) X.2.1.length (r.1 + 3) = 125 then .inr (.inl ((3, 0, a, false, 0, 0, 0), zuse (r.1 + 4, r.2) a 3 (r.1 + 1))) else .inl (r.1 + 3))
      else if zhr (ztp X) X.2.1.length (r.1 + 2) = 110 then (match zpat (ztp X) X.2.1.length (r.1 + 3) with | .inl e => .inl e | .inr (p, g, w, l, m) => .inr (.inl ((4, 0, a, g, w, l, m), zuse (p, r.2) a 1 (r.1 + 1))))
      else .inr (.inr (a, zhr (ztp X) X.2.1.length (r.1 + 2)))) := by
      unfold zr0
      simp only [eA, if_true, hcl]
      cases zpat (ztp X) X.2.1.length (r.1 + 3) with
      | inl e => rfl
      | inr y => obtain ⟨p, g, w, l, m⟩ := y; rfl
    generalize hM3 : zu (zu M q.1 (some (.inr (9, [.ref q.2.1, .int (nI (r.1 + 2)), .int (nI u), .int (nI pld), .int (zwi r.2.2.1), .ref (B 0)])))) q.1 (some (.inr (9, [.ref q.2.1, .int (nI (r.1 + 3)), .int (nI u), .int (nI pld), .int (zwi r.2.2.1), .ref (B 0)]))) = M3 at s3 x3 hx3 ⊢
    clear hM3 s2 x2
    have hc2' : ∀ y : Int32, y ≠ -1 → zhr (ztp X) X.2.1.length (r.1 + 2) = y → r.1 + 3 ≤ X.2.1.length := fun y hy hh => pos_n hh hy
    generalize hcc : zhr (ztp X) X.2.1.length (r.1 + 2) = c at hz0 hc2' ⊢
    refine ⟨fun z => ?_, fun z => ?_, fun z => ?_, fun z => ?_⟩
    · have hr3 := hc2' 108 (by decide) z
      rw [if_neg (by rw [z]; decide), if_pos z] at hz0
      refine r_uses (ty := 3) s3 ha (by decide) (by omega) fun M4 s4 x4 => ?_
      have hx4 := zsx_t hx3 x4
      refine ⟨r_is s4, 1, 7, by omega, by omega, (r_wants hR s4 hr3 (Nat.le_refl _) (Nat.le_refl _) (fun z5 M5 s5 x5 => ?_) (fun z5 => ?_)).2⟩
      · have z5' : zhr (ztp X) X.2.1.length (r.1 + 3) = 125 := z5
        rw [if_pos z5'] at hz0
        refine ⟨by omega, by omega, fun b hb hb0 => ?_⟩
        unfold wp_X17_init wp_X16_init wp_X13_init
        refine cpm (i := 0) zu_s (by decide) hb0 (by simp) ?_
        rw [zu_zu]
        exact okL _ _ hz0 rfl b _ _ (zrs_n (e := .inr (15, [.int (nI a)])) s5 hb) (zsx_n (e := .inr (15, [.int (nI a)])) (zsx_t hx4 x5) hb) zu_s
      · have z5' : zhr (ztp X) X.2.1.length (r.1 + 3) ≠ 125 := z5
        rw [if_neg z5'] at hz0
        exact hf _ (zon_1 hz0)
    · have hr3 := hc2' 110 (by decide) z
      rw [if_neg (by rw [z]; decide), if_neg (by rw [z]; decide), if_pos z] at hz0
      refine r_uses (ty := 1) s3 ha (by decide) (by omega) fun M4 s4 x4 => ?_
      have hx4 := zsx_t hx3 x4
      refine ⟨by omega, by omega, fun b hb hb0 => ?_⟩
      have hap := zapt_new s4 hb
      have s5 := zrs_o (e := .inr (16, [.int 0, .null])) s4 hb
      have x5 := zsx_o (e := .inr (16, [.int 0, .null])) hx4 hb
      have hMb : M b = none := by
        cases e9 : M b with
        | none => rfl
        | some v => exact absurd hb (hx4.1.2.2.2 b (by rw [e9]; simp)).1
      have hIb : I b = none := none_I (zrs_z h) hMb
      have hz9 : zu M4 b (some (.inr (16, [.int 0, .null]))) b = some (.inr (16, [.int 0, .null])) := zu_s
      generalize zu M4 b (some (.inr (16, [.int 0, .null]))) = M5 at s5 x5 hz9 ⊢
      have main := r_pattern (k := 4) (n := 30) (xp := xp) (post := fun r33 M => wp_X18_init D (fun _ M => post (some b) M) b (nI a) r33 M) hR s5 hr3 (by decide) (by decide) (fun e he => ?_) (fun p g w l m hpp pa I6 M6 s6 x6 hpa => ?_)
      · exact ⟨main.1, 4, 30, by omega, by omega, main.2⟩
      · have he' : zpat (ztp X) X.2.1.length (r.1 + 3) = .inl e := he
        simp only [he'] at hz0
        exact hf _ (zon_1 hz0)
      · have hpp' : zpat (ztp X) X.2.1.length (r.1 + 3) = .inr (p, g, w, l, m) := hpp
        simp only [hpp'] at hz0
        have hb6 := zsx_k x6 hz9 (zapt_u hap)
        have hi6 : I6 b = none := ext_0 x6.1 hz9 hIb
        unfold wp_X18_init wp_X16_init wp_X13_init
        refine cpm (i := 0) hb6 (by decide) hb0 (by simp) (cp zu_s hb0 (by simp) ?_)
        rw [zu_zu]
        simp only [List.set_cons_succ, List.set_cons_zero]
        have hM0b : M0 b = none := none_0 (zrs_0 h) hMb
        have s7 := zrs_w (e := .inr (16, [.int (nI a), va_rf (some pa)])) s6 hap hM0b hi6
        have x7 := zsx_w (e := .inr (16, [.int (nI a), va_rf (some pa)])) (zsx_t x5 x6) hMb hi6
        have s8 := zrs_f s7 hap hM0b zu_s hi6
        have x8 := zsx_f x7 hMb zu_s
        refine okL _ _ hz0 rfl b _ _ s8 x8 ⟨pa, zu_s, ?_⟩
        have npb : pa ≠ b := fun y => by rw [y, hi6] at hpa; cases hpa
        rw [zu_n npb]; exact hpa
    · rw [if_pos z] at hz0
      refine r_uses (ty := 0) s3 ha (by decide) (by omega) fun M4 s4 x4 => ?_
      refine ⟨by omega, by omega, fun b hb hb0 => ?_⟩
      unfold wp_X16_init wp_X13_init
      refine cpm (i := 0) zu_s (by decide) hb0 (by simp) ?_
      rw [zu_zu]
      exact okL _ _ hz0 rfl b _ _ (zrs_n (e := .inr (14, [.int (nI a)])) s4 hb) (zsx_n (e := .inr (14, [.int (nI a)])) (zsx_t hx3 x4) hb) zu_s
    · rw [if_neg z.2.2, if_neg z.1, if_neg z.2.1] at hz0
      refine cgI s3.2.2.2.2.1 rfl (cp s3.2.2.2.2.1 hb5 (by simp) ?_)
      obtain ⟨s4, x4⟩ := zrs_R (r1 := (r.1 + 2, r.2)) (nest1 := u) (pld1 := pld) s3 rfl rfl h.2.2.2.2.2.2.2.2.2
      have e3 : nI (r.1 + 3, r.2).1 - 1 = nI (r.1 + 2) := by rw [show (1 : Int32) = nI 1 from rfl, nI_sub (by omega)]; rfl
      rw [e3]
      simp only [List.set_cons_succ, List.set_cons_zero]
      have main := hC pl u pld r cnt ca q I _ E post xp (k - 1) (n - 7) a c hu hpl hpu hcnt s4 h8 hc0 hz0 hr2 (by omega) (by omega) hf (fun x r' hx a' I' M' E' ca' y1 y2 y3 y4 y5 => hp x r' hx a' I' M' E' ca' y1 (zsx_t (zsx_t hx3 x4) y2) y3 y4 y5)
      exact ⟨main.1, k - 1, n - 7, Nat.le_refl _, Nat.le_refl _, main.2⟩
/-- no choice is so deep -/
theorem zRC_0 {dd : Nat} (hR : RC D X B I0 M0) : zRC D X B I0 M0 0 dd := by
  intro pl u pld r cnt ca q I M E post xp k n a c hu hpl hpu hcnt h h8 hc0 hz0 hr2 hk hn hf hp
  have hz : zon (ztp X) X.2.1.length 0 pl r = .inl (r.1 + 2) := by unfold zon; simp only [hz0]
  have hN : X.2.1.length ≤ 120 := hR.2.2.1.1
  have hzk : zrm X.2.1.length r.1 (zon (ztp X) X.2.1.length 0 pl r) = X.2.1.length + 1 - r.1 := by rw [hz]; rfl
  rw [hzk] at hk hn
  have no : wp_X10_choice_L40 D (wp_X10_parts D dd) post xp q.1 k n (nI a) c (nI (r.1 + 1)) (some q.1) M := by
    unfold wp_X10_choice_L40 wp_X10_choice_L41
    exact czd ⟨r_is h, 1, 7, by omega, by omega, (r_must (c := false) h (Nat.le_refl _) (Nat.le_refl _) (fun y => (nomatch y)) (fun _ => hf _ hz)).2⟩
  have n13 : wp_X10_choice_L13 D (wp_X10_parts D dd) post xp q.1 k n (nI a) c (nI (r.1 + 1)) (some q.1) M := by
    unfold wp_X10_choice_L13
    refine cgI h.2.2.2.2.1 rfl ?_
    have : u = 3 := by omega
    subst this
    exact ⟨fun _ => no, fun z => absurd (by decide) z⟩
  refine ⟨r_is h, ?_⟩
  unfold wp_X10_choice
  exact ⟨fun _ => n13, fun _ => ⟨fun _ => no, fun _ => n13⟩⟩
end RD9
