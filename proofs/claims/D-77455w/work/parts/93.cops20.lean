/-! the component writes strings, lists, things -/
def zJc : Nat → List Int32 := fun q => match q with
  | 0 => [32, 101, 32] | 1 => [32, 105, 32] | 2 => [32, 117, 110, 32] | 3 => [122, 111, 116, 102, 109, 120] | 4 => [109, 102, 110, 120] | 7 => [109, 102, 110] | 8 => [44] | 9 => [44, 32] | 10 => [32, 119, 97, 32] | 11 => [32, 97, 110, 100, 32] | _ => [44, 32, 97, 110, 100, 32]
def zJs (D : zD) (M : zM) : Prop := ∀ q, q ≤ 12 → q ≠ 5 → q ≠ 6 → zSt D M q (zJc q)
theorem zSt_z {D : zD} {M M' : zM} {k : Nat} {l : List Int32} (h : zle M M') (h1 : zSt D M k l) : zSt D M' k l := by
  obtain ⟨v, f, a1, a2, a3, a4, a5⟩ := h1
  exact ⟨v, f, a1, a2, h _ _ a3, h _ _ a4, a5⟩
theorem zJs_m {D : zD} {M M' : zM} (h : zle M M') (h1 : zJs D M) : zJs D M' := fun q a b c => zSt_z h (h1 q a b c)
section SH4
variable {D : zD} {X : zSg} {B : Nat → Nat} {I M0 M : zM} {s b L : Nat} {T h : Option Nat} {txt : List Int32}
theorem zSt_b {q : Nat} {l : List Int32} (hS : zSt D M q l) : zSb l := by
  obtain ⟨v, f, h1, h2, h3, h4, h5, h6⟩ := hS
  intro c hc
  obtain ⟨i, hi, e⟩ := List.getElem_of_mem hc
  exact (h6 i c (by rw [List.getElem?_eq_getElem hi, e])).2
theorem zSt_i {q : Nat} {l : List Int32} (hS : zSt D M q l) : zis M (D.2.2.2 (10 + q)) [30] := by
  obtain ⟨v, f, h1, h2, h3, h4, h5, h6⟩ := hS
  exact cis h3 (by decide)
theorem c_puts {post : Unit → zM → Prop} {q : Nat} {l : List Int32} (hS : zSt D M0 q l) (hs : she D M0 s b L T h txt M) (hl : txt.length + l.length ≤ 360) (hp : ∀ M', she D M0 s b L T h (txt ++ l) M' → post () M') : zis M s [25] ∧ wp_X28_puts D post s (some (D.2.2.2 (10 + q))) M := by
  have hll : l.length < 100 := by obtain ⟨v, f, -, -, -, -, h5, -⟩ := hS; exact h5
  have loop : ∀ f i : Nat, i ≤ l.length → l.length - i < f → ∀ M1, she D M0 s b L T h (txt ++ l.take i) M1 → wp_X28_puts_L2 D post s f (some (D.2.2.2 (10 + q))) (nI i) M1 := by
    intro f
    induction f with
    | zero => intro i _ hf; omega
    | succ f ih =>
      intro i hi hf M1 hs1
      have hSm := zSt_z (she_l hs1) hS
      unfold wp_X28_puts_L2
      refine czd ⟨zSt_i hSm, s_length hSm ?_⟩
      rw [nI_leI (by omega) (by omega)]
      refine ⟨fun z => ?_, fun z => ⟨zSt_i hSm, ?_⟩⟩
      · have : i = l.length := by omega
        subst this
        rw [List.take_length] at hs1
        exact hp M1 hs1
      · obtain ⟨c, hc⟩ : ∃ c, l[i]? = some c := ⟨l[i]'(by omega), List.getElem?_eq_getElem (by omega)⟩
        refine s_charAt hSm hc (c_put hs1 (zSt_b hSm c (List.mem_of_getElem? hc)) ?_ fun M2 hs2 => ?_)
        · rw [List.length_append, List.length_take]; omega
        · rw [nI_1]
          refine ih (i + 1) (by omega) (by omega) M2 ?_
          rw [List.take_add_one, hc]
          rw [List.append_assoc] at hs2
          exact hs2
  exact ⟨she_i hs, _, loop (l.length + 1) 0 (Nat.zero_le _) (by omega) M (by rw [List.take_zero, List.append_nil]; exact hs)⟩
/-- the joiner of a language: of two 0, of the last 2, else 1 -/
theorem c_joinr {P : Option Nat → zM → Prop} {a l n k : Nat} {y : Int32} (hla : zla D M a l) (hy : y = if n = 2 then 0 else if k = n - 1 then 2 else 1) (hp : ∀ q, q ≤ 12 → q ≠ 5 → q ≠ 6 → zJc q = zjn l n k → P (some (D.2.2.2 (10 + q))) M) :
    (zis M a [2] ∧ wp_X3_joiner D P a y M) ∨ (zis M a [4] ∧ wp_X5_joiner D P a y M) ∨ (zis M a [5] ∧ wp_X6_joiner D P a y M) ∨ (zis M a [6] ∧ wp_X7_joiner D P a y M) := by
  obtain ⟨h7, Q, Tt, h1⟩ := hla
  have hc : (n = 2 ∧ y = 0) ∨ (n ≠ 2 ∧ k = n - 1 ∧ y = 2) ∨ (n ≠ 2 ∧ k ≠ n - 1 ∧ y = 1) := by
    by_cases e : n = 2
    · rw [if_pos e] at hy; exact Or.inl ⟨e, hy⟩
    · rw [if_neg e] at hy
      by_cases e2 : k = n - 1
      · rw [if_pos e2] at hy; exact Or.inr (Or.inl ⟨e, e2, hy⟩)
      · rw [if_neg e2] at hy; exact Or.inr (Or.inr ⟨e, e2, hy⟩)
  clear hy
  have z0 : n = 2 → zjn l n k = zj2 l := fun e => if_pos e
  have z2 : n ≠ 2 → k = n - 1 → zjn l n k = zje l := fun e e2 => by unfold zjn; rw [if_neg e, if_pos e2]
  have z1 : n ≠ 2 → k ≠ n - 1 → zjn l n k = zjm l := fun e e2 => by unfold zjn; rw [if_neg e, if_neg e2]
  have h9 : l = 0 ∨ l = 1 ∨ l = 2 ∨ l = 3 ∨ l = 4 ∨ l = 5 ∨ l = 6 := by omega
  -- the class with a joiner of its own
  have own : ∀ q : Nat, q ≤ 2 → M a = some (.inr (2, [.ref Q, .ref Tt, .ref (D.2.2.2 (10 + q))])) → zj2 l = zJc q → zje l = zJc q → zjm l = zJc 9 → wp_X3_joiner D P a y M := by
    intro q hq hM e2 ee em
    unfold wp_X3_joiner wp_X3_joiner_L17 wp_X2_joiner wp_X2_joiner_L12
    rcases hc with ⟨c1, rfl⟩ | ⟨c1, c2, rfl⟩ | ⟨c1, c2, rfl⟩
    · exact ⟨fun _ => cgR (x := some (D.2.2.2 (10 + q))) hM rfl (hp q (by omega) (by omega) (by omega) (by rw [z0 c1, e2])), fun z => absurd z (by decide)⟩
    · exact ⟨fun _ => cgR (x := some (D.2.2.2 (10 + q))) hM rfl (hp q (by omega) (by omega) (by omega) (by rw [z2 c1 c2, ee])), fun z => absurd z (by decide)⟩
    · exact ⟨fun z => absurd rfl z, fun _ => ⟨_, hM, fun z => absurd rfl z, fun _ => hp 9 (by decide) (by decide) (by decide) (by rw [z1 c1 c2, em])⟩⟩
  have every : M a = some (.inr (6, [.ref Q, .ref Tt])) → zj2 l = zJc 11 → zje l = zJc 12 → zjm l = zJc 9 → wp_X7_joiner D P a y M := by
    intro hM e2 ee em
    unfold wp_X7_joiner wp_X7_joiner_L24 wp_X2_joiner wp_X2_joiner_L12
    rcases hc with ⟨c1, rfl⟩ | ⟨c1, c2, rfl⟩ | ⟨c1, c2, rfl⟩
    · exact ⟨fun z => absurd rfl z, fun _ => hp 11 (by decide) (by decide) (by decide) (by rw [z0 c1, e2])⟩
    · exact ⟨fun _ => ⟨fun _ => hp 12 (by decide) (by decide) (by decide) (by rw [z2 c1 c2, ee]), fun z => absurd z (by decide)⟩, fun z => absurd z (by decide)⟩
    · exact ⟨fun _ => ⟨fun z => absurd rfl z, fun _ => ⟨_, hM, fun z => absurd rfl z, fun _ => hp 9 (by decide) (by decide) (by decide) (by rw [z1 c1 c2, em])⟩⟩, fun z => absurd z (by decide)⟩
  rcases h9 with e | e | e | e | e | e | e <;> subst e
  · exact Or.inr (Or.inr (Or.inr ⟨cis h1 (by decide), every h1 rfl rfl rfl⟩))
  · exact Or.inl ⟨cis h1 (by decide), own 0 (by decide) h1 rfl rfl rfl⟩
  · exact Or.inl ⟨cis h1 (by decide), own 1 (by decide) h1 rfl rfl rfl⟩
  · exact Or.inl ⟨cis h1 (by decide), own 2 (by decide) h1 rfl rfl rfl⟩
  · refine Or.inr (Or.inl ⟨cis h1 (by decide), ?_⟩)
    unfold wp_X5_joiner wp_X2_joiner wp_X2_joiner_L12
    refine ⟨_, h1, fun _ => hp 10 (by decide) (by decide) (by decide) ?_, fun z => absurd z (by decide)⟩
    rcases hc with ⟨c1, -⟩ | ⟨c1, c2, -⟩ | ⟨c1, c2, -⟩
    · rw [z0 c1]; rfl
    · rw [z2 c1 c2]; rfl
    · rw [z1 c1 c2]; rfl
  · refine Or.inr (Or.inr (Or.inl ⟨cis h1 (by decide), hp 8 (by decide) (by decide) (by decide) ?_⟩))
    rcases hc with ⟨c1, -⟩ | ⟨c1, c2, -⟩ | ⟨c1, c2, -⟩
    · rw [z0 c1]; rfl
    · rw [z2 c1 c2]; rfl
    · rw [z1 c1 c2]; rfl
  · exact Or.inr (Or.inr (Or.inr ⟨cis h1 (by decide), every h1 rfl rfl rfl⟩))
/-- a list's ints, written -/
theorem c_wlist {post : Unit → zM → Prop} {k n o l : Nat} {vs : List Int32} (ho : zLt M0 o vs) (hv : vs.length ≤ 6) (hJ : zJs D M0) (hla : zla D M0 L l) (hs : she D M0 s b L T h txt M) (hl : txt.length ≤ 240) (hk : vs.length ≤ k) (hn : 6 * vs.length ≤ n) (hp : ∀ M', she D M0 s b L T h (txt ++ zlsF l vs.length 0 vs) M' → post () M') : wp_X27_write D post k n o (some s) M := by
  obtain ⟨c, g, h1, h2, h3⟩ := ho
  have loop : ∀ f i : Nat, i ≤ vs.length → vs.length - i < f → ∀ (t : List Int32) (M1 : zM) (kk nn : Nat), t.length ≤ 240 + 17 * i → vs.length - i ≤ kk → 6 * (vs.length - i) ≤ nn → she D M0 s b L T h t M1 → (∀ M', she D M0 s b L T h (t ++ zlsF l vs.length i (vs.drop i)) M' → post () M') → wp_X27_write_L8 D post o f kk nn (some s) (nI vs.length) (nI i) M1 := by
    intro f
    induction f with
    | zero => intro i _ hf; omega
    | succ f ih =>
      intro i hi hf t M1 kk nn ht hkk hnn hs1 hp
      unfold wp_X27_write_L8
      rw [nI_leI (by omega) (by omega), show (0 : Int32) = nI 0 from rfl, nI_leI (by omega) (by decide)]
      refine ⟨fun z => ?_, fun z => ?_⟩
      · rw [List.drop_eq_nil_of_le z, zlsF, List.append_nil] at hp
        exact hp M1 hs1
      · obtain ⟨v, hv1⟩ : ∃ v, vs[i]? = some v := ⟨vs[i]'(by omega), List.getElem?_eq_getElem (by omega)⟩
        have hv2 := h3 i v hv1
        have hdr : vs.drop i = v :: vs.drop (i + 1) := by
          rw [List.drop_eq_getElem_cons (by omega)]
          congr 1
          exact Option.some.inj ((List.getElem?_eq_getElem (by omega)).symm.trans hv1)
        rw [hdr, zlsF] at hp
        have hpd := zpd_len0 l v
        -- the int itself
        have one : ∀ (t' : List Int32) (M2 : zM), t'.length ≤ t.length + 6 → she D M0 s b L T h t' M2 → (∀ M', she D M0 s b L T h (t' ++ (zpd l v 0 ++ zlsF l vs.length (i + 1) (vs.drop (i + 1)))) M' → post () M') → wp_X27_write_L49 D post o (wp_X27_write_L8 D post o f) kk nn (some s) (nI vs.length) (nI i) M2 := by
          intro t' M2 ht' hs2 hp2
          unfold wp_X27_write_L49
          refine ⟨by omega, by omega, fun d hd hd0 => ?_⟩
          refine cgR (x := some c) (kw (she_l hs2 _ _ h1) hd) rfl (czd (caI (kw (she_l hs2 _ _ h2) hd) (vp_in_nI (by omega) (by omega)) ?_))
          rw [nI_clamp (by omega), hv2]
          refine c_dec hd0 ?_
          have hd' : M0 d = none := by
            cases e : M0 d with
            | none => rfl
            | some w => rw [she_l hs2 _ _ e] at hd; cases hd
          refine czd (c_plainly (l := l) zde_new (by decide) (zla_m hla (zle_new (zle_r _) hd')) (she_new hs2 hd) (by omega) fun M3 hs3 => ?_)
          have hs4 := she_back hs2 hd hs3
          rw [nI_1]
          refine ih (i + 1) (by omega) (by omega) _ M3 (kk - 1) (nn - 6) ?_ (by omega) (by omega) hs4 fun M' hs' => hp2 M' ?_
          · rw [List.length_append]; omega
          · rw [List.append_assoc] at hs'; exact hs'
        refine ⟨fun z2 => ?_, fun z2 => czd (she_L hs1 ?_)⟩
        · have : i = 0 := by omega
          subst this
          rw [if_pos rfl, List.nil_append] at hp
          exact one t M1 (by omega) hs1 hp
        · rw [if_neg (by omega)] at hp
          have join : ∀ y : Int32, (y = if vs.length = 2 then 0 else if i = vs.length - 1 then 2 else 1) → wp_X27_write_L43 D post o (wp_X27_write_L8 D post o f) kk nn (some s) (nI vs.length) (nI i) (some s) (some L) y M1 := by
            intro y hy
            unfold wp_X27_write_L43 wp_X27_write_L46
            refine czd (c_joinr (zla_m hla (she_l hs1)) hy fun q q1 q2 q3 eq => czd (c_puts (hJ q q1 q2 q3) hs1 ?_ fun M2 hs2 => ?_))
            · have : (zJc q).length ≤ 6 := by unfold zJc; split <;> decide
              omega
            · rw [eq] at hs2
              obtain ⟨q', -, -, eq'⟩ := zjn_J l vs.length i
              have hql := zJ_len q'
              refine one _ M2 (by rw [List.length_append, eq']; omega) hs2 fun M' hs' => hp M' ?_
              rw [List.append_assoc] at hs'; exact hs'
          have e2 : nI vs.length = 2 ↔ vs.length = 2 := by rw [show (2 : Int32) = nI 2 from rfl, nI_eq (by omega) (by decide)]
          have e9 : nI i = nI vs.length - 1 ↔ i = vs.length - 1 := by
            obtain ⟨w, hw⟩ : ∃ w, vs.length = w + 1 := ⟨vs.length - 1, by omega⟩
            rw [hw, nI_pred, nI_eq (by omega) (by omega)]
            omega
          rw [e2, e9]
          exact ⟨fun z3 => ⟨fun z4 => join 1 (by rw [if_neg z3, if_neg z4]), fun z4 => join 2 (by rw [if_neg z3, if_pos z4])⟩, fun z3 => join 0 (by rw [if_pos z3])⟩
  unfold wp_X27_write
  exact cgR (x := some c) (she_l hs _ _ h1) rfl (czd (clen (she_l hs _ _ h2) (by decide) ⟨vs.length + 1, loop _ 0 (Nat.zero_le _) (by omega) txt M k n (by omega) (by omega) (by omega) hs (by rw [List.drop_zero]; exact hp)⟩))
/-- an end that carries a code -/
def zxp (D : zD) (M0 : zM) (s b L : Nat) (T : Option Nat) (code : Int32) (xp : Nat → zM → Prop) : Prop := ∀ (q : Nat) (fs : List Value) (M' : zM) (h' : Option Nat) (txt' : List Int32), she D M0 s b L T h' txt' M' → M' q = some (.inr (13, fs)) → zB D ≤ q → fs[6]? = some (.int code) → xp q M'
theorem c_exc {xp : Nat → zM → Prop} {q : Nat} {code : Int32} {v0 v1 v2 v3 v4 v5 v6 : Value} (hx : zxp D M0 s b L T code xp) (hs : she D M0 s b L T h txt M) (hq : M q = none) (hq0 : zB D ≤ q) : wp_X15_init D (fun _ M => (zth D M q ∧ xp q M)) q code (zu M q (some (.inr (13, [v0, v1, v2, v3, v4, v5, v6])))) := by
  unfold wp_X15_init wp_J10_init wp_J9_init wp_J8_init_2 wp_J8_init_2_L60
  refine cp0 hq0 (by simp) fun r1 => cp0 hq0 (by simp) fun r2 => cp0 hq0 (by simp) ⟨fun _ => cp0 hq0 (by simp) (cp0 hq0 (by simp) (cp0 hq0 (by simp) ⟨fun z => absurd rfl z, fun _ => cp0 hq0 (by simp) (cp0 hq0 (by simp) ⟨⟨13, _, by decide, zu_s, hq0⟩, hx q _ _ h txt (she_m hs (zle_new (zle_r _) hq)) zu_s hq0 rfl⟩)⟩)), fun z => absurd rfl z⟩
theorem c_need1 {post : Unit → zM → Prop} {xp : Nat → zM → Prop} {k n : Nat} {code : Int32} (hp : post () M) : wp_X0_need D post xp k n 1 code M := ⟨fun _ => hp, fun z => absurd z (by decide)⟩
theorem c_need0 {post : Unit → zM → Prop} {xp : Nat → zM → Prop} {k n : Nat} {code : Int32} (hk : 1 ≤ k) (hn : 7 ≤ n) (hx : zxp D M0 s b L T code xp) (hs : she D M0 s b L T h txt M) : wp_X0_need D post xp k n 0 code M := ⟨fun z => absurd rfl z, fun _ => ⟨hk, hn, fun q hq hq0 => c_exc hx hs hq hq0⟩⟩
theorem c_noDec {post : Option Nat → zM → Prop} {xp : Nat → zM → Prop} {k n o a : Nat} (hk : 1 ≤ k) (hn : 7 ≤ n) (hx : zxp D M0 s b L T (-20 - nI a) xp) (hs : she D M0 s b L T h txt M) : wp_X29_decimal D post xp k n o (nI a) M := ⟨hk, hn, fun _ hq hq0 => c_exc hx hs hq hq0⟩
/-- the things at hand -/
def zTs (M0 : zM) (T : Option Nat) (th : Nat → zTh) : Prop := ∃ (t : Nat) (f : Nat → Option Nat), T = some t ∧ M0 t = some (.inl (9, 5, .inr (.inr (.inr (.inr f))))) ∧ ∀ j, j < 5 → zTg M0 (f j) (th j)
/-- a part that has an argument -/
def zPa (M0 : zM) (o a : Nat) : Prop := ∃ (ci i : Nat) (fs : List Value), (ci, i) ∈ ([(14, 0), (15, 0), (16, 0), (18, 2), (19, 2)] : List (Nat × Nat)) ∧ M0 o = some (.inr (ci, fs)) ∧ fs[i]? = some (.int (nI a))
theorem c_thing {post : Option Nat → zM → Prop} {xp : Nat → zM → Prop} {k n o a : Nat} {th : Nat → zTh} (hT : zTs M0 T th) (ho : zPa M0 o a) (ha : a < 5) (hk : 1 ≤ k) (hn : 7 ≤ n) (hs : she D M0 s b L T h txt M) (hx : (th a).1 = 0 → zxp D M0 s b L T (-20 - nI a) xp) (hp : ∀ t, zTg M0 (some t) (th a) → (th a).1 ≠ 0 → post (some t) M) : wp_X16_thing D post xp k n o (some s) M := by
  obtain ⟨t, f, rfl, h1, h2⟩ := hT
  obtain ⟨ci, i, fs, h3, h4, h5⟩ := ho
  have m1 := she_l hs _ _ h1
  have m4 := she_l hs _ _ h4
  have hv := vp_in_nI ha (by decide : 5 < 2 ^ 31)
  have hcl : (nI a).toNatClampNeg = a := nI_clamp (by omega)
  have h9 := h2 a ha
  unfold wp_X16_thing wp_X16_thing_L17
  refine czd (she_T hs (cgIm m4 h3 h5 (czd (caR m1 hv ?_))))
  rw [hcl]
  cases e : f a with
  | none =>
    refine ⟨fun _ => cgIm m4 h3 h5 ⟨k, n, Nat.le_refl _, Nat.le_refl _, c_need0 hk hn (hx ?_) hs⟩, fun b hb => (nomatch hb)⟩
    rw [e] at h9
    rcases h9 with ⟨z, -⟩ | ⟨-, -, a, c, z, -⟩ | ⟨-, -, a, g, z, -⟩ | ⟨-, -, -, -, a, c, g, z, -⟩
    · exact z
    · cases z
    · cases z
    · cases z
  | some w =>
    refine ⟨fun z => (nomatch z), fun b _ => cgIm m4 h3 h5 ⟨k, n, Nat.le_refl _, Nat.le_refl _, c_need1 (czd (she_T hs (cgIm m4 h3 h5 (czd (caR m1 hv ?_)))))⟩⟩
    rw [hcl, e]
    rw [e] at h9
    refine hp w h9 ?_
    rcases h9 with ⟨-, z⟩ | ⟨z, -⟩ | ⟨z, -⟩ | ⟨z, -⟩
    · cases z
    · omega
    · omega
    · omega
/-- an argument written plainly -/
theorem c_wthing {post : Unit → zM → Prop} {xp : Nat → zM → Prop} {k n o a l : Nat} {th : Nat → zTh} (hT : zTs M0 T th) (ho : zPa M0 o a) (ho2 : zis M0 o [14, 15, 16, 18, 19]) (ha : a < 5) (hk : 8 ≤ k) (hn : 50 ≤ n) (hJ : zJs D M0) (hla : zla D M0 L l) (hs : she D M0 s b L T h txt M) (hl : txt.length ≤ 240)
    (hx : (th a).1 = 0 → zxp D M0 s b L T (-20 - nI a) xp) (hp : (th a).1 ≠ 0 → ∀ M', she D M0 s b L T h (txt ++ ztx l (th a)) M' → post () M') : wp_X16_write D post xp k n o (some s) M := by
  unfold wp_X16_write
  refine ⟨?_, 1, 7, by omega, by omega, c_thing hT ho ha (Nat.le_refl _) (Nat.le_refl _) hs hx fun t ht hne => czd ?_⟩
  · obtain ⟨ci, fs, h1, h2⟩ := ho2
    exact ⟨ci, fs, h1, she_l hs _ _ h2⟩
  · have hp' := hp hne
    unfold ztx at hp'
    rcases ht with ⟨z, -⟩ | ⟨z1, z2, w, c, z3, z4, z5⟩ | ⟨z1, z2, w, g, z3, z4, z5, z6⟩ | ht'
    · exact absurd z hne
    · cases z3
      rw [if_pos z1] at hp'
      refine Or.inl ⟨cis (she_l hs _ _ z4) (by decide), ?_⟩
      unfold wp_X25_write
      exact cgR (x := some c) (she_l hs _ _ z4) rfl (czd (c_plainly z5 z2 hla hs (by omega) hp'))
    · cases z3
      rw [if_neg (by omega), if_pos z1] at hp'
      refine Or.inr (Or.inl ⟨cis (she_l hs _ _ z4) (by decide), ?_⟩)
      unfold wp_X26_write
      have hS := zSt_z (she_l hs) (hJ 7 (by decide) (by decide) (by decide))
      refine cgI (she_l hs _ _ z4) rfl ⟨zSt_i hS, ?_⟩
      rw [z6] at hp' ⊢
      have hc : (zJc 7)[g]? = some (if nI g = 0 then 109 else if nI g = 1 then 102 else 110) := by
        match g, z5 with
        | 0, _ => rfl
        | 1, _ => rfl
        | 2, _ => rfl
      exact s_charAt hS hc (czd (c_put hs (zSt_b hS _ (List.mem_of_getElem? hc)) (by omega) hp'))
    · have z1 : (th a).1 = 3 := ht'.1
      obtain ⟨-, y2, y3, w, z3, hlt⟩ := zTg_lt (Or.inr (Or.inr (Or.inr ht')) : zTg M0 (some t) (th a)) z1
      cases z3
      rw [if_neg (by omega), if_neg (by omega)] at hp'
      refine Or.inr (Or.inr ⟨?_, 6, 36, by omega, by omega, c_wlist hlt y2 hJ hla hs hl (by omega) (by omega) hp'⟩)
      obtain ⟨c, g, q1, -⟩ := hlt
      exact cis (she_l hs _ _ q1) (by decide)
end SH4
