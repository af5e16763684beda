/-! the component's acts on the tape, on slots, on arguments -/
theorem va_up_s {f : Nat → Option Nat} {i : Nat} {r : Option Nat} : va_up f i r i = r := by simp [va_up]
theorem va_up_n {f : Nat → Option Nat} {i j : Nat} {r : Option Nat} (h : j ≠ i) : va_up f i r j = f j := by simp [va_up, h]
section CM
variable {D : zD} {M : zM} {b : Nat}
theorem csB {n : Nat} {f : Nat → Int32} {i x : Int32} {Φ : zM → Prop} (hM : M b = some (.inl (1, n, .inl f))) (hb : zB D ≤ b) (hi : vp_in i n) (h : Φ (zu M b (some (.inl (1, n, .inl (upd f i.toNatClampNeg (vp_nar .byte x))))))) : zsB D M b i x Φ := ⟨n, f, hM, hb, hi, h⟩
theorem csI {n : Nat} {f : Nat → Int32} {i x : Int32} {Φ : zM → Prop} (hM : M b = some (.inl (0, n, .inl f))) (hb : zB D ≤ b) (hi : vp_in i n) (h : Φ (zu M b (some (.inl (0, n, .inl (upd f i.toNatClampNeg x)))))) : zsI D M b i x Φ := ⟨n, f, hM, hb, hi, h⟩
theorem csI0 {M0 : zM} {n : Nat} {f : Nat → Int32} {i x : Int32} {Φ : zM → Prop} (hb : zB D ≤ b) (hi : vp_in i n) (h : Φ (zu M0 b (some (.inl (0, n, .inl (upd f i.toNatClampNeg x)))))) : zsI D (zu M0 b (some (.inl (0, n, .inl f)))) b i x Φ := ⟨n, f, zu_s, hb, hi, by rw [zu_zu]; exact h⟩
theorem csR {kd n : Nat} {f : Nat → Option Nat} {i : Int32} {r : Option Nat} {Φ : zM → Prop} (hM : M b = some (.inl (kd, n, .inr (.inr (.inr (.inr f)))))) (hb : zB D ≤ b) (hi : vp_in i n) (hr : ∀ w, r = some w → zis M w (zok kd)) (h : Φ (zu M b (some (.inl (kd, n, .inr (.inr (.inr (.inr (va_up f i.toNatClampNeg r)))))))))
    : zsR D M b kd i r Φ := ⟨n, f, hM, hb, hi, fun w hw => by obtain ⟨ci, fs, h1, h2⟩ := hr w hw; exact ⟨ci, fs, h1, h2⟩, h⟩
end CM
section CO6
variable {D : zD} {X : zSg} {B : Nat → Nat} {I M : zM}
theorem RC_i {i : Nat} (h : RC D X B I M) (hi : i ∈ mu0) : I (B i) = none := (h.2.2.2.2.2.2.2 i (Or.inl hi)).1
theorem RC_b {i : Nat} (h : RC D X B I M) (hi : i ∈ mu0) : zB D ≤ B i := (h.2.2.2.2.2.2.2 i (Or.inl hi)).2
def sp_feed (X : zSg) (c : Int32) : Int32 × zSg := if zb c 256 then (if X.2.1.length = 120 then (-3, X) else (nI (X.2.1.length + 1), xT X (X.2.1 ++ [c]))) else (-1, X)
theorem c_feed {post : Int32 → zM → Prop} {c : Int32} (hR : RC D X B I M) (hz : zle I M) (h : done D X B I M (sp_feed X c).2 (post (sp_feed X c).1)) : wp_X0_feed D post (B 0) c M := by
  unfold wp_X0_feed
  unfold sp_feed at h
  have ho := hR.1
  obtain ⟨hl, f, ht, hf⟩ := hR.2.2.1
  refine c_in ?_
  rw [zin_b (n := 256) (by decide)]
  refine ifb (fun e1 => ?_) (fun e1 => by rw [e1] at h; exact fin0 hR hz h (zle_r _))
  rw [e1] at h
  refine cgI ho rfl ?_
  rw [show (120 : Int32) = nI 120 from rfl, nI_eq (by omega) (by decide)]
  refine ⟨fun z => ?_, fun z => by simp only [if_true, if_pos z] at h; exact fin0 hR hz h (zle_r _)⟩
  simp only [if_true, if_neg z] at h
  refine cgR (x := some (B 3)) ho rfl (cgI ho rfl (czd (csB ht (RC_b hR (by decide)) (vp_in_nI (by omega) (by decide)) ?_)))
  have n03 : B 0 ≠ B 3 := RC_ne hR (mu_i (by decide)) (mu_i (by decide)) (by decide)
  have ho1 : ∀ e, zu M (B 3) e (B 0) = some (.inr (0, [.ref (B 2), .ref (B 1), .int (nI X.2.2.2.2.1.length), .ref (B 3), .int (nI X.2.1.length), .ref (B 5), .ref (B 6), .ref (B 7)])) := fun e => by rw [zu_n n03]; exact ho
  refine cgI (ho1 _) rfl (cp (ho1 _) (RC_b hR (by decide)) (by simp) (cgI zu_s rfl ?_))
  rw [nI_clamp (by omega), nI_1]
  have hx : ext (muA X B) I M I (zu (zu M (B 3) (some (.inl (1, 120, .inl (upd f X.2.1.length (vp_nar .byte c.toInt8.toInt32)))))) (B 0) (some (.inr (0, [.ref (B 2), .ref (B 1), .int (nI X.2.2.2.2.1.length), .ref (B 3), .int (nI (X.2.1.length + 1)), .ref (B 5), .ref (B 6), .ref (B 7)])))) :=
    ext_p (ext_p (ext_r hz) (Or.inl (mu_a (by decide))) (RC_i hR (by decide))) (Or.inl (mu_a (by decide))) (RC_i hR (by decide))
  obtain ⟨k1, k2, k3, k4, k5, k6, k7⟩ := RC_k hR [0, 3] hx.1 (RC_1 hR hx (J := [0, 3]) (f := fun _ => .inr (0, [])) (by intro j hj; exact mu_i (by revert j; decide)) (fun a e ha hn => by
    rw [zu_n (hn 0 (by decide)), zu_n (hn 3 (by decide))]; exact ha))
  refine fin h rfl hx ⟨?_, k2 (by decide), ⟨?_, ?_⟩, k4 (by decide), k5 (by decide), k6 (by decide), k7 (by decide) (by decide), RC_u hR hx rfl⟩
  · unfold RCo
    rw [zu_s]
    show _ = some (Sum.inr (0, ([.ref (B 2), .ref (B 1), .int (nI X.2.2.2.2.1.length), .ref (B 3), .int (nI (X.2.1 ++ [c]).length), .ref (B 5), .ref (B 6), .ref (B 7)] : List Value)))
    rw [List.length_append]; rfl
  · show (X.2.1 ++ [c]).length ≤ 120
    rw [List.length_append]
    simp only [List.length_cons, List.length_nil]; omega
  · refine ⟨upd f X.2.1.length (vp_nar .byte c.toInt8.toInt32), by rw [zu_n n03.symm, zu_s], fun i q hq => ?_⟩
    have hq' : (X.2.1 ++ [c])[i]? = some q := hq
    rcases Nat.lt_trichotomy i X.2.1.length with hi | hi | hi
    · rw [List.getElem?_append_left hi] at hq'
      rw [updN (by omega)]
      exact hf i q hq'
    · subst hi
      rw [List.getElem?_append_right (Nat.le_refl _), Nat.sub_self] at hq'
      cases hq'
      exact ⟨updS, e1⟩
    · rw [List.getElem?_eq_none (by rw [List.length_append]; simp only [List.length_cons, List.length_nil]; omega)] at hq'
      cases hq'
def sp_wipe (X : zSg) : Int32 × zSg := (nI X.2.1.length, xT X [])
theorem RC_o (hR : RC D X B I M) (hz : zle I M) {X' : zSg} {fs : List Value} (hb : I (B 0) = none) (e1 : X'.1 = X.1) (e3 : X'.2.2.1 = X.2.2.1) (e4 : X'.2.2.2.1 = X.2.2.2.1) (e5 : X'.2.2.2.2.2 = X.2.2.2.2.2)
    (ho : RCo X' B (zu M (B 0) (some (.inr (0, fs))))) (hw : RCw X' B (zu M (B 0) (some (.inr (0, fs))))) (ht : RCt X' B (zu M (B 0) (some (.inr (0, fs))))) : ext (muA X B) I M I (zu M (B 0) (some (.inr (0, fs)))) ∧ RC D X' B I (zu M (B 0) (some (.inr (0, fs)))) := by
  have hx : ext (muA X B) I M I (zu M (B 0) (some (.inr (0, fs)))) := ext_p (ext_r hz) (Or.inl (mu_a (by decide))) hb
  obtain ⟨k1, k2, k3, k4, k5, k6, k7⟩ := RC_k hR [0] hx.1 (RC_1 hR hx (J := [0]) (f := fun _ => .inr (0, [])) (by intro j hj; exact mu_i (by revert j; decide)) (fun a e ha hn => by
    rw [zu_n (hn 0 (by decide))]; exact ha))
  obtain ⟨x1, x2, x3, x4, x5, x6⟩ := X
  obtain ⟨y1, y2, y3, y4, y5, y6⟩ := X'
  simp only at e1 e3 e4 e5
  subst e1 e3 e4 e5
  exact ⟨hx, ho, hw, ht, k4 (by decide), k5 (by decide), k6 (by decide), k7 (by decide) (by decide), RC_u hR hx rfl⟩
theorem c_wipe {post : Int32 → zM → Prop} (hR : RC D X B I M) (hz : zle I M) (h : done D X B I M (sp_wipe X).2 (post (sp_wipe X).1)) : wp_X0_wipe D post (B 0) M := by
  unfold wp_X0_wipe
  refine cgI hR.1 rfl (cp hR.1 (RC_b hR (by decide)) (by simp) ?_)
  have hR0 := hR
  obtain ⟨ho, ⟨w1, f, w2, w3⟩, ⟨t1, g, t2, t3⟩, -⟩ := hR0
  have n1 : B 1 ≠ B 0 := kn_ne w2 ho (by simp)
  have n3 : B 3 ≠ B 0 := kn_ne t2 ho (by simp)
  obtain ⟨h1, h2⟩ := RC_o (X' := xT X []) hR hz (fs := [.ref (B 2), .ref (B 1), .int (nI X.2.2.2.2.1.length), .ref (B 3), .int (nI 0), .ref (B 5), .ref (B 6), .ref (B 7)]) (RC_i hR (by decide)) rfl rfl rfl rfl (by unfold RCo; rw [zu_s]; rfl) ⟨w1, f, by rw [zu_n n1]; exact w2, w3⟩ ⟨Nat.zero_le _, g, by rw [zu_n n3]; exact t2, fun i c hc => by cases hc⟩
  exact fin h rfl h1 h2
/-- an argument's thing is put -/
theorem RC_th1 (hR : RC D X B I M) {I1 M1 : zM} (hx : ext (fun _ => False) I M I1 M1) (hz : zle I M) {j : Nat} {r : Option Nat} {q : zTh} {post : zM → Prop} (hj : j < 5) (hq : zTg I1 r q) (h : done D X B I M (xH X j q) post) : zsR D M1 (B 6) 9 (nI j) r post := by
  obtain ⟨f, h1, h2⟩ := hR.2.2.2.2.1
  have h1' : M1 (B 6) = some (.inl (9, 5, .inr (.inr (.inr (.inr f))))) := ext_k hx h1 (fun z => z)
  refine csR h1' (RC_b hR (by decide)) (vp_in_nI hj (by decide)) (fun w hw => ?_) ?_
  · subst hw
    have hz1 := hx.2.1
    rcases hq with ⟨-, e⟩ | ⟨-, -, a, c, e, e2, -⟩ | ⟨-, -, a, g, e, e2, -⟩ | ⟨-, -, -, -, a, c, g, e, e2, -⟩
    · cases e
    · cases e; exact cis (hz1 _ _ e2) (by decide)
    · cases e; exact cis (hz1 _ _ e2) (by decide)
    · cases e; exact cis (hz1 _ _ e2) (by decide)
  · rw [nI_clamp (by omega)]
    have hx0 : ext (muA X B) I M I1 M1 := ext_w hz hx (fun a z => z.elim)
    have hx2 : ext (muA X B) I M I1 (zu M1 (B 6) (some (.inl (9, 5, .inr (.inr (.inr (.inr (va_up f j r)))))))) := ext_p hx0 (Or.inl (mu_a (by decide))) (ext_0 hx0 h1 (RC_i hR (by decide)))
    obtain ⟨k1, k2, k3, k4, k5, k6, k7⟩ := RC_k hR [6] hx2.1 (RC_1 hR hx2 (J := [6]) (f := fun _ => .inr (0, [])) (by intro j hj; exact mu_i (by revert j; decide)) (fun a e ha hn => by
      rw [zu_n (hn 6 (by decide))]; exact ext_k hx ha (fun z => z)))
    refine fin h rfl hx2 ⟨k1 (by decide), k2 (by decide), k3 (by decide), k4 (by decide), ⟨va_up f j r, zu_s, fun i hi => ?_⟩, k6 (by decide), k7 (by decide) (by decide), RC_u hR hx2 rfl⟩
    show zTg I1 (va_up f j r i) (zup X.2.2.2.1 j q i)
    by_cases e : i = j
    · subst e; rw [va_up_s, zup_s]; exact hq
    · rw [va_up_n e, zup_n e]; exact zTg_m hx.1 (h2 i hi)
def sp_decimal (X : zSg) (a d s : Int32) : Int32 × zSg := if zb a 5 && zb s 7 then (1, xH X a.toNatClampNeg (1, d, s.toNatClampNeg, [])) else (-1, X)
theorem c_decimal {post : Int32 → zM → Prop} {k n : Nat} {a d s : Int32} (hR : RC D X B I M) (hz : zle I M) (hk : 2 ≤ k) (hn : 7 ≤ n) (h : done D X B I M (sp_decimal X a d s).2 (post (sp_decimal X a d s).1)) : wp_X0_decimal D post k n (B 0) a d s M := by
  unfold wp_X0_decimal wp_X0_decimal_L14
  unfold sp_decimal at h
  refine c_isArgument (ifb' (fun e1 => c_isScale (ifb (fun e2 => ?_) (fun e2 => by rw [e1, e2] at h; exact fin0 hR hz h (zle_r _)))) (fun e1 => by rw [e1] at h; exact fin0 hR hz h (zle_r _)))
  obtain ⟨j, hj, rfl⟩ := zb_of e1 (by decide)
  obtain ⟨i, hi, rfl⟩ := zb_of e2 (by decide)
  rw [e1, e2, nI_clamp (by omega), nI_clamp (by omega)] at h
  refine cgR (x := some (B 6)) hR.1 rfl ⟨by omega, by omega, fun b hb hb0 => ⟨by omega, by omega, fun c hc hc0 => c_dec2 (k := i) (by omega) hc0 ?_⟩⟩
  have nbc : b ≠ c := fun z => by subst z; rw [zu_s] at hc; cases hc
  unfold wp_X25_init
  refine cp (kw zu_s hc) hb0 (by simp) (czd ?_)
  have hc1 : M c = none := by rw [zu_n nbc.symm] at hc; exact hc
  have e9 : zu (zu (zu M b (some (.inr (22, [.null])))) c (some (.inr (1, zde d i)))) b (some (.inr (22, [va_rf (some c)]))) = zu (zu M c (some (.inr (1, zde d i)))) b (some (.inr (22, [.ref c]))) := by
    rw [zu_c nbc, zu_zu]; rfl
  show zsR D (zu (zu (zu M b (some (.inr (22, [.null])))) c (some (.inr (1, zde d i)))) b (some (.inr (22, [va_rf (some c)])))) (B 6) 9 (nI j) (some b) fun M => post (1 : Int32) M
  rw [e9]
  have hb1 : zu M c (some (.inr (1, zde d i))) b = none := by rw [zu_n nbc]; exact hb
  refine RC_th1 hR (I1 := zu (zu I c (some (.inr (1, zde d i)))) b (some (.inr (22, [.ref c])))) (ext_n (ext_n (ext_r hz) hc1) hb1) hz hj (Or.inr (Or.inl ⟨rfl, by show i ≤ 6; omega, b, c, rfl, zu_s, ?_⟩)) h
  show zDe _ c d i
  unfold zDe
  rw [zu_n nbc.symm, zu_s]
def sp_gender (X : zSg) (a g : Int32) : Int32 × zSg := if zb a 5 && zb g 3 then (1, xH X a.toNatClampNeg (2, g, 0, [])) else (-1, X)
theorem c_gender {post : Int32 → zM → Prop} {k n : Nat} {a g : Int32} (hR : RC D X B I M) (hz : zle I M) (hk : 1 ≤ k) (hn : 1 ≤ n) (h : done D X B I M (sp_gender X a g).2 (post (sp_gender X a g).1)) : wp_X0_gender D post k n (B 0) a g M := by
  unfold wp_X0_gender wp_X0_gender_L19
  unfold sp_gender at h
  refine c_isArgument (ifb' (fun e1 => c_in ?_) (fun e1 => by rw [e1] at h; exact fin0 hR hz h (zle_r _)))
  rw [zin_b (n := 3) (by decide)]
  refine ifb (fun e2 => ?_) (fun e2 => by rw [e1, e2] at h; exact fin0 hR hz h (zle_r _))
  obtain ⟨j, hj, rfl⟩ := zb_of e1 (by decide)
  obtain ⟨i, hi, rfl⟩ := zb_of e2 (by decide)
  rw [e1, e2, nI_clamp (by omega)] at h
  refine cgR (x := some (B 6)) hR.1 rfl ⟨by omega, by omega, fun b hb hb0 => ?_⟩
  unfold wp_X26_init
  refine cp0 hb0 (by simp) (czd ?_)
  exact RC_th1 hR (ext_n (ext_r hz) hb) hz hj (Or.inr (Or.inr (Or.inl ⟨rfl, rfl, b, i, rfl, zu_s, hi, rfl⟩))) h
def sp_forget (X : zSg) (a : Int32) : Int32 × zSg := if zb a 5 then (nI (X.2.2.2.1 a.toNatClampNeg).1, xH X a.toNatClampNeg (0, (X.2.2.2.1 a.toNatClampNeg).2)) else (-1, X)
theorem c_forget {post : Int32 → zM → Prop} {a : Int32} (hR : RC D X B I M) (hz : zle I M) (h : done D X B I M (sp_forget X a).2 (post (sp_forget X a).1)) : wp_X0_forget D post (B 0) a M := by
  unfold wp_X0_forget
  unfold sp_forget at h
  refine c_isArgument (ifb (fun e1 => ?_) (fun e1 => by rw [e1] at h; exact fin0 hR hz h (zle_r _)))
  obtain ⟨j, hj, rfl⟩ := zb_of e1 (by decide)
  rw [e1, nI_clamp (by omega)] at h
  refine c_typeOf hR hz hj (cgR (x := some (B 6)) hR.1 rfl (czd ?_))
  exact RC_th1 hR (ext_r hz) hz hj (Or.inl ⟨rfl, rfl⟩) h
def sp_copy (X : zSg) (s c : Int32) : Int32 × zSg := if zb s 4 && zb c 4 then (match X.2.2.1 c.toNatClampNeg with | none => (-2, X) | some q => (nI (ztM 3 q.1), xS X s.toNatClampNeg (some q))) else (-1, X)
/-- a message is put into a slot -/
theorem RC_sl1 (hR : RC D X B I M) {I1 M1 : zM} (hx : ext (muA X B) I M I1 M1) (hM : ∀ a e, M a = some e → M1 a = some e) {j a : Nat} {q : zMs} {post : zM → Prop} (hj : j < 4) (hq : zMg I1 a q)
    (h : ∀ (M2 : zM), (∃ f, M1 (B 5) = some (.inl (8, 4, .inr (.inr (.inr (.inr f))))) ∧ M2 = zu M1 (B 5) (some (.inl (8, 4, .inr (.inr (.inr (.inr (va_up f j (some a))))))))) → ext (muA X B) I M I1 M2 → RC D (xS X j (some q)) B I1 M2 → post M2) : zsR D M1 (B 5) 8 (nI j) (some a) post := by
  obtain ⟨f, h1, h2⟩ := hR.2.2.2.1
  have h1' := hM _ _ h1
  refine csR h1' (RC_b hR (by decide)) (vp_in_nI hj (by decide)) (fun w hw => ?_) ?_
  · cases hw
    obtain ⟨P, L, T, f, g1, -⟩ := hq
    exact cis (hx.2.1 _ _ g1) (by decide)
  · rw [nI_clamp (by omega)]
    have hx2 : ext (muA X B) I M I1 (zu M1 (B 5) (some (.inl (8, 4, .inr (.inr (.inr (.inr (va_up f j (some a))))))))) := ext_p hx (Or.inl (mu_a (by decide))) (ext_0 hx h1 (RC_i hR (by decide)))
    obtain ⟨k1, k2, k3, k4, k5, k6, k7⟩ := RC_k hR [5] hx2.1 (RC_1 hR hx2 (J := [5]) (f := fun _ => .inr (0, [])) (by intro j hj; exact mu_i (by revert j; decide)) (fun a e ha hn => by
      rw [zu_n (hn 5 (by decide))]; exact hM _ _ ha))
    refine h _ ⟨f, h1', rfl⟩ hx2 ⟨k1 (by decide), k2 (by decide), k3 (by decide), ⟨va_up f j (some a), zu_s, fun i hi => ?_⟩, k5 (by decide), k6 (by decide), k7 (by decide) (by decide), RC_u hR hx2 rfl⟩
    show (zup X.2.2.1 j (some q) i = none ∧ va_up f j (some a) i = none) ∨ ∃ q' a', zup X.2.2.1 j (some q) i = some q' ∧ va_up f j (some a) i = some a' ∧ zMg I1 a' q'
    by_cases e : i = j
    · subst e; rw [va_up_s, zup_s]; exact Or.inr ⟨q, a, rfl, rfl, hq⟩
    · rw [va_up_n e, zup_n e]
      rcases h2 i hi with y | ⟨q', a', y1, y2, y3⟩
      · exact Or.inl y
      · exact Or.inr ⟨q', a', y1, y2, zMg_m hx.1 y3⟩
theorem c_copy {post : Int32 → zM → Prop} {s c : Int32} (hR : RC D X B I M) (hz : zle I M) (h : done D X B I M (sp_copy X s c).2 (post (sp_copy X s c).1)) : wp_X0_copy D post (B 0) s c M := by
  unfold wp_X0_copy wp_X0_copy_L14
  unfold sp_copy at h
  refine c_isSlot (ifb' (fun e1 => c_isSlot (ifb (fun e2 => ?_) (fun e2 => by rw [e1, e2] at h; exact fin0 hR hz h (zle_r _)))) (fun e1 => by rw [e1] at h; exact fin0 hR hz h (zle_r _)))
  obtain ⟨j, hj, rfl⟩ := zb_of e1 (by decide)
  obtain ⟨i, hi, rfl⟩ := zb_of e2 (by decide)
  rw [e1, e2, nI_clamp (by omega), nI_clamp (by omega)] at h
  simp only [Bool.and_true, if_true] at h
  obtain ⟨f, h1, h2⟩ := hR.2.2.2.1
  have hv := vp_in_nI hi (by decide : 4 < 2 ^ 31)
  have hcl : (nI i).toNatClampNeg = i := nI_clamp (by omega)
  refine cgR (x := some (B 5)) hR.1 rfl (czd (caR h1 hv ?_))
  rw [hcl]
  rcases h2 i hi with ⟨h3, h4⟩ | ⟨q, a, h3, h4, h5⟩
  · rw [h3] at h; rw [h4]
    exact ⟨fun b hb => (nomatch hb), fun _ => fin0 hR hz h (zle_r _)⟩
  · rw [h3] at h; rw [h4]
    refine ⟨fun b _ => ?_, fun z => (nomatch z)⟩
    refine cgR (x := some (B 5)) hR.1 rfl (cgR (x := some (B 5)) hR.1 rfl (czd (caR h1 hv ?_)))
    rw [hcl, h4]
    refine czd (RC_sl1 hR (ext_r hz) (fun _ _ h => h) hj h5 fun M2 hM2 hx2 hR2 => ?_)
    obtain ⟨f', k1, rfl⟩ := hM2
    refine cgR (x := some (B 5)) hR2.1 rfl (czd (caR zu_s (vp_in_nI hj (by decide)) ?_))
    rw [nI_clamp (by omega), va_up_s]
    obtain ⟨P, L, T, g, g1, -⟩ := h5
    exact czd (cgI (hx2.2.1 _ _ g1) rfl (fin h rfl hx2 hR2))
end CO6
