/-! the component's reader: a whole tape -/
section RH1
variable {D : zD} {X : zSg} {B : Nat → Nat} {I0 M0 I M : zM} {q : Nat × Nat × Nat × Nat} {E : Nat} {r : zRh} {cnt nest pld : Nat} {ca : List Nat}
theorem zRP_3 (hR : RC D X B I0 M0) (hJ : zJs D M0) (hE1 : ∃ g, I0 (D.2.2.2 1) = some (.inl (5, 0, .inr (.inr (.inr (.inr g)))))) : zRP D X B I0 M0 3 6 :=
  zRP_of hR hE1 (zRO_of hR (zRC_s hR hJ hE1 (zRP_of hR hE1 (zRO_of hR (zRC_s hR hJ hE1 (zRP_of hR hE1 (zRO_of hR (zRC_s hR hJ hE1 (zRP_of hR hE1 (zRO_of hR (zRC_0 (dd := 2) hR))))))))))) 
theorem r_need0 {post : Unit → zM → Prop} {xp : Nat → zM → Prop} {k n : Nat} {code : Int32} (hs : zle M0 M) (hk : 1 ≤ k) (hn : 7 ≤ n) (hx : zxr D M0 code xp) : wp_X0_need D post xp k n 0 code M :=
  ⟨fun z => absurd rfl z, fun _ => ⟨hk, hn, fun b hb hb0 => r_exc hx hs hb hb0 fun M' h => h⟩⟩
theorem r_mustA {post : Unit → zM → Prop} {xp : Nat → zM → Prop} {k n R p : Nat} {c : Bool} {v0 v2 v3 v4 v5 : Value} (hs : zle M0 M) (h5 : M R = some (.inr (9, [v0, .int (nI p), v2, v3, v4, v5]))) (hk : 1 ≤ k) (hn : 7 ≤ n) (h1 : c = true → post () M) (h2 : c = false → zxr D M0 (-1000 - nI p) xp) : zis M R [9] ∧ wp_X10_must D post xp k n R (b1 c) M := by
  refine ⟨cis h5 (by decide), ifb (fun e => h1 e) (fun e => ⟨cis h5 (by decide), k, n, Nat.le_refl _, Nat.le_refl _, ?_⟩)⟩
  unfold wp_X10_fault
  refine ⟨hk, hn, fun b hb hb0 => cgI (kw h5 hb) rfl (r_exc (h2 e) hs hb hb0 fun M' hM' => czd hM')⟩
/-- the message that has been read, as its cells now stand -/
def zwh8 (D : zD) (X : zSg) (B : Nat → Nat) (I0 M0 : zM) (q : Nat × Nat × Nat × Nat) (t : List (zN 3)) (r : zRh) (I M : zM) : Prop := zle M0 M ∧ ∃ (E : Nat) (P : Nat) (ca : List Nat) (M' : zM), zrs D (B 0) I0 M0 q I M' E r (ztM 3 t) 0 0 ca ∧ zPs I (zNd I 3) P t ∧ zLk I ca (zcs 3 0 0 t) ∧ r.2.1 ≤ 8 ∧
  M = zu M' q.2.1 (some (.inr (10, [.ref P, .int (nI (ztM 3 t)), .ref q.2.2.2, .ref q.2.2.1, .int r.2.2.2.1])))
theorem r_whole {post : Option Nat → zM → Prop} {xp : Nat → zM → Prop} {k n : Nat} (hR : RC D X B I0 M0) (hJ : zJs D M0) (hE1 : ∃ g, I0 (D.2.2.2 1) = some (.inl (5, 0, .inr (.inr (.inr (.inr g)))))) (h : zrs D (B 0) I0 M0 q I M E (0, 0, none, 0, fun _ => 0) 0 0 0 []) (hk : 985 ≤ k) (hn : 121500 ≤ n)
    (h1 : ∀ e, zrW (ztp X) X.2.1.length = .inl e → zxr D M0 (-1000 - nI e) xp) (h2 : ∀ p, zrW (ztp X) X.2.1.length = .inr (.inl p) → zxr D M0 (-2000 - nI p) xp) (h3 : ∀ t r, zrW (ztp X) X.2.1.length = .inr (.inr (t, r)) → ∀ I' M', zwh8 D X B I0 M0 q t r I' M' → post (some q.2.1) M') : zis M q.1 [9] ∧ wp_X10_whole D post xp k n q.1 M := by
  have hN : X.2.1.length ≤ 120 := hR.2.2.1.1
  refine ⟨r_is h, ?_⟩
  unfold wp_X10_whole
  unfold zrW at h1 h2 h3
  have hz : zrm X.2.1.length 0 (zrd (ztp X) X.2.1.length 3 false (0, 0, none, 0, fun _ => 0)) ≤ 121 := by
    cases e : zrd (ztp X) X.2.1.length 3 false (0, 0, none, 0, fun _ => 0) with
    | inl e0 => show X.2.1.length + 1 - 0 ≤ 121; omega
    | inr y =>
      obtain ⟨t, r⟩ := y
      have hx := zrd_x 3 false (0, 0, none, 0, fun _ => 0) t r (Nat.zero_le _) e
      have h4 : r.1 = 0 + (ztL 3 t).length := hx.2.1
      have h5 : 0 + (ztL 3 t).length ≤ X.2.1.length := hx.1.1
      show r.1 - 0 ≤ 121
      omega
  refine cgR (x := some q.2.1) h.2.2.2.2.1 rfl ?_
  have main := zRP_3 hR hJ hE1 false 0 0 (0, 0, none, 0, fun _ => 0) 0 [] q I M E (fun r24 M => (zd (some q.2.1) fun b27 => zp D M b27 10 0 (va_rf r24) fun M => (zgI M q.1 9 1 fun g28 => (zgR M q.1 9 5 fun g29 => ((zd g29 fun b30 => zgI M b30 0 4 fun g31 => ((¬ g28 = g31 → wp_X10_whole_L31 D post xp q.1 (k - 980) (n - 121450) (some q.1) (0 : Int32) M) ∧ (g28 = g31 → wp_X10_whole_L31 D post xp q.1 (k - 980) (n - 121450) (some q.1) (1 : Int32) M)))))))) xp 980 121450 (by decide) (by simp) (Nat.le_refl _) h (Nat.zero_le _) (Nat.zero_le _) (by show 8 * zrm X.2.1.length 0 _ + 10 ≤ _; omega) (by show 1000 * zrm X.2.1.length 0 _ + 400 ≤ _; omega) (fun e he => ?_) (fun t r he P I1 M1 E1 ca1 s1 x1 hps hlk h8 => ?_)
  · exact ⟨main.1, 980, 121450, by omega, by omega, main.2⟩
  · simp only [he] at h1
    exact h1 e rfl
  · simp only [he] at h1 h2 h3
    have hx := zrd_x 3 false (0, 0, none, 0, fun _ => 0) t r (Nat.zero_le _) he
    have h4 : r.1 = 0 + (ztL 3 t).length := hx.2.1
    have h5 : 0 + (ztL 3 t).length ≤ X.2.1.length := hx.1.1
    rw [Nat.zero_add, List.nil_append] at s1
    have g5 := s1.2.2.2.2.1
    have g6 := s1.2.2.2.2.2.1
    have hlie := s1.2.2.2.2.2.2.2.2.2
    have n12 : q.1 ≠ q.2.1 := kn_ne g5 g6 (by simp)
    have hM0 : M0 q.2.1 = none := s1.2.1.2.1
    refine czd (cp g6 s1.2.2.2.1.2.1 (by simp) ?_)
    simp only [List.set_cons_zero]
    have hz0 : zle M0 (zu M1 q.2.1 (some (.inr (10, [va_rf (some P), .int (nI (ztM 3 t)), .ref q.2.2.2, .ref q.2.2.1, .int r.2.2.2.1])))) := zle_put (zrs_0 s1) hM0
    have hw : zwh8 D X B I0 M0 q t r I1 (zu M1 q.2.1 (some (.inr (10, [va_rf (some P), .int (nI (ztM 3 t)), .ref q.2.2.2, .ref q.2.2.1, .int r.2.2.2.1])))) := ⟨hz0, E1, P, ca1, M1, s1, hps, hlk, h8, rfl⟩
    have g5' : zu M1 q.2.1 (some (.inr (10, [va_rf (some P), .int (nI (ztM 3 t)), .ref q.2.2.2, .ref q.2.2.1, .int r.2.2.2.1]))) q.1 = some (.inr (9, [.ref q.2.1, .int (nI r.1), .int (nI 0), .int (nI 0), .int (zwi r.2.2.1), .ref (B 0)])) := by rw [zu_n n12]; exact g5
    generalize zu M1 q.2.1 (some (.inr (10, [va_rf (some P), .int (nI (ztM 3 t)), .ref q.2.2.2, .ref q.2.2.1, .int r.2.2.2.1]))) = M2 at hz0 hw g5' ⊢
    have ho := hz0 _ _ hR.1
    refine cgI g5' rfl (cgR (x := some (B 0)) g5' rfl (czd (cgI ho rfl ?_)))
    rw [nI_eq (by omega) (by omega)]
    unfold wp_X10_whole_L31 wp_X10_whole_L46
    refine ⟨fun z => czd ?_, fun z => czd ?_⟩
    · rw [if_neg z] at h1
      exact ⟨cis g5' (by decide), 1, 7, by omega, by omega, (r_mustA (c := false) hz0 g5' (Nat.le_refl _) (Nat.le_refl _) (fun y => (nomatch y)) (fun _ => h1 _ rfl)).2⟩
    · rw [if_pos z] at h1 h2 h3
      refine ⟨cis g5' (by decide), 1, 7, by omega, by omega, (r_mustA (c := true) hz0 g5' (Nat.le_refl _) (Nat.le_refl _) (fun _ => ?_) (fun y => (nomatch y))).2⟩
      · refine cgI g5' rfl ?_
        cases e9 : r.2.2.1 with
        | none =>
          refine ⟨fun z2 => absurd z2 (by decide), fun _ => cgI g5' rfl ⟨0, 0, by omega, by omega, fun _ => cgR (x := some q.2.1) g5' rfl ?_, fun z2 => absurd z2 (by decide)⟩⟩
          simp only [e9] at h3
          exact h3 t r rfl I1 M2 hw
        | some p =>
          simp only [e9] at h2
          have hp120 := hlie p e9
          refine ⟨fun _ => cgI g5' rfl ⟨1, 7, by omega, by omega, ?_⟩, fun z2 => absurd (nI_pos' (by omega)) z2⟩
          rw [e9]
          exact r_need0 hz0 (Nat.le_refl _) (Nat.le_refl _) (h2 p rfl)
/-- cells kept, the component's as they were -/
theorem RC_z (hR : RC D X B I M) (hz : zle I M) {M' : zM} (hm : zle M M') : RC D X B I M' := by
  have hx : ext (muA X B) I M I M' := ext_le hz hm
  obtain ⟨k1, k2, k3, k4, k5, k6, k7⟩ := RC_k (I' := I) (M' := M') hR [] (zle_r _) (fun i hi _ => by
    obtain ⟨v, h1, -⟩ := RC_tag hR hi
    rw [h1, hm _ _ h1])
  exact ⟨k1 (by simp), k2 (by simp), k3 (by simp), k4 (by simp), k5 (by simp), k6 (by simp), k7 (by simp) (by simp), RC_u hR hx rfl⟩
/-- the tape is emptied -/
theorem RC_wp (hR : RC D X B I M) (hz : zle I M) : ext (muA X B) I M I (zu M (B 0) (some (.inr (0, [.ref (B 2), .ref (B 1), .int (nI X.2.2.2.2.1.length), .ref (B 3), .int 0, .ref (B 5), .ref (B 6), .ref (B 7)])))) ∧
    RC D (xT X []) B I (zu M (B 0) (some (.inr (0, [.ref (B 2), .ref (B 1), .int (nI X.2.2.2.2.1.length), .ref (B 3), .int 0, .ref (B 5), .ref (B 6), .ref (B 7)])))) := by
  have hR0 := hR
  obtain ⟨ho, ⟨w1, f, w2, w3⟩, ⟨t1, g, t2, t3⟩, -⟩ := hR0
  have n1 : B 1 ≠ B 0 := kn_ne w2 ho (by simp)
  have n3 : B 3 ≠ B 0 := kn_ne t2 ho (by simp)
  exact RC_o (X' := xT X []) hR hz (RC_i hR (by decide)) rfl rfl rfl rfl (by unfold RCo; rw [zu_s]; rfl) ⟨w1, f, by rw [zu_n n1]; exact w2, w3⟩ ⟨Nat.zero_le _, g, by rw [zu_n n3]; exact t2, fun i c hc => by cases hc⟩
def sp_read (X : zSg) (s : Int32) : Int32 × zSg := if zb s 4 then (match zrW (ztp X) X.2.1.length with | .inl e => (-1000 - nI e, xT X []) | .inr (.inl p) => (-2000 - nI p, xT X []) | .inr (.inr (t, r)) => (nI r.2.1, xT (xS X s.toNatClampNeg (some (t, r.2.2.2.1, r.2.2.2.2))) [])) else (-1, X)
end RH1
