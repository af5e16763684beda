/-! the component's reader: a branch -/
/-- one branch -/
def zrb1 (tp : Nat → Int32) (n : Nat) {d : Nat} (sub : zRh → Nat ⊕ (List (zN d) × zRh)) (kd : Bool) (acc : List (List Int32 × List (zN d))) (r : zRh) : Nat ⊕ ((List Int32 × List (zN d)) × zRh) :=
  if acc.length = 10 then .inl r.1 else
  match zkey tp n kd r.1 with
  | .inl e => .inl e
  | .inr kt => if zhr tp n (r.1 + kt.length) ≠ 40 then .inl (r.1 + kt.length) else
    match sub (r.1 + kt.length + 1, r.2.1, (if acc.any (fun b => zkv kd b.1 == zkv kd kt) then zlie r.2.2.1 r.1 else r.2.2.1), r.2.2.2) with
    | .inl e => .inl e
    | .inr (t, r2) => if zhr tp n r2.1 ≠ 41 then .inl r2.1 else .inr ((kt, t), (r2.1 + 1, r2.2))
theorem zrB_s {tp : Nat → Int32} {n d f : Nat} {sub : zRh → Nat ⊕ (List (zN d) × zRh)} {kd : Bool} {acc : List (List Int32 × List (zN d))} {r : zRh} :
    (∀ e, zrb1 tp n sub kd acc r = .inl e → zrB tp n sub kd (f + 1) acc r = .inl e) ∧ (∀ b r3, zrb1 tp n sub kd acc r = .inr (b, r3) → zrB tp n sub kd (f + 1) acc r = if zhr tp n r3.1 = 125 then .inr (acc ++ [b], r3) else zrB tp n sub kd f (acc ++ [b]) r3) := by
  unfold zrb1
  rw [zrB]
  by_cases h1 : acc.length = 10
  · rw [if_pos h1]
    refine ⟨fun e h => ?_, fun b r3 h => (nomatch h)⟩
    rw [if_pos h1]; cases h; rfl
  rw [if_neg h1, if_neg h1]
  cases hk : zkey tp n kd r.1 with
  | inl e0 => exact ⟨fun e h => by cases h; rfl, fun b r3 h => (nomatch h)⟩
  | inr kt =>
    simp only
    by_cases h2 : zhr tp n (r.1 + kt.length) ≠ 40
    · rw [if_pos h2, if_pos h2]
      exact ⟨fun e h => by cases h; rfl, fun b r3 h => (nomatch h)⟩
    rw [if_neg h2, if_neg h2]
    cases hs : sub (r.1 + kt.length + 1, r.2.1, (if acc.any (fun b => zkv kd b.1 == zkv kd kt) then zlie r.2.2.1 r.1 else r.2.2.1), r.2.2.2) with
    | inl e0 => exact ⟨fun e h => by cases h; rfl, fun b r3 h => (nomatch h)⟩
    | inr y =>
      obtain ⟨t, r2⟩ := y
      simp only
      by_cases h3 : zhr tp n r2.1 ≠ 41
      · rw [if_pos h3, if_pos h3]
        exact ⟨fun e h => by cases h; rfl, fun b r3 h => (nomatch h)⟩
      rw [if_neg h3, if_neg h3]
      refine ⟨fun e h => (nomatch h), fun b r3 h => ?_⟩
      cases h
      rfl
theorem zrb1_x {tp : Nat → Int32} {n d : Nat} {sub : zRh → Nat ⊕ (List (zN d) × zRh)} {kd : Bool} {acc : List (List Int32 × List (zN d))} {r r3 : zRh} {b : List Int32 × List (zN d)} (hsub : ∀ (r : zRh) (t : List (zN d)) (r1 : zRh), r.1 ≤ n → sub r = .inr (t, r1) → r1.1 = r.1 + (ztL d t).length)
    (h : zrb1 tp n sub kd acc r = .inr (b, r3)) : r3.1 = r.1 + (zbL d b).length ∧ r3.1 ≤ n ∧ zkey tp n kd r.1 = .inr b.1 ∧ acc.length ≠ 10 := by
  unfold zrb1 at h
  by_cases h1 : acc.length = 10
  · rw [if_pos h1] at h; cases h
  rw [if_neg h1] at h
  cases hk : zkey tp n kd r.1 with
  | inl e0 => rw [hk] at h; cases h
  | inr kt =>
    rw [hk] at h
    simp only at h
    by_cases h2 : zhr tp n (r.1 + kt.length) ≠ 40
    · rw [if_pos h2] at h; cases h
    rw [if_neg h2] at h
    have h2' := zhr_t (Classical.not_not.mp h2) (by decide)
    cases hs : sub (r.1 + kt.length + 1, r.2.1, (if acc.any (fun b => zkv kd b.1 == zkv kd kt) then zlie r.2.2.1 r.1 else r.2.2.1), r.2.2.2) with
    | inl e0 => rw [hs] at h; cases h
    | inr y =>
      obtain ⟨t, r2⟩ := y
      rw [hs] at h
      simp only at h
      by_cases h3 : zhr tp n r2.1 ≠ 41
      · rw [if_pos h3] at h; cases h
      rw [if_neg h3] at h
      have h3' := zhr_t (Classical.not_not.mp h3) (by decide)
      cases h
      have h4 := hsub _ t r2 (by show r.1 + kt.length + 1 ≤ n; omega) hs
      have h4' : r2.1 = r.1 + kt.length + 1 + (ztL d t).length := h4
      refine ⟨?_, by show r2.1 + 1 ≤ n; omega, rfl, h1⟩
      show r2.1 + 1 = r.1 + (kt ++ 40 :: (ztL d t ++ [41])).length
      simp only [List.length_append, List.length_cons, List.length_nil]
      omega
theorem zrb1_1 {tp : Nat → Int32} {n d : Nat} {sub : zRh → Nat ⊕ (List (zN d) × zRh)} {kd : Bool} {acc : List (List Int32 × List (zN d))} {r : zRh} (hsub : ∀ (r : zRh) (t : List (zN d)) (r1 : zRh), r.1 ≤ n → sub r = .inr (t, r1) → r1.1 = r.1 + (ztL d t).length) (hr : r.1 ≤ n) : 1 ≤ zrm n r.1 (zrb1 tp n sub kd acc r) := by
  cases e : zrb1 tp n sub kd acc r with
  | inl e0 => show 1 ≤ n + 1 - r.1; omega
  | inr y =>
    obtain ⟨b, r3⟩ := y
    have := zrb1_x hsub e
    show 1 ≤ r3.1 - r.1
    have h2 : 1 ≤ (zbL d b).length := by
      show 1 ≤ (b.1 ++ 40 :: (ztL d b.2 ++ [41])).length
      simp only [List.length_append, List.length_cons]
      omega
    omega
theorem zix_any {α : Type} {f : α → Nat} {q : Nat} : ∀ (l : List α), (zix q 0 (l.map f)).isSome = l.any (fun b => f b == q)
  | [] => rfl
  | x :: l => by
    have := zhas_c (x := f x) (k := q) (l := l.map f)
    unfold zhas at this
    rw [List.map_cons, this, zix_any l, List.any_cons]
    congr 1
/-- the branches that stand, as a choice's -/
def zBr (I : zM) (d : Nat) (kd : Bool) (acc : List (List Int32 × List (zN d))) (ba : List Nat) : Prop := acc.length = ba.length ∧ ∀ (i : Nat) (b : List Int32 × List (zN d)), acc[i]? = some b → ∃ x P, ba[i]? = some x ∧ I x = some (.inr (20, [.int (nI (zkv kd b.1)), .ref P])) ∧ zPs I (zNd I d) P b.2
theorem zBr_m {I I' : zM} {d : Nat} {kd : Bool} {acc : List (List Int32 × List (zN d))} {ba : List Nat} (h : zBr I d kd acc ba) (hz : zle I I') : zBr I' d kd acc ba :=
  ⟨h.1, fun i b hb => by obtain ⟨x, P, h1, h2, h3⟩ := h.2 i b hb; exact ⟨x, P, h1, hz _ _ h2, zPs_m hz (fun a x _ hx => zNd_m hz d a x hx) h3⟩⟩
section RE1
variable {D : zD} {X : zSg} {B : Nat → Nat} {I0 M0 I M Is Ms : zM} {q : Nat × Nat × Nat × Nat} {E Es : Nat} {r : zRh} {cnt nest pld : Nat} {ca ba : List Nat} {d : Nat} {kd : Bool} {acc : List (List Int32 × List (zN d))} {C Lb Eb a u : Nat}
def zci (kd : Bool) : Nat := if kd then 18 else 19
theorem zcx8_2 {kd : Bool} {a n : Nat} {ks : List Nat} : (zcx8 kd a n ks).2.2.2.2 = ks.map fun q => (q, 0) := rfl
theorem zov_ch (hv : zov D M0 q E I M Lb Eb ba) (hz : zle I M) (hC : I C = some (.inr (zci kd, [.ref Lb, .int (nI u), .int (nI a)]))) (hb : zBr I d kd acc ba) (h10 : acc.length ≤ 10) : zCh0 M C (zcx8 kd a u (acc.map (zkf kd))) := by
  obtain ⟨⟨k1, k2, k3, k4, mc', cap', g', k5, k6, k7, k8, k9, k10⟩, n1, n2⟩ := hv
  refine ⟨Lb, ?_, g', ⟨mc', Eb, cap', ?_, k6, ?_, ?_⟩, fun i y hy => ?_⟩
  · have e : (if (zcx8 kd a u (acc.map (zkf kd))).2.1 = 1 then 18 else 19) = zci kd := by cases kd <;> rfl
    rw [e]
    exact hz _ _ hC
  · rw [zcx8_2, List.length_map, List.length_map, hb.1]; exact k5
  · rw [zcx8_2, List.length_map, List.length_map, hb.1]; exact k7
  · have := hb.1; omega
  · rw [zcx8_2, List.map_map, List.getElem?_map] at hy
    cases e : acc[i]? with
    | none => rw [e] at hy; cases hy
    | some b =>
      rw [e] at hy
      cases hy
      obtain ⟨x, P, h1, h2, -⟩ := hb.2 i b e
      exact ⟨x, k9 i x h1, P, hz _ _ h2⟩
theorem r_kindA {P : Int32 → zM → Prop} (hM : zis M C [zci kd]) (h : P (if kd then 1 else 2) M) : (zis M C [18] ∧ wp_X21_kind D P C M) ∨ (zis M C [19] ∧ wp_X22_kind D P C M) := by
  cases kd
  · exact Or.inr ⟨hM, h⟩
  · exact Or.inl ⟨hM, h⟩
/-- a branch's key -/
theorem r_key {dd k n : Nat} {x2 : Int32} {post : Unit → zM → Prop} {xp : Nat → zM → Prop} (hR : RC D X B I0 M0) (hJ : zJs D M0) (h : zrs D (B 0) I0 M0 q I M E r cnt nest pld ca) (hr : r.1 ≤ X.2.1.length) (hk : 1 ≤ k) (hn : 7 ≤ n) (hC : zis I C [zci kd])
    (hf : ∀ e, zkey (ztp X) X.2.1.length kd r.1 = .inl e → zxr D M0 (-1000 - nI e) xp)
    (hp : ∀ kt, zkey (ztp X) X.2.1.length kd r.1 = .inr kt → ∀ M', zrs D (B 0) I0 M0 q I M' E (r.1 + kt.length, r.2) cnt nest pld ca → zsx q E I M E I M' → wp_X10_branch_L85 D (wp_X10_parts D dd) post xp q.1 (k - 1) (n - 7) (some C) x2 (nI (zkv kd kt)) M') :
    (zis M C [18] ∧ wp_X21_kind D (fun r116 M => wp_X10_branch_L30 D (wp_X10_parts D dd) post xp q.1 k n (some C) x2 r116 M) C M) ∨ (zis M C [19] ∧ wp_X22_kind D (fun r119 M => wp_X10_branch_L30 D (wp_X10_parts D dd) post xp q.1 k n (some C) x2 r119 M) C M) := by
  unfold zkey at hf hp
  have l53 : ∀ M1, zrs D (B 0) I0 M0 q I M1 E r cnt nest pld ca → zsx q E I M E I M1 → (kd = true → zhr (ztp X) X.2.1.length r.1 ≠ 61) → wp_X10_branch_L53 D (wp_X10_parts D dd) post xp q.1 k n (some C) x2 M1 := by
    intro M1 s1 y1 h61
    have hC1 := zis_m (zrs_z s1) hC
    have l82 : ∀ y2 : Int32, wp_X10_branch_L82 D (wp_X10_parts D dd) post xp q.1 k n (some C) x2 (some q.1) (some (D.2.2.2 (10 + (if kd then 3 else 4)))) y2 M1 := by
      intro y2
      unfold wp_X10_branch_L82
      refine czd ⟨r_is s1, 1, 7, hk, hn, (r_letter hR hJ s1 hr (Nat.le_refl _) (Nat.le_refl _) (fun e => ?_) (fun e M2 s2 y2 => ?_)).2⟩
      · rw [if_neg (by rw [e]; decide), if_neg (by
          intro z
          rw [Bool.and_eq_true, decide_eq_true_eq] at z
          exact h61 z.1 z.2)] at hf
        exact hf _ rfl
      · rw [if_pos e] at hp
        exact hp _ rfl M2 s2 (zsx_t y1 y2)
    unfold wp_X10_branch_L53 wp_X10_branch_L58 wp_X10_branch_L69 wp_X10_branch_L73
    refine czd (r_kindA hC1 ?_)
    cases kd
    · refine ⟨fun _ => czd (r_kindA hC1 ⟨fun _ => l82 0, fun z => absurd z (by decide)⟩), fun z => absurd z (by decide)⟩
    · refine ⟨fun z => absurd rfl z, fun _ => czd (r_kindA hC1 ⟨fun z => absurd rfl z, fun _ => l82 1⟩)⟩
  refine r_kindA (zis_m (zrs_z h) hC) ?_
  unfold wp_X10_branch_L30
  cases kd
  · exact ⟨fun _ => l53 M h (zsx_r (zrs_z h)) (fun z => (nomatch z)), fun z => absurd z (by decide)⟩
  · refine ⟨fun z => absurd rfl z, fun _ => r_takes hR h hr (fun z M1 s1 y1 => ⟨fun y => absurd y (by decide), fun _ => ?_⟩) (fun z M1 s1 y1 => ⟨fun _ => l53 M1 s1 y1 (fun _ => z), fun y => absurd rfl y⟩)⟩
    have e1 : zkl true (zhr (ztp X) X.2.1.length r.1) = false := by rw [z]; decide
    have e2 : (true && decide (zhr (ztp X) X.2.1.length r.1 = 61)) = true := by rw [decide_eq_true z]; rfl
    rw [e1, e2, if_neg (by decide), if_pos rfl] at hf hp
    refine ⟨r_is s1, 1, 7, hk, hn, (r_number hR s1 (pos_n z (by decide)) (Nat.le_refl _) (Nat.le_refl _) (fun e => ?_) (fun e M2 s2 y2 => ?_)).2⟩
    · have e' : zdgt (zhr (ztp X) X.2.1.length (r.1 + 1)) = false := e
      rw [if_neg (by rw [e']; decide)] at hf
      exact hf _ rfl
    · have e' : zdgt (zhr (ztp X) X.2.1.length (r.1 + 1)) = true := e
      rw [if_pos e'] at hp
      have s2' : zrs D (B 0) I0 M0 q I M2 E (r.1 + 1 + (zdgs (ztp X) X.2.1.length 3 (r.1 + 1)).length, r.2) cnt nest pld ca := s2
      have := hp _ rfl M2 (by
        rw [List.length_cons, ← Nat.add_assoc, Nat.add_right_comm]
        exact s2') (zsx_t y1 y2)
      show wp_X10_branch_L85 D (wp_X10_parts D dd) post xp q.1 (k - 1) (n - 7) (some C) x2 ((10 : Int32) + nI (zdv 0 (zdgs (ztp X) X.2.1.length 3 (r.1 + 1)))) M2
      rw [show (10 : Int32) = nI 10 from rfl, nI_add]
      exact this
theorem r_branch {dd : Nat} {post : Unit → zM → Prop} {xp : Nat → zM → Prop} {k n : Nat} {pl : Bool} (hR : RC D X B I0 M0) (hJ : zJs D M0) (hE0 : I0 (D.2.2.2 1) ≠ none) (hP : zRP D X B I0 M0 d dd) (hu : u + 1 + d = 3) (hpl : pl = true ↔ 0 < pld) (hpu : pld ≤ u + 1)
    (h : zrs D (B 0) I0 M0 q I M E r cnt (u + 1) pld ca) (hr : r.1 ≤ X.2.1.length) (h8 : r.2.1 ≤ 8) (hx : zsx q Es Is Ms E I M) (hL : Ms Lb = none) (hEb : I Eb = none → Ms Eb = none) (hv : zov D M0 q E I M Lb Eb ba) (hC : I C = some (.inr (zci kd, [.ref Lb, .int (nI u), .int (nI a)]))) (hb : zBr I d kd acc ba) (h10 : acc.length ≤ 10) (hkey : ∀ b ∈ acc, zkv kd b.1 ≤ 1009)
    (hk : 8 * zrm X.2.1.length r.1 (zrb1 (ztp X) X.2.1.length (zrd (ztp X) X.2.1.length d pl) kd acc r) ≤ k + 3) (hn : 1000 * zrm X.2.1.length r.1 (zrb1 (ztp X) X.2.1.length (zrd (ztp X) X.2.1.length d pl) kd acc r) ≤ n + 900)
    (hf : ∀ e, zrb1 (ztp X) X.2.1.length (zrd (ztp X) X.2.1.length d pl) kd acc r = .inl e → zxr D M0 (-1000 - nI e) xp)
    (hp : ∀ b r3, zrb1 (ztp X) X.2.1.length (zrd (ztp X) X.2.1.length d pl) kd acc r = .inr (b, r3) → ∀ I' M' E' Eb' x ca', zrs D (B 0) I0 M0 q I' M' E' r3 (cnt + ztM d b.2) (u + 1) pld (ca ++ ca') → zsx q Es Is Ms E' I' M' → zov D M0 q E' I' M' Lb Eb' (ba ++ [x]) → (I' Eb' = none → Ms Eb' = none) → zle I I' → zBr I' d kd (acc ++ [b]) (ba ++ [x]) → zLk I' ca' (zcs d (u + 1) (r.1 + b.1.length + 1) b.2) → r3.2.1 ≤ 8 → post () M') :
    zis M q.1 [9] ∧ wp_X10_branch D (wp_X10_parts D dd) post xp k n q.1 (some C) M := by
  have hN : X.2.1.length ≤ 120 := hR.2.2.1.1
  have hm : ∀ {I' : zM}, (zci kd, 0) ∈ ([(18, 0), (19, 0)] : List (Nat × Nat)) := fun {_} => by cases kd <;> decide
  have hsz : zis M Lb [26] ∧ ∀ (P : Int32 → zM → Prop), P (nI acc.length) M → wp_J3_size D P Lb M := by
    obtain ⟨⟨k1, k2, k3, k4, mc', cap', g', k5, k6, k7, k8, k9, k10⟩, n1, n2⟩ := hv
    exact ⟨cis k5 (by decide), fun P hP => cgI k5 rfl (by rw [hb.1] at hP; exact hP)⟩
  have hC' : ∀ {I' M' : zM}, zle I I' → zle I' M' → M' C = some (.inr (zci kd, [.ref Lb, .int (nI u), .int (nI a)])) := fun h1 h2 => h2 _ _ (h1 _ _ hC)
  have hCi : ∀ {I' M' : zM}, zle I I' → zle I' M' → zis M' C [zci kd] := fun h1 h2 => cis (hC' h1 h2) (List.mem_singleton.mpr rfl)
  have hsub : ∀ (r : zRh) (t : List (zN d)) (r1 : zRh), r.1 ≤ X.2.1.length → zrd (ztp X) X.2.1.length d pl r = .inr (t, r1) → r1.1 = r.1 + (ztL d t).length := fun r t r1 hr hh => (zrd_x d pl r t r1 hr hh).2.1
  have hz1 := zrb1_1 (tp := ztp X) (kd := kd) (acc := acc) hsub hr
  have hk5 : 5 ≤ k := by omega
  have hn100 : 100 ≤ n := by omega
  unfold zrb1 at hk hn hf hp
  refine ⟨r_is h, ?_⟩
  unfold wp_X10_branch
  refine cgI h.2.2.2.2.1 rfl (czd (cgRm (k := 0) (x := some Lb) (hC' (zle_r _) (zrs_z h)) (hm (I' := I)) rfl (czd ⟨hsz.1, hsz.2 _ ?_⟩)))
  rw [show (10 : Int32) = nI 10 from rfl, nI_leI (by decide) (by omega)]
  unfold wp_X10_branch_L23
  by_cases hl10 : acc.length = 10
  · rw [if_pos hl10] at hk hn hf
    exact ⟨fun _ => czd ⟨r_is h, 1, 7, by omega, by omega, (r_must (c := false) h (Nat.le_refl _) (Nat.le_refl _) (fun y => (nomatch y)) (fun _ => hf _ rfl)).2⟩, fun z => absurd (by omega) z⟩
  rw [if_neg hl10] at hk hn hf hp
  refine ⟨fun z => absurd z (by omega), fun _ => czd ⟨r_is h, 1, 7, by omega, by omega, (r_must (c := true) h (Nat.le_refl _) (Nat.le_refl _) (fun _ => czd ?_) (fun y => (nomatch y))).2⟩⟩
  refine r_key hR hJ h hr (by omega) (by omega) (cis hC (List.mem_singleton.mpr rfl)) (fun e he => by simp only [he] at hf; exact hf _ rfl) fun kt hkt M2 s2 y2 => ?_
  simp only [hkt] at hk hn hf hp
  have hkok := zkey_ok hkt
  have hkat := (zkey_at hkt).1
  have hkl : 1 ≤ kt.length := by
    cases kt with
    | nil => exact absurd rfl hkok.1
    | cons x kt => simp
  have v2 := zov_k h hv y2
  have hch := zov_ch v2 (zrs_z s2) hC hb h10
  -- what comes behind the key
  have l101 : ∀ M3, zrs D (B 0) I0 M0 q I M3 E (r.1 + kt.length, r.2.1, (if acc.any (fun b => zkv kd b.1 == zkv kd kt) then zlie r.2.2.1 r.1 else r.2.2.1), r.2.2.2) cnt (u + 1) pld ca → zsx q E I M E I M3 → wp_X10_branch_L101 D (wp_X10_parts D dd) post xp q.1 (k - 1 - 1) (n - 7 - 7) (some C) (nI (zkv kd kt)) M3 := by
    intro M3 s3 y3
    unfold wp_X10_branch_L101
    refine ⟨r_is s3, 1, 7, by omega, by omega, (r_wants hR s3 hkat (Nat.le_refl _) (Nat.le_refl _) (fun z M4 s4 y4 => ?_) (fun z => ?_)).2⟩
    rotate_left
    · have z' : zhr (ztp X) X.2.1.length (r.1 + kt.length) ≠ 40 := z
      rw [if_pos z'] at hf
      exact hf _ rfl
    have z' : zhr (ztp X) X.2.1.length (r.1 + kt.length) = 40 := z
    have z2 : ¬ zhr (ztp X) X.2.1.length (r.1 + kt.length) ≠ 40 := fun y => y z'
    rw [if_neg z2] at hk hn hf hp
    have hr4 := pos_n z' (by decide)
    have x4 := zsx_t y3 y4
    have v4 := zov_k h hv x4
    cases hs : zrd (ztp X) X.2.1.length d pl (r.1 + kt.length + 1, r.2.1, (if acc.any (fun b => zkv kd b.1 == zkv kd kt) then zlie r.2.2.1 r.1 else r.2.2.1), r.2.2.2) with
    | inl e =>
      simp only [hs] at hk hn hf
      have hk' : 8 * (X.2.1.length + 1 - r.1) ≤ k + 3 := hk
      have hn' : 1000 * (X.2.1.length + 1 - r.1) ≤ n + 900 := hn
      have hzz : zrm X.2.1.length (r.1 + kt.length + 1) (zrd (ztp X) X.2.1.length d pl (r.1 + kt.length + 1, r.2.1, (if acc.any (fun b => zkv kd b.1 == zkv kd kt) then zlie r.2.2.1 r.1 else r.2.2.1), r.2.2.2)) = X.2.1.length + 1 - (r.1 + kt.length + 1) := by rw [hs]; rfl
      have main := hP pl (u + 1) pld _ cnt ca q I M4 E (fun r4 M => ((zis M q.1 [9] ∧ (∃ k8 n9, k8 ≤ ((k - 1 - 1 - 1) - (k - 1 - 1 - 1)) ∧ n9 ≤ ((n - 7 - 7 - 7) - (n - 7 - 7 - 7)) ∧ wp_X10_wants D (fun _ M => ((zd (some C) fun b10 => zgRm M b10 [(18, 0), (19, 0)] fun g11 => (znew D M 20 2 [.int 0, .null] (((k - 1 - 1 - 1) - (k - 1 - 1 - 1)) - k8) (((n - 7 - 7 - 7) - (n - 7 - 7 - 7)) - n9) fun b12 M => (wp_X23_init D (fun _ M => ((zd g11 fun b16 => (zis M b16 [26] ∧ (∃ k18 n19, k18 ≤ ((((k - 1 - 1 - 1) - (k - 1 - 1 - 1)) - k8) - 1) ∧ n19 ≤ ((((n - 7 - 7 - 7) - (n - 7 - 7 - 7)) - n9) - 2) ∧ wp_J3_add D (fun r17 M => post () M) k18 n19 b16 (some b12) M))))) b12 (nI (zkv kd kt)) r4 M))))) xp k8 n9 q.1 (41 : Int32) M)))) xp (k - 1 - 1 - 1) (n - 7 - 7 - 7) hu hpl hpu s4 hr4 h8 (by show 8 * zrm X.2.1.length (r.1 + kt.length + 1) _ + 10 ≤ _; rw [hzz]; omega) (by show 1000 * zrm X.2.1.length (r.1 + kt.length + 1) _ + 400 ≤ _; rw [hzz]; omega) (fun e' he' => by rw [hs] at he'; cases he'; exact hf _ rfl) (fun t r' ht => by rw [hs] at ht; cases ht)
      exact ⟨main.1, _, _, Nat.le_refl _, Nat.le_refl _, main.2⟩
    | inr y =>
      obtain ⟨t, r2⟩ := y
      simp only [hs] at hk hn hf hp
      have hr2 : r2.1 = r.1 + kt.length + 1 + (ztL d t).length := hsub _ t r2 hr4 hs
      have hr2N : r2.1 ≤ X.2.1.length := by
        have := (zrd_x d pl _ t r2 hr4 hs).1.1
        rw [hr2]; exact this
      -- there's room
      have hroom : 8 * (r2.1 - (r.1 + kt.length + 1)) + 10 + 3 ≤ k - 3 ∧ 1000 * (r2.1 - (r.1 + kt.length + 1)) + 400 + 310 ≤ n - 21 := by
        by_cases h3 : zhr (ztp X) X.2.1.length r2.1 ≠ 41
        · rw [if_pos h3] at hk hn
          have hk' : 8 * (X.2.1.length + 1 - r.1) ≤ k + 3 := hk
          have hn' : 1000 * (X.2.1.length + 1 - r.1) ≤ n + 900 := hn
          omega
        · rw [if_neg h3] at hk hn
          have hk' : 8 * (r2.1 + 1 - r.1) ≤ k + 3 := hk
          have hn' : 1000 * (r2.1 + 1 - r.1) ≤ n + 900 := hn
          omega
      have hzz : zrm X.2.1.length (r.1 + kt.length + 1) (zrd (ztp X) X.2.1.length d pl (r.1 + kt.length + 1, r.2.1, (if acc.any (fun b => zkv kd b.1 == zkv kd kt) then zlie r.2.2.1 r.1 else r.2.2.1), r.2.2.2)) = r2.1 - (r.1 + kt.length + 1) := by rw [hs]; rfl
      generalize hK5 : 8 * (r2.1 - (r.1 + kt.length + 1)) + 10 = k5 at hroom
      generalize hN6 : 1000 * (r2.1 - (r.1 + kt.length + 1)) + 400 = n6 at hroom
      have main := hP pl (u + 1) pld _ cnt ca q I M4 E (fun r4 M => ((zis M q.1 [9] ∧ (∃ k8 n9, k8 ≤ ((k - 1 - 1 - 1) - k5) ∧ n9 ≤ ((n - 7 - 7 - 7) - n6) ∧ wp_X10_wants D (fun _ M => ((zd (some C) fun b10 => zgRm M b10 [(18, 0), (19, 0)] fun g11 => (znew D M 20 2 [.int 0, .null] (((k - 1 - 1 - 1) - k5) - k8) (((n - 7 - 7 - 7) - n6) - n9) fun b12 M => (wp_X23_init D (fun _ M => ((zd g11 fun b16 => (zis M b16 [26] ∧ (∃ k18 n19, k18 ≤ ((((k - 1 - 1 - 1) - k5) - k8) - 1) ∧ n19 ≤ ((((n - 7 - 7 - 7) - n6) - n9) - 2) ∧ wp_J3_add D (fun r17 M => post () M) k18 n19 b16 (some b12) M))))) b12 (nI (zkv kd kt)) r4 M))))) xp k8 n9 q.1 (41 : Int32) M)))) xp k5 n6 hu hpl hpu s4 hr4 h8 (by show 8 * zrm X.2.1.length (r.1 + kt.length + 1) _ + 10 ≤ _; rw [hzz]; omega) (by show 1000 * zrm X.2.1.length (r.1 + kt.length + 1) _ + 400 ≤ _; rw [hzz]; omega) (fun e' he' => by rw [hs] at he'; cases he') (fun t' r' ht b I5 M5 E5 ca5 s5 x5 hps hlk h85 => ?_)
      · exact ⟨main.1, k5, n6, by omega, by omega, main.2⟩
      · rw [hs] at ht
        cases ht
        have v5 := zov_k s4 v4 x5
        refine ⟨r_is s5, 1, 7, by omega, by omega, (r_wants hR s5 hr2N (Nat.le_refl _) (Nat.le_refl _) (fun z6 M6 s6 x6 => ?_) (fun z6 => ?_)).2⟩
        rotate_left
        · rw [if_pos z6] at hf
          exact hf _ rfl
        have z7 : ¬ zhr (ztp X) X.2.1.length r2.1 ≠ 41 := fun y => y z6
        rw [if_neg z7] at hp
        have v6 := zov_k s5 v5 x6
        have hI5 : zle I I5 := zsx_i x5
        refine czd (cgRm (k := 0) (x := some Lb) (hC' hI5 (zrs_z s6)) (hm (I' := I)) rfl ⟨by omega, by omega, fun b' hb' hb0' => ?_⟩)
        unfold wp_X23_init
        refine cp0 hb0' (by simp) (cp0 hb0' (by simp) ?_)
        simp only [List.set_cons_succ, List.set_cons_zero]
        have s7 := zrs_n (e := .inr (20, [.int (nI (zkv kd kt)), va_rf (some b)])) s6 hb'
        have y7 := zsx_n (e := .inr (20, [.int (nI (zkv kd kt)), va_rf (some b)])) (zsx_r (q := q) (E := E5) (zrs_z s6)) hb'
        have v7 := zov_k s6 v6 y7
        have x7 := zsx_t hx (zsx_t x4 (zsx_t x5 (zsx_t x6 y7)))
        have hI7 := zle_t hI5 (zsx_i y7)
        have hb7 : zu I5 b' (some (.inr (20, [.int (nI (zkv kd kt)), va_rf (some b)]))) b' = some (.inr (20, [.int (nI (zkv kd kt)), .ref b])) := zu_s
        generalize zu I5 b' (some (.inr (20, [.int (nI (zkv kd kt)), va_rf (some b)]))) = I7 at s7 y7 v7 x7 hI7 hb7
        generalize zu M6 b' (some (.inr (20, [.int (nI (zkv kd kt)), va_rf (some b)]))) = M7 at s7 y7 v7 x7 ⊢
        have add := zov_add (post := fun _ M => post () M) (k := 1) (n := 300) hE0 s7 v7 x7 hL (fun y => hEb (none_I hI7 y)) (cis hb7 (by decide)) (by have := hb.1; omega) (Nat.le_refl _) (Nat.le_refl _) fun M8 Eb8 s8 v8 x8 hEb8 _ => ?_
        · exact czd ⟨add.1, 1, 300, by omega, by omega, add.2⟩
        · refine hp (kt, t) (r2.1 + 1, r2.2) rfl I7 M8 E5 Eb8 b' ca5 s8 x8 v8 hEb8 hI7 ⟨by rw [List.length_append, List.length_append, hb.1]; rfl, fun i y hy => ?_⟩ (zLk_m hlk (zsx_i y7)) h85
          by_cases hi : i < acc.length
          · rw [List.getElem?_append_left hi] at hy
            rw [List.getElem?_append_left (by rw [← hb.1]; exact hi)]
            exact (zBr_m hb hI7).2 i y hy
          · rw [List.getElem?_append_right (by omega)] at hy
            rw [List.getElem?_append_right (by rw [← hb.1]; omega), ← hb.1]
            cases hj : i - acc.length with
            | zero =>
              rw [hj] at hy
              cases hy
              exact ⟨b', b, rfl, hb7, zPs_m (zsx_i y7) (fun a x _ hx => zNd_m (zsx_i y7) d a x hx) hps⟩
            | succ j => rw [hj] at hy; cases hy
  unfold wp_X10_branch_L85
  refine czd ?_
  refine c_of0 hch (by rw [zcx8_2, List.length_map, List.length_map]; exact h10) (fun y hy => ?_) hkok.2.1 ?_
  · have hy' : y ∈ zkx (zcx8 kd a u (acc.map (zkf kd))) := hy
    rw [zcx8_k] at hy'
    obtain ⟨b, hb1, rfl⟩ := List.mem_map.mp hy'
    exact hkey b hb1
  · rw [zcx8_k, zoi_2 (by rw [List.length_map]; exact h10)]
    have hany := zix_any (f := zkf kd) (q := zkv kd kt) acc
    refine ⟨fun z => ?_, fun z => ?_⟩
    · have e : acc.any (fun b => zkv kd b.1 == zkv kd kt) = false := by
        rw [z] at hany
        exact hany.symm
      refine l101 M2 ?_ y2
      rw [e, if_neg (by decide)]
      exact s2
    · have e : acc.any (fun b => zkv kd b.1 == zkv kd kt) = true := by
        cases e9 : zix (zkv kd kt) 0 (acc.map (zkf kd)) with
        | none => exact absurd e9 z
        | some w => rw [e9] at hany; exact hany.symm
      refine r_lies s2 (by omega) fun M3 s3 y3 => l101 M3 ?_ (zsx_t y2 y3)
      rw [e, if_pos rfl]
      exact s3
end RE1
