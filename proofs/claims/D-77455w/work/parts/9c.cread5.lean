/-! the component's reader: a key's letter -/
/-- where a letter stands first -/
def zio (c : Int32) : List Int32 → Nat → Int32
  | [], _ => -1
  | x :: l, i => if x = c then nI i else zio c l (i + 1)
section RD5
variable {D : zD} {X : zSg} {B : Nat → Nat} {I0 M0 I M : zM} {q : Nat × Nat × Nat × Nat} {E : Nat} {r : zRh} {cnt nest pld : Nat} {ca : List Nat}
theorem zi8 {x c : Int32} (hx : zb x 128 = true) (hc : zb c 256 = true) : (x = c.toInt8.toInt32) ↔ x = c := by
  obtain ⟨p, hp, rfl⟩ := zb_of hx (by decide)
  obtain ⟨d, hd, rfl⟩ := zb_of hc (by decide)
  have h1 : ∀ d : Fin 128, (nI d.val).toInt8.toInt32 = nI d.val := by decide +kernel
  have h2 : ∀ d : Fin 128, (nI (128 + d.val)).toInt8.toInt32 < 0 := by decide +kernel
  by_cases hd1 : d < 128
  · rw [h1 ⟨d, hd1⟩]
  · have h3 := h2 ⟨d - 128, by omega⟩
    rw [show 128 + (⟨d - 128, by omega⟩ : Fin 128).val = d from by show 128 + (d - 128) = d; omega] at h3
    constructor
    · intro e
      rw [← e] at h3
      exact absurd h3 (nI_pos (by omega))
    · intro e
      have := (nI_eq (by omega) (by omega)).mp e
      omega
theorem zu16 {c : Int32} (hc : zb c 256 = true) : ((c.toUInt32 % 65536).toInt32) = c := by
  obtain ⟨d, hd, rfl⟩ := zb_of hc (by decide)
  have h1 : ∀ d : Fin 256, (((nI d.val).toUInt32 % 65536).toInt32) = nI d.val := by decide +kernel
  exact h1 ⟨d, hd⟩
theorem s_indexOf {post : Int32 → zM → Prop} {k : Nat} {l : List Int32} {c : Int32} (hS : zSt D M k l) (hc : zb c 256 = true) (hp : post (zio c l 0) M) : zis M (D.2.2.2 (10 + k)) [30] ∧ wp_J11_indexOf D post (D.2.2.2 (10 + k)) c M := by
  have hi := zSt_i hS
  refine ⟨hi, ?_⟩
  have hlen := @s_length D M
  have hS' := hS
  obtain ⟨v, f, h1, h2, h3, h4, h5, h6⟩ := hS
  obtain ⟨d, hd, hcd⟩ := zb_of hc (by decide)
  have loop : ∀ (fu i : Nat), i ≤ l.length → l.length - i < fu → zio c (l.drop i) i = zio c l 0 → wp_J12_indexOfChar_L7 D post fu (some v) (nI l.length) (c.toInt8.toInt32) (nI i) M := by
    intro fu
    induction fu with
    | zero => intro i _ hf; omega
    | succ fu ih =>
      intro i hil hf e
      unfold wp_J12_indexOfChar_L7
      rw [nI_leI (by omega) (by omega)]
      refine ⟨fun z => ?_, fun z => czd (caI h4 (vp_in_nI (by omega) (by omega)) ?_)⟩
      · rw [List.drop_eq_nil_of_le z, zio] at e
        rw [← e] at hp
        exact hp
      · obtain ⟨x, hx⟩ : ∃ x, l[i]? = some x := ⟨l[i]'(by omega), List.getElem?_eq_getElem (by omega)⟩
        obtain ⟨hf1, hf2⟩ := h6 i x hx
        have hdr : l.drop i = x :: l.drop (i + 1) := by
          rw [List.drop_eq_getElem_cons (by omega)]
          congr 1
          exact Option.some.inj ((List.getElem?_eq_getElem (by omega)).symm.trans hx)
        rw [hdr, zio] at e
        rw [nI_clamp (by omega), hf1, zi8 hf2 hc]
        refine ⟨fun z2 => ?_, fun z2 => ?_⟩
        · rw [nI_1]
          rw [if_neg z2] at e
          exact ih (i + 1) (by omega) (by omega) e
        · rw [if_pos z2] at e
          rw [← e] at hp
          exact hp
  unfold wp_J11_indexOf wp_J11_indexOf_2 wp_J11_isLatin1 wp_J11_isLatin1_L17 wp_J11_isLatin1_L18
  refine ⟨hi, hi, ⟨fun z => absurd z (by decide), fun _ => cgI h3 rfl ⟨fun z => absurd rfl z, fun _ => ⟨rfl, ⟨fun z => absurd z (by decide), fun _ => cgR (x := some v) h3 rfl ⟨hi, s_length hS' ?_⟩⟩⟩⟩⟩⟩
  unfold wp_J12_indexOf wp_J12_canEncode wp_J12_canEncode_L15 wp_J12_canEncode_L16
  rw [hcd]
  refine ⟨fun z => absurd z (nI_pos (by omega)), fun _ => ⟨fun z => ?_, fun _ => ⟨rfl, fun _ => ?_, fun z => absurd z (by decide)⟩⟩⟩
  · rw [show (255 : Int32) = nI 255 from rfl, nI_ltI (by decide) (by omega)] at z
    omega
  · refine c_max (a := 0) (b := 0) (by decide) (by decide) (czd (clen h4 (by decide) (c_min (by omega) (by omega) ?_)))
    rw [Nat.min_self]
    show (nI 0 < nI l.length → _) ∧ (¬ nI 0 < nI l.length → _)
    rw [nI_ltI (by decide) (by omega)]
    unfold wp_J12_indexOfChar
    rw [← hcd]
    refine ⟨fun z => ⟨l.length + 1, loop _ 0 (Nat.zero_le _) (by omega) rfl⟩, fun z => ?_⟩
    have : l = [] := List.eq_nil_of_length_eq_zero (by omega)
    subst this
    exact hp
theorem zio_k {pl : Bool} {c : Int32} : zio c (zJc (if pl then 3 else 4)) 0 = if zkl pl c then nI (zkv pl [c]) else -1 := by
  have e0 : zdg [] = 0 := rfl
  cases pl
  · show zio c [109, 102, 110, 120] 0 = _
    unfold zkl zkv
    simp only [zio, Bool.false_eq_true, if_false]
    by_cases h1 : c = 109
    · subst h1; rfl
    by_cases h2 : c = 102
    · subst h2; rfl
    by_cases h3 : c = 110
    · subst h3; rfl
    by_cases h4 : c = 120
    · subst h4; rfl
    rw [if_neg (fun z => h1 z.symm), if_neg (fun z => h2 z.symm), if_neg (fun z => h3 z.symm), if_neg (fun z => h4 z.symm), if_neg (by simp [h1, h2, h3, h4])]
  · show zio c [122, 111, 116, 102, 109, 120] 0 = _
    unfold zkl zkv
    simp only [zio, if_true]
    by_cases h1 : c = 122
    · subst h1; rfl
    by_cases h2 : c = 111
    · subst h2; rfl
    by_cases h3 : c = 116
    · subst h3; rfl
    by_cases h4 : c = 102
    · subst h4; rfl
    by_cases h5 : c = 109
    · subst h5; rfl
    by_cases h6 : c = 120
    · subst h6; rfl
    rw [if_neg (fun z => h1 z.symm), if_neg (fun z => h2 z.symm), if_neg (fun z => h3 z.symm), if_neg (fun z => h4 z.symm), if_neg (fun z => h5 z.symm), if_neg (fun z => h6 z.symm), if_neg (by simp [h1, h2, h3, h4, h5, h6])]
theorem zhr_b (hR : RC D X B I0 M0) {p : Nat} : zhr (ztp X) X.2.1.length p = -1 ∨ zb (zhr (ztp X) X.2.1.length p) 256 = true := by
  obtain ⟨t1, f, t2, t3⟩ := hR.2.2.1
  unfold zhr
  by_cases h : p < X.2.1.length
  · rw [if_pos h]
    obtain ⟨c, hc⟩ : ∃ c, X.2.1[p]? = some c := ⟨_, List.getElem?_eq_getElem h⟩
    have e : ztp X p = c := by unfold ztp; rw [List.getD_eq_getElem?_getD, hc]; rfl
    rw [e]
    exact Or.inr (t3 _ c hc).2
  · rw [if_neg h]; exact Or.inl rfl
theorem r_letter {post : Int32 → zM → Prop} {xp : Nat → zM → Prop} {k n : Nat} {pl : Bool} {x1 : Int32} (hR : RC D X B I0 M0) (hJ : zJs D M0) (h : zrs D (B 0) I0 M0 q I M E r cnt nest pld ca) (hr : r.1 ≤ X.2.1.length) (hk : 1 ≤ k) (hn : 7 ≤ n) (h1 : zkl pl (zhr (ztp X) X.2.1.length r.1) = false → zxr D M0 (-1000 - nI r.1) xp)
    (h2 : zkl pl (zhr (ztp X) X.2.1.length r.1) = true → ∀ M', zrs D (B 0) I0 M0 q I M' E (r.1 + 1, r.2) cnt nest pld ca → zsx q E I M E I M' → post (nI (zkv pl [zhr (ztp X) X.2.1.length r.1])) M') : zis M q.1 [9] ∧ wp_X10_letter D post xp k n q.1 (some (D.2.2.2 (10 + (if pl then 3 else 4)))) x1 M := by
  refine ⟨r_is h, ?_⟩
  unfold wp_X10_letter
  have h5 := h.2.2.2.2.1
  have hb := h.2.2.2.1.1
  have no : zkl pl (zhr (ztp X) X.2.1.length r.1) = false → wp_X10_letter_L20 D post xp q.1 k n (-1 : Int32) M := by
    intro e
    unfold wp_X10_letter_L20 wp_X10_letter_L31
    exact ⟨fun _ => czd ⟨r_is h, 1, 7, hk, hn, (r_must (c := false) h (Nat.le_refl _) (Nat.le_refl _) (fun y => (nomatch y)) (fun _ => h1 e)).2⟩, fun z => absurd (by decide) z⟩
  refine r_here hR h hr ⟨fun z => r_here hR h hr (czd ?_), fun z => no ?_⟩
  · rcases zhr_b hR (p := r.1) with e | e
    · rw [e] at z; exact absurd z (by decide)
    · rw [zu16 e]
      have hS := zSt_z (zrs_0 h) (hJ (if pl then 3 else 4) (by cases pl <;> decide) (by cases pl <;> decide) (by cases pl <;> decide))
      refine s_indexOf hS e ?_
      rw [zio_k]
      cases e2 : zkl pl (zhr (ztp X) X.2.1.length r.1) with
      | false => rw [if_neg (by decide)]; exact no e2
      | true =>
        rw [if_pos rfl]
        have hzk : zkv pl [zhr (ztp X) X.2.1.length r.1] ≤ 5 := by
          have : zdg [] = 0 := rfl
          cases pl
          · unfold zkv
            simp only [Bool.false_eq_true, if_false]
            repeat' split
            all_goals omega
          · unfold zkl at e2
            simp only [if_true, decide_eq_true_eq] at e2
            generalize zhr (ztp X) X.2.1.length r.1 = c at e2
            rcases e2 with e2 | e2 | e2 | e2 | e2 | e2 <;> subst e2 <;> decide
        unfold wp_X10_letter_L20 wp_X10_letter_L31
        refine ⟨fun y => absurd y (nI_pos (by omega)), fun _ => czd ⟨r_is h, 1, 7, hk, hn, (r_must (c := true) h (Nat.le_refl _) (Nat.le_refl _) (fun _ => cgI h5 rfl (cp h5 hb (by simp) ?_)) (fun y => (nomatch y))).2⟩⟩
        obtain ⟨k1, k2⟩ := zrs_R (r1 := (r.1 + 1, r.2)) (nest1 := nest) (pld1 := pld) h rfl rfl h.2.2.2.2.2.2.2.2.2
        rw [nI_1]
        exact h2 e2 _ k1 k2
  · rcases zhr_b hR (p := r.1) with e | e
    · rw [e]; cases pl <;> decide
    · obtain ⟨d, hd, hcd⟩ := zb_of e (by decide)
      rw [hcd] at z
      exact absurd (nI_pos' (by omega)) z
end RD5
