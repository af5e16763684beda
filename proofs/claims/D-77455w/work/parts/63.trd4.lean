/-! the twin reads: a brace's head -/
theorem zpat_len {tp : Nat → Int32} {n p q w l k : Nat} {g : Bool} (h : zpat tp n p = .inr (q, g, w, l, k)) : q = p + (zpl g w l k).length + 1 ∧ 1 ≤ w ∧ w ≤ 4 ∧ l ≤ 3 ∧ k ≤ 3 := by
  unfold zpat at h
  simp only at h
  have e1 := zcnt_le (tp := tp) (n := n) (c := 48) 4 (if decide (zhr tp n p = 44) then p + 1 else p)
  have e2 := zcnt_le (tp := tp) (n := n) (c := 48) 3 ((if decide (zhr tp n p = 44) then p + 1 else p) + zcnt tp n 48 4 (if decide (zhr tp n p = 44) then p + 1 else p) + 1)
  have e3 := zcnt_le (tp := tp) (n := n) (c := 35) 3 ((if decide (zhr tp n p = 44) then p + 1 else p) + zcnt tp n 48 4 (if decide (zhr tp n p = 44) then p + 1 else p) + 1 + zcnt tp n 48 3 ((if decide (zhr tp n p = 44) then p + 1 else p) + zcnt tp n 48 4 (if decide (zhr tp n p = 44) then p + 1 else p) + 1))
  have hpl : ∀ (g : Bool) (w l k : Nat), (zpl g w l k).length = (if g then 1 else 0) + w + (if l + k = 0 then 0 else l + k + 1) := by
    intro g w l k
    unfold zpl zrp
    simp only [List.length_append, List.length_replicate]
    congr 1
    · congr 1
      cases g <;> rfl
    · split
      · rfl
      · simp
  generalize hg : decide (zhr tp n p = 44) = g' at h e1 e2 e3
  have ha : (if g' then p + 1 else p) = p + (if g' then 1 else 0) := by cases g' <;> rfl
  generalize (if g' then p + 1 else p) = a1 at h e1 e2 e3 ha
  generalize zcnt tp n 48 4 a1 = w' at h e1 e2 e3
  generalize zcnt tp n 48 3 (a1 + w' + 1) = l' at h e2 e3
  generalize zcnt tp n 35 3 (a1 + w' + 1 + l') = k' at h e3
  by_cases c1 : w' = 0
  · rw [if_pos c1] at h; cases h
  rw [if_neg c1] at h
  by_cases c2 : zhr tp n (a1 + w') = 46
  · rw [if_pos c2] at h
    by_cases c3 : l' + k' = 0
    · rw [if_pos c3] at h; cases h
    rw [if_neg c3] at h
    by_cases c4 : zhr tp n (a1 + w' + 1 + l' + k') = 125
    · rw [if_pos c4] at h
      cases h
      rw [hpl, if_neg c3]
      exact ⟨by omega, by omega, e1, e2, e3⟩
    · rw [if_neg c4] at h; cases h
  · rw [if_neg c2] at h
    by_cases c4 : zhr tp n (a1 + w') = 125
    · rw [if_pos c4] at h
      cases h
      rw [hpl, if_pos rfl]
      exact ⟨by omega, by omega, e1, by omega, by omega⟩
    · rw [if_neg c4] at h; cases h
theorem zAE {c : Int32} (h : zin c.toInt64 65 69 = true) : ∃ a, a < 5 ∧ c = nI (65 + a) ∧ c - 65 = nI a ∧ (c - 65).toNatClampNeg = a := by
  unfold zin at h
  rw [Bool.and_eq_true, decide_eq_true_eq, decide_eq_true_eq, Int64.le_iff_toInt_le, Int64.le_iff_toInt_le, Int32.toInt_toInt64] at h
  have x1 : (65 : Int64).toInt = 65 := by decide
  have x4 : (69 : Int64).toInt = 69 := by decide
  obtain ⟨q, hq, hcq⟩ : ∃ q : Nat, q < 5 ∧ c.toInt = 65 + q := ⟨c.toInt.toNat - 65, by omega, by omega⟩
  have e : c = nI (65 + q) := Int32.toInt_inj.mp (by rw [nI_toInt (by omega)]; omega)
  have e2 : nI (65 + q) - 65 = nI q := by rw [show (65 : Int32) = nI 65 from rfl, nI_sub (by omega), Nat.add_sub_cancel_left]
  exact ⟨q, hq, e, by rw [e, e2], by rw [e, e2, nI_clamp (by omega)]⟩
section TR4
variable {D : zD} {o : Nat} {A : Nat → Nat} {S S0 : zTS} {I : zM} {E : Nat → Nat → Int32} {n m dp : Nat} {r : zRh}
theorem t_br0 {P : (Int32 → zM → Prop) → Nat → Int32 → Int32 → zM → Prop} {post : Int32 → zM → Prop} {u pl : Int32} (hT : tok D o A) (h : zrd9 S0 E n S r m dp) (hE : zE0 S0 E) (hlt : r.1 < n)
    (hf : ∀ e S', zr0 (E 7) n r = .inl e → S'.1 23 = nI e → e ≤ n → zfr S0 S' → post 0 (tm o A S' I)) (hok : ∀ q r' S', zr0 (E 7) n r = .inr (.inl (q, r')) → zrd9 S0 E n S' r' m dp → r'.1 = r.1 + (zlL q).length → r'.2.1 = r.2.1 → post 1 (tm o A S' I))
    (hch : ∀ a c S', zr0 (E 7) n r = .inr (.inr (a, c)) → zrd9 S0 E n S' (r.1 + 2, r.2) m dp → a < 5 → r.1 + 1 < n → zhr (E 7) n (r.1 + 2) = c →
      (c = (112 : Int32) → wp_X9_readsBrace_L188 D P post o u pl (nI r.1) (nI a) (nI (r.1 + 1)) c (tm o A S' I)) ∧ (¬ c = (112 : Int32) → ((¬ c = (103 : Int32) → wp_X9_readsBrace_L202 D P post o (tm o A S' I)) ∧ (c = (103 : Int32) → wp_X9_readsBrace_L188 D P post o u pl (nI r.1) (nI a) (nI (r.1 + 1)) c (tm o A S' I))))) :
    wp_X9_readsBrace D P post o u pl (tm o A S I) := by
  have a23 := h.2.2.2.1
  have hn120 := h.2.2.2.2.2.2.2.2.2.2.2.1
  have h1 := zrd9_at h (p := r.1 + 1) hlt
  unfold wp_X9_readsBrace wp_X9_readsBrace_L172 wp_X9_readsBrace_L173
  unfold zr0 at hf hok hch
  simp only at hf hok hch
  simp (disch := first | decide | omega) only [tgI, tgR, tzd, taI hT, tsI hT, tp hT, tF_s, tF_n, tA_F, tF_A, tA_s, tA_n, tA_R, tsz, m8, m5, m6, m10, m30, m120, nI_1, nI_add, clT, vinT, true_and, updS, updN, if_true, a23]
  refine ⟨tis _ (by decide), t_here hT h1 (t_in (ifb (fun e1 => ?_) (fun e1 => ⟨rfl, ?_⟩)))⟩
  rotate_left
  · replace e1 : zin (zhr (E 7) n (r.1 + 1)).toInt64 65 69 = false := e1
    exact hf (r.1 + 1) _ (by rw [if_neg (by rw [e1]; decide)]) tF_s hlt (zfr_of h1 hE)
  replace e1 : zin (zhr (E 7) n (r.1 + 1)).toInt64 65 69 = true := e1
  obtain ⟨a, ha, hc1, hsub, hcl⟩ := zAE e1
  simp only [if_pos e1, hcl] at hf hok hch
  have hlt1 : r.1 + 1 < n := zhr_n (tp := E 7) (by rw [hc1]; exact nI_m1 (by omega))
  refine ⟨tis _ (by decide), t_here hT h1 ?_⟩
  rw [show zhr (E 7) n (r.1 + 1, r.2).1 = zhr (E 7) n (r.1 + 1) from rfl, hsub]
  simp (disch := first | decide | omega) only [tgI, tgR, tzd, taI hT, tsI hT, tp hT, tF_s, tF_n, tA_F, tF_A, tA_s, tA_n, tA_R, tsz, m8, m5, m6, m10, m30, m120, nI_1, nI_add, clT, vinT, true_and, updS, updN, if_true]
  have h2 := zrd9_at (r := (r.1 + 1, r.2)) h1 (p := r.1 + 1 + 1) hlt1
  refine ⟨tis _ (by decide), t_here hT h2 ?_⟩
  rw [show zhr (E 7) n (r.1 + 1 + 1, (r.1 + 1, r.2).2).1 = zhr (E 7) n (r.1 + 2) from rfl]
  generalize hS2 : tF (tF S 23 (nI (r.1 + 1))) 23 (nI (r.1 + 1 + 1)) = S2 at h2
  replace h2 : zrd9 S0 E n S2 (r.1 + 2, r.2) m dp := h2
  have b23 := h2.2.2.2.1
  refine ifn (fun z1 => ?_) (fun z1 => ifn (fun z2 => ?_) (fun z2 => ifn (fun z3 => ?_) (fun z3 => ?_)))
  · -- plain
    simp only [if_pos z1] at hok
    have hlt2 : r.1 + 2 < n := zhr_n (tp := E 7) (by rw [z1]; decide)
    refine ⟨tis _ (by decide), t_uses (ty := 0) hT h2 ha (by decide) (by omega) fun S3 h3 => ?_⟩
    have c23 := h3.2.2.2.1
    rw [tgI (by decide) rfl, tp hT (by decide) rfl, c23]
    refine ⟨rfl, hok _ _ _ rfl ?_ rfl rfl⟩
    have := zrd9_at h3 (p := r.1 + 3) (by show r.1 + 3 ≤ n; omega)
    rw [show (zuse (r.1 + 2, r.2) a 0 (r.1 + 1)).1 = r.1 + 2 from rfl, nI_1]
    exact this
  · -- joined
    simp only [if_neg z1, if_pos z2] at hf hok
    have hlt2 : r.1 + 2 < n := zhr_n (tp := E 7) (by rw [z2]; decide)
    refine ⟨tis _ (by decide), t_uses (ty := 3) hT h2 ha (by decide) (by omega) fun S3 h3 => ?_⟩
    have c23 := h3.2.2.2.1
    rw [tgI (by decide) rfl, tp hT (by decide) rfl, c23, show (zuse (r.1 + 2, r.2) a 3 (r.1 + 1)).1 = r.1 + 2 from rfl, nI_1]
    have h4 := zrd9_at h3 (p := r.1 + 3) (by show r.1 + 3 ≤ n; omega)
    refine ⟨tis _ (by decide), t_takes hT h4 (fun z4 => ⟨rfl, ?_⟩) (fun z4 => ⟨rfl, ?_⟩)⟩
    · replace z4 : zhr (E 7) n (r.1 + 3) = 125 := z4
      rw [if_pos z4] at hok
      have hlt3 : r.1 + 3 < n := zhr_n (tp := E 7) (by rw [z4]; decide)
      exact hok _ _ _ rfl (zrd9_at h4 (p := r.1 + 4) hlt3) rfl rfl
    · replace z4 : zhr (E 7) n (r.1 + 3) ≠ 125 := z4
      rw [if_neg z4] at hf
      exact hf _ _ rfl h4.2.2.2.1 (by omega) (zfr_of h4 hE)
  · -- shaped
    simp only [if_neg z1, if_neg z2, if_pos z3] at hf hok
    have hlt2 : r.1 + 2 < n := zhr_n (tp := E 7) (by rw [z3]; decide)
    refine ⟨tis _ (by decide), t_uses (ty := 1) hT h2 ha (by decide) (by omega) fun S3 h3 => ?_⟩
    have c23 := h3.2.2.2.1
    rw [tgI (by decide) rfl, tp hT (by decide) rfl, c23, show (zuse (r.1 + 2, r.2) a 1 (r.1 + 1)).1 = r.1 + 2 from rfl, nI_1]
    have h4 := zrd9_at h3 (p := r.1 + 3) (by show r.1 + 3 ≤ n; omega)
    refine ⟨tis _ (by decide), t_pat (F := fun M => (narrow .boolean (.int (0 : Int32)) = .int (0 : Int32) ∧ post (0 : Int32) M)) (G := fun M => (narrow .boolean (.int (1 : Int32)) = .int (1 : Int32) ∧ post (1 : Int32) M)) hT h4 (fun S' e k1 k2 => ⟨rfl, ?_⟩) (fun S' p g w l k k1 k2 => ⟨rfl, ?_⟩)⟩
    · replace k1 : zpat (E 7) n (r.1 + 3) = .inl e := k1
      rw [k1] at hf
      exact hf _ _ rfl k2.2.2.2.1 k2.2.2.2.2.2.2.2.2.2.2.2.2.1 (zfr_of k2 hE)
    · replace k1 : zpat (E 7) n (r.1 + 3) = .inr (p, g, w, l, k) := k1
      rw [k1] at hok
      refine hok _ _ _ rfl k2 ?_ rfl
      have := (zpat_len k1).1
      show p = r.1 + (123 :: nI (65 + a) :: 110 :: (zpl g w l k ++ [125])).length
      simp only [List.length_cons, List.length_append, List.length_nil]
      omega
  · simp only [if_neg z1, if_neg z2, if_neg z3] at hch
    have := hch a _ S2 rfl h2 ha hlt1 rfl
    exact this
theorem zRB_0 (hT : tok D o A) : zRB D o A S0 I n 0 := by
  intro pl u r m dp S E dd post hu hdd h hE hm hdp hlt hf hok
  have hn120 := h.2.2.2.2.2.2.2.2.2.2.2.1
  refine t_br0 hT h hE hlt (fun e S' k1 => hf e S' (by unfold zon; simp only [k1]; try rfl)) (fun q r' S' k1 k2 k3 k4 => hok q r' S' E (by unfold zon; simp only [k1]; try rfl) k2 ?_ zEn_nil k3 k4 hdp (Nat.le_refl 1)) fun a c S' k1 k2 k3 k4 k5 => ?_
  · show m + 1 ≤ r'.1
    have := zlL_pos q
    omega
  · have hbad : ∀ x : Int32, wp_X9_readsBrace_L202 D (wp_X9_readsMessage D dd) post o (tm o A S' I) := fun _ => by
      unfold wp_X9_readsBrace_L202
      exact ⟨rfl, hf (r.1 + 2) S' (by unfold zon; simp only [k1]; try rfl) k2.2.2.2.1 (by omega) (zfr_of k2 hE)⟩
    have h188 : wp_X9_readsBrace_L188 D (wp_X9_readsMessage D dd) post o (nI u) (b1 pl) (nI r.1) (nI a) (nI (r.1 + 1)) c (tm o A S' I) := by
      unfold wp_X9_readsBrace_L188
      have hu3 : u = 3 := by omega
      subst hu3
      exact ⟨fun _ => hbad 0, fun z => absurd rfl z⟩
    exact ⟨fun _ => h188, fun _ => ⟨fun _ => hbad 0, fun _ => h188⟩⟩
end TR4
