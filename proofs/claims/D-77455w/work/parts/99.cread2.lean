/-! the component's reader: its state, steps of one letter -/
def zrs (D : zD) (b0 : Nat) (I0 M0 : zM) (q : Nat × Nat × Nat × Nat) (I M : zM) (E : Nat) (r : zRh) (cnt nest pld : Nat) (ca : List Nat) : Prop :=
  ext (fun _ => False) I0 M0 I M ∧ (M0 q.1 = none ∧ M0 q.2.1 = none ∧ M0 q.2.2.1 = none) ∧ (I q.1 = none ∧ I q.2.1 = none ∧ I q.2.2.1 = none) ∧ (zB D ≤ q.1 ∧ zB D ≤ q.2.1 ∧ zB D ≤ q.2.2.1) ∧
  M q.1 = some (.inr (9, [.ref q.2.1, .int (nI r.1), .int (nI nest), .int (nI pld), .int (zwi r.2.2.1), .ref b0])) ∧ M q.2.1 = some (.inr (10, [.null, .int (nI cnt), .ref q.2.2.2, .ref q.2.2.1, .int r.2.2.2.1])) ∧
  (∃ f : Nat → Int32, M q.2.2.1 = some (.inl (0, 5, .inl f)) ∧ ∀ i, i < 5 → f i = nI (r.2.2.2.2 i) ∧ r.2.2.2.2 i ≤ 3) ∧ zol D M0 I M q.2.2.2 E ca ∧ ca.length = r.2.1 ∧ (∀ p, r.2.2.1 = some p → p ≤ 120)
def zrU (q : Nat × Nat × Nat × Nat) (E : Nat) (I : zM) (x : Nat) : Prop := x = q.1 ∨ x = q.2.1 ∨ x = q.2.2.1 ∨ x = q.2.2.2 ∨ (x = E ∧ I x = none)
def zsx (q : Nat × Nat × Nat × Nat) (E : Nat) (I M : zM) (E' : Nat) (I' M' : zM) : Prop := ext (zrU q E I) I M I' M' ∧ (E' = E ∨ M E' = none)
section RD2
variable {D : zD} {b0 : Nat} {I0 M0 I M I1 M1 I2 M2 : zM} {q : Nat × Nat × Nat × Nat} {E E1 E2 : Nat} {r : zRh} {cnt nest pld : Nat} {ca : List Nat}
theorem zsx_r (hz : zle I M) : zsx q E I M E I M := ⟨ext_r hz, Or.inl rfl⟩
theorem zsx_t (h1 : zsx q E I M E1 I1 M1) (h2 : zsx q E1 I1 M1 E2 I2 M2) : zsx q E I M E2 I2 M2 := by
  refine ⟨ext_t h1.1 h2.1 fun a ha => ?_, ?_⟩
  · rcases ha with ha | ha | ha | ha | ⟨ha, hi⟩
    · exact Or.inl (Or.inl ha)
    · exact Or.inl (Or.inr (Or.inl ha))
    · exact Or.inl (Or.inr (Or.inr (Or.inl ha)))
    · exact Or.inl (Or.inr (Or.inr (Or.inr (Or.inl ha))))
    · rcases h1.2 with e | e
      · subst e
        exact Or.inl (Or.inr (Or.inr (Or.inr (Or.inr ⟨ha, none_I h1.1.1 hi⟩))))
      · subst ha; exact Or.inr e
  · rcases h2.2 with e | e
    · subst e; exact h1.2
    · refine Or.inr ?_
      cases e3 : M E2 with
      | none => rfl
      | some v => exact absurd e (h1.1.2.2.2 E2 (by rw [e3]; simp)).1
theorem zsx_z (h : zsx q E I M E1 I1 M1) : zle I1 M1 := h.1.2.1
theorem zsx_n {b : Nat} {e : zV} (h : zsx q E I M E1 I1 M1) (hb : M1 b = none) : zsx q E I M E1 (zu I1 b (some e)) (zu M1 b (some e)) := ⟨ext_n h.1 hb, h.2⟩
theorem zsx_o {b : Nat} {e : zV} (h : zsx q E I M E1 I1 M1) (hb : M1 b = none) : zsx q E I M E1 I1 (zu M1 b (some e)) := ⟨ext_m h.1 hb, h.2⟩
theorem zsx_w {b : Nat} {e : zV} (h : zsx q E I M E1 I1 M1) (hb : M b = none) (hi : I1 b = none) : zsx q E I M E1 I1 (zu M1 b (some e)) := ⟨ext_p h.1 (Or.inr hb) hi, h.2⟩
theorem zsx_f {b : Nat} {e : zV} (h : zsx q E I M E1 I1 M1) (hb : M b = none) (hM : M1 b = some e) : zsx q E I M E1 (zu I1 b (some e)) M1 := ⟨ext_f h.1 hb hM, h.2⟩
theorem zsx_k {a : Nat} {e : zV} (h : zsx q E I M E1 I1 M1) (ha : M a = some e) (hn : ¬ zrU q E I a) : M1 a = some e := h.1.2.2.1 a e ha hn
theorem zsx_i (h : zsx q E I M E1 I1 M1) : zle I I1 := h.1.1
/-- the cells of the reader, told apart -/
theorem zrs_z (h : zrs D b0 I0 M0 q I M E r cnt nest pld ca) : zle I M := h.1.2.1
theorem zrs_0 (h : zrs D b0 I0 M0 q I M E r cnt nest pld ca) : zle M0 M := fun a e ha => h.1.2.2.1 a e ha (fun z => z)
theorem zrs_k (h : zrs D b0 I0 M0 q I M E r cnt nest pld ca) (hx : ext (fun _ => False) I0 M0 I1 M1) (hI : zle I I1) (hq : ∀ x, x = q.1 ∨ x = q.2.1 ∨ x = q.2.2.1 ∨ x = q.2.2.2 ∨ x = E → M1 x = M x ∧ (I x = none → I1 x = none)) : zrs D b0 I0 M0 q I1 M1 E r cnt nest pld ca := by
  obtain ⟨-, h2, ⟨i1, i2, i3⟩, h4, h5, h6, ⟨f, h7, h7'⟩, ⟨h8, h9, h10, h10', mc, cap, g, h11, h12, h13, h14, h15, h16⟩, h17, h18⟩ := h
  have q1 := hq q.1 (Or.inl rfl)
  have q2 := hq q.2.1 (Or.inr (Or.inl rfl))
  have q3 := hq q.2.2.1 (Or.inr (Or.inr (Or.inl rfl)))
  have q4 := hq q.2.2.2 (Or.inr (Or.inr (Or.inr (Or.inl rfl))))
  have q5 := hq E (Or.inr (Or.inr (Or.inr (Or.inr rfl))))
  refine ⟨hx, h2, ⟨q1.2 i1, q2.2 i2, q3.2 i3⟩, h4, by rw [q1.1]; exact h5, by rw [q2.1]; exact h6, ⟨f, by rw [q3.1]; exact h7, h7'⟩, ⟨h8, q4.2 h9, h10, fun i a ha => zis_m hI (h10' i a ha), mc, cap, g, by rw [q4.1]; exact h11, by rw [q5.1]; exact h12, h13, h14, h15, ?_⟩, h17, h18⟩
  rcases h16 with h16 | h16
  · exact Or.inl h16
  · exact Or.inr ⟨q5.2 h16.1, h16.2⟩
theorem zrs_some (h : zrs D b0 I0 M0 q I M E r cnt nest pld ca) : ∀ x, x = q.1 ∨ x = q.2.1 ∨ x = q.2.2.1 ∨ x = q.2.2.2 ∨ x = E → M x ≠ none := by
  obtain ⟨-, -, -, -, h5, h6, ⟨f, h7, -⟩, ⟨-, -, -, -, mc, cap, g, h11, h12, -⟩, -⟩ := h
  intro x hx
  rcases hx with e | e | e | e | e <;> subst e
  · rw [h5]; simp
  · rw [h6]; simp
  · rw [h7]; simp
  · rw [h11]; simp
  · rw [h12]; simp
theorem zrs_n {b : Nat} {e : zV} (h : zrs D b0 I0 M0 q I M E r cnt nest pld ca) (hb : M b = none) : zrs D b0 I0 M0 q (zu I b (some e)) (zu M b (some e)) E r cnt nest pld ca := by
  refine zrs_k h (ext_n h.1 hb) (zle_new (zle_r _) (none_I (zrs_z h) hb)) fun x hx => ?_
  have nb : x ≠ b := fun z => zrs_some h x hx (by rw [z]; exact hb)
  exact ⟨zu_n nb, fun z => by rw [zu_n nb]; exact z⟩
theorem zrs_o {b : Nat} {e : zV} (h : zrs D b0 I0 M0 q I M E r cnt nest pld ca) (hb : M b = none) : zrs D b0 I0 M0 q I (zu M b (some e)) E r cnt nest pld ca := by
  refine zrs_k h (ext_m h.1 hb) (zle_r _) fun x hx => ?_
  have nb : x ≠ b := fun z => zrs_some h x hx (by rw [z]; exact hb)
  exact ⟨zu_n nb, fun z => z⟩
def zapt (q : Nat × Nat × Nat × Nat) (E b : Nat) : Prop := b ≠ q.1 ∧ b ≠ q.2.1 ∧ b ≠ q.2.2.1 ∧ b ≠ q.2.2.2 ∧ b ≠ E
theorem zapt_n {x b : Nat} (h : zapt q E b) (hx : x = q.1 ∨ x = q.2.1 ∨ x = q.2.2.1 ∨ x = q.2.2.2 ∨ x = E) : x ≠ b := by
  obtain ⟨h1, h2, h3, h4, h5⟩ := h
  rcases hx with e | e | e | e | e <;> subst e
  · exact h1.symm
  · exact h2.symm
  · exact h3.symm
  · exact h4.symm
  · exact h5.symm
theorem zrs_w {b : Nat} {e : zV} (h : zrs D b0 I0 M0 q I M E r cnt nest pld ca) (ha : zapt q E b) (h0 : M0 b = none) (hi : I b = none) : zrs D b0 I0 M0 q I (zu M b (some e)) E r cnt nest pld ca := by
  refine zrs_k h (ext_p h.1 (Or.inr h0) hi) (zle_r _) fun x hx => ?_
  exact ⟨zu_n (zapt_n ha hx), fun z => z⟩
theorem zrs_f {b : Nat} {e : zV} (h : zrs D b0 I0 M0 q I M E r cnt nest pld ca) (ha : zapt q E b) (h0 : M0 b = none) (hM : M b = some e) (hi : I b = none) : zrs D b0 I0 M0 q (zu I b (some e)) M E r cnt nest pld ca := by
  refine zrs_k h (ext_f h.1 h0 hM) (zle_new (zle_r _) hi) fun x hx => ?_
  exact ⟨rfl, fun z => by rw [zu_n (zapt_n ha hx)]; exact z⟩
/-- an end that carries a code -/
def zxr (D : zD) (M0 : zM) (code : Int32) (xp : Nat → zM → Prop) : Prop := ∀ (x : Nat) (fs : List Value) (M' : zM), zle M0 M' → M' x = some (.inr (13, fs)) → zB D ≤ x → fs[6]? = some (.int code) → xp x M'
theorem r_exc {xp : Nat → zM → Prop} {b : Nat} {code : Int32} {v0 v1 v2 v3 v4 v5 v6 : Value} (hx : zxr D M0 code xp) (hs : zle M0 M) (hq : M b = none) (hq0 : zB D ≤ b) {P : Unit → zM → Prop} (hP : ∀ M', (zth D M' b ∧ xp b M') → P () M') : wp_X15_init D P b code (zu M b (some (.inr (13, [v0, v1, v2, v3, v4, v5, v6])))) := by
  unfold wp_X15_init wp_J10_init wp_J9_init wp_J8_init_2 wp_J8_init_2_L60
  refine cp0 hq0 (by simp) fun r1 => cp0 hq0 (by simp) fun r2 => cp0 hq0 (by simp) ⟨fun _ => cp0 hq0 (by simp) (cp0 hq0 (by simp) (cp0 hq0 (by simp) ⟨fun z => absurd rfl z, fun _ => cp0 hq0 (by simp) (cp0 hq0 (by simp) (hP _ ⟨⟨13, _, by decide, zu_s, hq0⟩, hx b _ _ (zle_new hs hq) zu_s hq0 rfl⟩))⟩)), fun z => absurd rfl z⟩
theorem r_must {post : Unit → zM → Prop} {xp : Nat → zM → Prop} {k n : Nat} {c : Bool} (h : zrs D b0 I0 M0 q I M E r cnt nest pld ca) (hk : 1 ≤ k) (hn : 7 ≤ n) (h1 : c = true → post () M) (h2 : c = false → zxr D M0 (-1000 - nI r.1) xp) : zis M q.1 [9] ∧ wp_X10_must D post xp k n q.1 (b1 c) M := by
  have h5 := h.2.2.2.2.1
  refine ⟨cis h5 (by decide), ifb (fun e => h1 e) (fun e => ⟨cis h5 (by decide), k, n, Nat.le_refl _, Nat.le_refl _, ?_⟩)⟩
  unfold wp_X10_fault
  refine ⟨hk, hn, fun b hb hb0 => cgI (kw h5 hb) rfl (r_exc (h2 e) (zrs_0 h) hb hb0 fun M' hM' => czd hM')⟩
/-- R's own cell is written -/
theorem zrs_R {r1 : zRh} {nest1 pld1 : Nat} (h : zrs D b0 I0 M0 q I M E r cnt nest pld ca) (e1 : r1.2.1 = r.2.1) (e2 : r1.2.2.2 = r.2.2.2) (hw : ∀ p, r1.2.2.1 = some p → p ≤ 120) :
    zrs D b0 I0 M0 q I (zu M q.1 (some (.inr (9, [.ref q.2.1, .int (nI r1.1), .int (nI nest1), .int (nI pld1), .int (zwi r1.2.2.1), .ref b0])))) E r1 cnt nest1 pld1 ca ∧
    zsx q E I M E I (zu M q.1 (some (.inr (9, [.ref q.2.1, .int (nI r1.1), .int (nI nest1), .int (nI pld1), .int (zwi r1.2.2.1), .ref b0])))) := by
  obtain ⟨h1, h2, ⟨i1, i2, i3⟩, h4, h5, h6, ⟨f, h7, h7'⟩, ⟨h8, h9, h10, h10', mc, cap, g, h11, h12, h13⟩, h17, h18⟩ := h
  have n2 : q.2.1 ≠ q.1 := kn_ne h6 h5 (by simp)
  have n3 : q.2.2.1 ≠ q.1 := kn_ne h7 h5 (by simp)
  have n4 : q.2.2.2 ≠ q.1 := kn_ne h11 h5 (by simp)
  have n5 : E ≠ q.1 := kn_ne h12 h5 (by simp)
  refine ⟨⟨ext_p h1 (Or.inr h2.1) i1, h2, ⟨i1, i2, i3⟩, h4, zu_s, by rw [zu_n n2, e2]; exact h6, ⟨f, by rw [zu_n n3]; exact h7, by rw [e2]; exact h7'⟩, ⟨h8, h9, h10, h10', mc, cap, g, by rw [zu_n n4]; exact h11, by rw [zu_n n5]; exact h12, h13⟩, by rw [e1]; exact h17, hw⟩, ext_p (ext_r h1.2.1) (Or.inl (Or.inl rfl)) i1, Or.inl rfl⟩
/-- the message's own cell is written -/
theorem zrs_m {cnt1 : Nat} {r1 : zRh} (h : zrs D b0 I0 M0 q I M E r cnt nest pld ca) (e0 : r1.1 = r.1) (e1 : r1.2.1 = r.2.1) (e2 : r1.2.2.1 = r.2.2.1) (e3 : r1.2.2.2.2 = r.2.2.2.2) :
    zrs D b0 I0 M0 q I (zu M q.2.1 (some (.inr (10, [.null, .int (nI cnt1), .ref q.2.2.2, .ref q.2.2.1, .int r1.2.2.2.1])))) E r1 cnt1 nest pld ca ∧ zsx q E I M E I (zu M q.2.1 (some (.inr (10, [.null, .int (nI cnt1), .ref q.2.2.2, .ref q.2.2.1, .int r1.2.2.2.1])))) := by
  obtain ⟨h1, h2, ⟨i1, i2, i3⟩, h4, h5, h6, ⟨f, h7, h7'⟩, ⟨h8, h9, h10, h10', mc, cap, g, h11, h12, h13⟩, h17, h18⟩ := h
  have n2 : q.1 ≠ q.2.1 := kn_ne h5 h6 (by simp)
  have n3 : q.2.2.1 ≠ q.2.1 := kn_ne h7 h6 (by simp)
  have n4 : q.2.2.2 ≠ q.2.1 := kn_ne h11 h6 (by simp)
  have n5 : E ≠ q.2.1 := kn_ne h12 h6 (by simp)
  refine ⟨⟨ext_p h1 (Or.inr h2.2.1) i2, h2, ⟨i1, i2, i3⟩, h4, by rw [zu_n n2, e0, e2]; exact h5, zu_s, ⟨f, by rw [zu_n n3]; exact h7, by rw [e3]; exact h7'⟩, ⟨h8, h9, h10, h10', mc, cap, g, by rw [zu_n n4]; exact h11, by rw [zu_n n5]; exact h12, h13⟩, by rw [e1]; exact h17, by rw [e2]; exact h18⟩, ext_p (ext_r h1.2.1) (Or.inl (Or.inr (Or.inl rfl))) i2, Or.inl rfl⟩
/-- the types are written -/
theorem zrs_T {f' : Nat → Int32} {r1 : zRh} (h : zrs D b0 I0 M0 q I M E r cnt nest pld ca) (e0 : r1.1 = r.1) (e1 : r1.2.1 = r.2.1) (e2 : r1.2.2.1 = r.2.2.1) (e3 : r1.2.2.2.1 = r.2.2.2.1) (hf : ∀ i, i < 5 → f' i = nI (r1.2.2.2.2 i) ∧ r1.2.2.2.2 i ≤ 3) :
    zrs D b0 I0 M0 q I (zu M q.2.2.1 (some (.inl (0, 5, .inl f')))) E r1 cnt nest pld ca ∧ zsx q E I M E I (zu M q.2.2.1 (some (.inl (0, 5, .inl f')))) := by
  obtain ⟨h1, h2, ⟨i1, i2, i3⟩, h4, h5, h6, ⟨f, h7, h7'⟩, ⟨h8, h9, h10, h10', mc, cap, g, h11, h12, h13⟩, h17, h18⟩ := h
  have n2 : q.1 ≠ q.2.2.1 := kn_ne h5 h7 (by simp)
  have n3 : q.2.1 ≠ q.2.2.1 := kn_ne h6 h7 (by simp)
  have n4 : q.2.2.2 ≠ q.2.2.1 := kn_ne h11 h7 (by simp)
  have n5 : E ≠ q.2.2.1 := kn_ne h12 h7 (by simp)
  refine ⟨⟨ext_p h1 (Or.inr h2.2.2) i3, h2, ⟨i1, i2, i3⟩, h4, by rw [zu_n n2, e0, e2]; exact h5, by rw [zu_n n3, e3]; exact h6, ⟨f', zu_s, hf⟩, ⟨h8, h9, h10, h10', mc, cap, g, by rw [zu_n n4]; exact h11, by rw [zu_n n5]; exact h12, h13⟩, by rw [e1]; exact h17, by rw [e2]; exact h18⟩, ext_p (ext_r h1.2.1) (Or.inl (Or.inr (Or.inr (Or.inl rfl)))) i3, Or.inl rfl⟩
end RD2
