/-! the component's reader: lists that stay open while others read -/
def zov (D : zD) (M0 : zM) (q : Nat × Nat × Nat × Nat) (E : Nat) (I M : zM) (L Ep : Nat) (l : List Nat) : Prop := zol D M0 I M L Ep l ∧ L ≠ q.2.2.2 ∧ (I Ep = none → Ep ≠ E)
section RD6
variable {D : zD} {b0 : Nat} {I0 M0 I M I1 M1 Is Ms : zM} {q : Nat × Nat × Nat × Nat} {E E1 Es L Ep : Nat} {l : List Nat} {r : zRh} {cnt nest pld : Nat} {ca : List Nat}
/-- what zov's cells are not -/
theorem zov_n (hs : zrs D b0 I0 M0 q I M E r cnt nest pld ca) (hp : zov D M0 q E I M L Ep l) : ¬ zrU q E I L ∧ (I Ep = none → ¬ zrU q E I Ep) ∧ zapt q E L ∧ (I Ep = none → zapt q E Ep) ∧ Ep ≠ L := by
  obtain ⟨-, -, -, -, h5, h6, ⟨f, h7, -⟩, ⟨-, -, -, -, mc, cap, g, h11, h12, -⟩, -⟩ := hs
  obtain ⟨⟨k1, k2, k3, k4, mc', cap', g', k5, k6, k7⟩, n1, n2⟩ := hp
  have a1 : L ≠ q.1 := kn_ne k5 h5 (by simp)
  have a2 : L ≠ q.2.1 := kn_ne k5 h6 (by simp)
  have a3 : L ≠ q.2.2.1 := kn_ne k5 h7 (by simp)
  have a5 : L ≠ E := kn_ne k5 h12 (by simp)
  have b1 : Ep ≠ q.1 := kn_ne k6 h5 (by simp)
  have b2 : Ep ≠ q.2.1 := kn_ne k6 h6 (by simp)
  have b3 : Ep ≠ q.2.2.1 := kn_ne k6 h7 (by simp)
  have b4 : Ep ≠ q.2.2.2 := kn_ne k6 h11 (by simp)
  refine ⟨fun z => ?_, fun zi z => ?_, ⟨a1, a2, a3, n1, a5⟩, fun zi => ⟨b1, b2, b3, b4, n2 zi⟩, kn_ne k6 k5 (by simp)⟩
  · rcases z with z | z | z | z | ⟨z, -⟩
    · exact a1 z
    · exact a2 z
    · exact a3 z
    · exact n1 z
    · exact a5 z
  · rcases z with z | z | z | z | ⟨z, -⟩
    · exact b1 z
    · exact b2 z
    · exact b3 z
    · exact b4 z
    · exact n2 zi z
theorem zov_k (hs : zrs D b0 I0 M0 q I M E r cnt nest pld ca) (hp : zov D M0 q E I M L Ep l) (hx : zsx q E I M E1 I1 M1) : zov D M0 q E1 I1 M1 L Ep l := by
  obtain ⟨c1, c2, -, -, -⟩ := zov_n hs hp
  obtain ⟨⟨k1, k2, k3, k4, mc', cap', g', k5, k6, k7, k8, k9, k10⟩, n1, n2⟩ := hp
  have hM : M1 Ep = some (.inl (5, cap', .inr (.inr (.inr (.inr g'))))) := by
    cases e : I Ep with
    | none => exact zsx_k hx k6 (c2 e)
    | some v =>
      have := zrs_z hs _ _ e
      rw [k6] at this
      cases this
      exact zsx_z hx _ _ (zsx_i hx _ _ e)
  refine ⟨⟨k1, ext_0 hx.1 k5 k2, k3, fun i a ha => zis_m (zsx_i hx) (k4 i a ha), mc', cap', g', zsx_k hx k5 c1, hM, k7, k8, k9, ?_⟩, n1, fun z => ?_⟩
  · rcases k10 with k10 | k10
    · exact Or.inl k10
    · exact Or.inr ⟨ext_0 hx.1 k6 k10.1, k10.2⟩
  · have zi := none_I (zsx_i hx) z
    rcases hx.2 with e | e
    · rw [e]; exact n2 zi
    · intro y; rw [← y, k6] at e; cases e
/-- an element more -/
theorem zov_add {post : Int32 → zM → Prop} {k n a : Nat} (hE0 : I0 (D.2.2.2 1) ≠ none) (hs : zrs D b0 I0 M0 q I M E r cnt nest pld ca) (hp : zov D M0 q E I M L Ep l) (hx : zsx q Es Is Ms E I M) (hL : Ms L = none) (hEp : I Ep = none → Ms Ep = none) (ha : zis I a (zok 5)) (hl : l.length ≤ 125) (hk : 1 ≤ k) (hn : 300 ≤ n)
    (hpo : ∀ M' Ep', zrs D b0 I0 M0 q I M' E r cnt nest pld ca → zov D M0 q E I M' L Ep' (l ++ [a]) → zsx q Es Is Ms E I M' → (I Ep' = none → Ms Ep' = none) → (∀ x e, M x = some e → x ≠ L → (x = Ep → I x ≠ none) → M' x = some e) → post 1 M') : zis M L [26] ∧ wp_J3_add D post k n L (some a) M := by
  obtain ⟨c1, c2, c3, c4, c5⟩ := zov_n hs hp
  have hp' := hp
  obtain ⟨⟨k1, k2, k3, k4, mc', cap', g', k5, k6, k7, k8, k9, k10⟩, n1, n2⟩ := hp'
  refine c_addL hp.1 (zrs_z hs) (zrs_0 hs) ha hl hk hn fun M' Ep' hx' he ho => ?_
  have hI1 : I (D.2.2.2 1) ≠ none := by
    intro z
    exact hE0 (none_I hs.1.1 z)
  have hU : ∀ x, x = L ∨ (x = Ep ∧ I x = none) → M0 x = none := by
    intro x hxx
    rcases hxx with e | ⟨e, ei⟩
    · subst e; exact k1
    · subst e
      rcases k10 with k10 | k10
      · exact absurd ei (by rw [k10.1]; exact hI1)
      · exact k10.2.1
  have hb : ext (fun _ => False) I0 M0 I M' := ext_t hs.1 hx' fun x hxx => Or.inr (hU x hxx)
  have hkeep : ∀ x e, M x = some e → x ≠ L → (x = Ep → I x ≠ none) → M' x = some e := fun x e hxe h1 h2 => hx'.2.2.1 x e hxe fun z => z.elim h1 fun z => h2 z.1 z.2
  have hs' : zrs D b0 I0 M0 q I M' E r cnt nest pld ca := zrs_k hs hb (zle_r _) fun x hxx => ⟨by
    cases e : M x with
    | none => exact absurd e (zrs_some hs x hxx)
    | some v => exact hkeep x v e (zapt_n c3 hxx) (fun z zi => by subst z; exact (zapt_n (c4 zi) hxx) rfl), fun z => z⟩
  refine hpo M' Ep' hs' ⟨ho, n1, fun z => ?_⟩ ⟨ext_t hx.1 hx' fun x hxx => ?_, hx.2⟩ (fun z => ?_) hkeep
  · rcases he with e | e
    · rw [e] at z ⊢; exact n2 z
    · intro y
      exact zrs_some hs E (Or.inr (Or.inr (Or.inr (Or.inr rfl)))) (by rw [← y]; exact e)
  · rcases hxx with e | ⟨e, ei⟩
    · subst e; exact Or.inr hL
    · subst e; exact Or.inr (hEp ei)
  · rcases he with e | e
    · rw [e] at z ⊢; exact hEp z
    · cases e9 : Ms Ep' with
      | none => rfl
      | some v => exact absurd e (hx.1.2.2.2 Ep' (by rw [e9]; simp)).1
/-- the list will not change any more -/
theorem zov_fr (hs : zrs D b0 I0 M0 q I M E r cnt nest pld ca) (hp : zov D M0 q E I M L Ep l) (hx : zsx q Es Is Ms E I M) (hL : Ms L = none) (hEp : I Ep = none → Ms Ep = none) (hE0 : I0 (D.2.2.2 1) ≠ none) (hl : l.length ≤ 200) :
    ∃ I', zle I I' ∧ zrs D b0 I0 M0 q I' M E r cnt nest pld ca ∧ zsx q Es Is Ms E I' M ∧ ∃ f, zLi I' L l.length f ∧ ∀ (i a : Nat), l[i]? = some a → f i = some a := by
  obtain ⟨c1, c2, c3, c4, c5⟩ := zov_n hs hp
  obtain ⟨⟨k1, k2, k3, k4, mc', cap', g', k5, k6, k7, k8, k9, k10⟩, n1, n2⟩ := hp
  have s1 := zrs_f hs c3 k1 k5 k2
  have x1 := zsx_f hx hL k5
  have hcap : cap' < 2 ^ 31 := by
    have h1 : cap' ≤ 10 + 2 * l.length := k8
    omega
  cases e : I Ep with
  | some v =>
    have hv := zrs_z hs _ _ e
    rw [k6] at hv
    cases hv
    refine ⟨_, zle_new (zle_r _) k2, s1, x1, g', ⟨mc', Ep, cap', zu_s, by rw [zu_n c5]; exact e, k7, hcap⟩, k9⟩
  | none =>
    have e1 : zu I L (some (.inr (26, [.int mc', .ref Ep, .int (nI l.length)]))) Ep = none := by rw [zu_n c5]; exact e
    have hM0 : M0 Ep = none := by
      rcases k10 with k10 | k10
      · exact absurd e (by rw [k10.1]; exact fun z => hE0 (none_I hs.1.1 z))
      · exact k10.2.1
    refine ⟨_, zle_t (zle_new (zle_r _) k2) (zle_new (zle_r _) e1), zrs_f s1 (c4 e) hM0 k6 e1, zsx_f x1 (hEp e) k6, g', ⟨mc', Ep, cap', by rw [zu_n c5.symm, zu_s], zu_s, k7, hcap⟩, k9⟩
end RD6
