/-! the twin: puts, shape -/
def zK5 : Nat → Option Nat := fun k => if k = 45 then some 47 else none
def tput (S : zTS) (n : Nat) : zTS := tCp (tF S 46 (nI n)) zK5 0 0 n
theorem tCq_o {S : zTS} {K : Nat → Option Nat} {J : List Nat} {a b n k : Nat} (hK : K k = none) : (tCq S K J a b n).2.1 k = S.2.1 k := tCq_n hK
theorem zsh_len {l : Nat} {d : Int32} {k w least most : Nat} {g : Bool} (hw : w ≤ 4) (hl : least ≤ 3) (hlm : least ≤ most) (hm : most ≤ 6) : (zsh l d k g w least most).length ≤ 41 := by
  have hb := zsv_b (k := k) (zab_lt d) hl hlm
  have h1 := zwh_len (l := l) (g := g) (w := w) (V := (zsv (zab d) k least most).1) (G := (zsv (zab d) k least most).2) (Nat.lt_of_le_of_lt hb.1 (by decide)) hw (by omega)
  unfold zsh
  rw [List.length_append]
  have h2 : (if d < 0 ∧ (zsv (zab d) k least most).1 ≠ 0 then ([45] : List Int32) else []).length ≤ 1 := by split <;> simp
  omega
section TW5
variable {D : zD} {o : Nat} {A : Nat → Nat} {S : zTS} {I : zM}
theorem t_puts {post : Int32 → zM → Prop} {n : Nat} (hT : tok D o A) (hn : S.1 48 = nI n) (hn2 : n ≤ 240) (h : post (nI n) (tm o A (tput S n) I)) : wp_X9_puts D post o (tm o A S I) := by
  unfold wp_X9_puts
  rw [tgI (by decide) rfl, tp hT (by decide) rfl, hn]
  have loop : ∀ f i : Nat, i ≤ n → n - i < f → wp_X9_puts_L10 D post o f (nI i) (tm o A (tCp (tF S 46 (nI n)) zK5 0 0 i) I) := by
    intro f
    induction f with
    | zero => intro i _ hf; omega
    | succ f ih =>
      intro i hi hf
      unfold wp_X9_puts_L10
      rw [tgI (by decide) rfl, tCp_F, tF_s, nI_leI (by omega) (by omega)]
      refine ifc (fun z => ?_) (fun z => ?_)
      · have : i = n := by omega
        subst this
        rw [tgI (by decide) rfl, tCp_F, tF_s]
        exact h
      · rw [tCq_nil]
        simp (disch := first | decide | omega) only [tgI, tgR, tzd, taI hT, tsI hT, tp hT, tF_s, tF_n, tA_F, tF_A, tA_s, tA_n, tA_R, tsz, m8, m5, m6, m10, m30, m120, nI_1, nI_add, clT, vinT, true_and, updS, updN, if_true]
        rw [tCq_o (K := zK5) (k := 47) rfl]
        have e := tCq_s (S := tF S 46 (nI n)) (K := zK5) (J := []) (a := 0) (b := 0) (n := i) (k := 45) (q := 47) rfl (by decide)
        rw [Nat.zero_add] at e
        rw [e, tCq_all (K := zK5) (by intro k; unfold zK5; split <;> simp_all)]
        exact ih (i + 1) (by omega) (by omega)
  have := loop (n + 1) 0 (by omega) (by omega)
  rw [tCp_0] at this
  exact ⟨n + 1, this⟩
def zshok (l k w e m g : Int32) : Bool := zb l 7 && (zb k 7 && (zin w.toInt64 1 4 && (zb e 4 && (zb m 4 && zb g 2))))
def tshs (S : zTS) (l : Int32) (w e m g : Int32) : zTS := tF (tF (tF (tF (tF (tF S 48 0) 49 l) 38 w) 39 e) 40 (e + m)) 37 g
theorem t_shape {post : Int32 → zM → Prop} {l d k w e m g : Int32} (hT : tok D o A) (h1 : zshok l k w e m g = false → post (-1) (tm o A S I))
    (h2 : ∀ (l' k' w' e' m' : Nat) (g' : Bool), l' < 7 → l = nI l' → k' < 7 → k = nI k' → w' ≤ 4 → 1 ≤ w' → w = nI w' → e' ≤ 3 → e = nI e' → m' ≤ 3 → m = nI m' → g = b1 g' →
      post (nI (zsh l' d k' g' w' e' (e' + m')).length) (tm o A (tput (tw (tshs S l w e m g) 0 (zsh l' d k' g' w' e' (e' + m'))) (zsh l' d k' g' w' e' (e' + m')).length) I)) : wp_X9_shape D post o l d k w e m g (tm o A S I) := by
  have hm : zb l 7 = false ∨ zb k 7 = false ∨ zin w.toInt64 1 4 = false ∨ zb e 4 = false ∨ zb m 4 = false ∨ zb g 2 = false → post (-1) (tm o A S I) := fun z => h1 (by unfold zshok; rcases z with z | z | z | z | z | z <;> simp [z])
  unfold wp_X9_shape wp_X9_shape_L69
  refine t_isLanguage (ifb' (fun e1 => t_in ?_) (fun e1 => hm (Or.inl e1)))
  rw [zin_b (n := 7) (by decide)]
  refine ifb' (fun e2 => t_in (ifb' (fun e3 => t_in ?_) (fun e3 => hm (Or.inr (Or.inr (Or.inl e3)))))) (fun e2 => hm (Or.inr (Or.inl e2)))
  rw [zin_b (n := 4) (by decide)]
  refine ifb' (fun e4 => t_in ?_) (fun e4 => hm (Or.inr (Or.inr (Or.inr (Or.inl e4)))))
  rw [zin_b (n := 4) (by decide)]
  refine ifb' (fun e5 => t_in ?_) (fun e5 => hm (Or.inr (Or.inr (Or.inr (Or.inr (Or.inl e5))))))
  rw [zin_b (n := 2) (by decide)]
  refine ifb (fun e6 => ?_) (fun e6 => hm (Or.inr (Or.inr (Or.inr (Or.inr (Or.inr e6))))))
  obtain ⟨l', hl, rfl⟩ := zb_of e1 (by decide)
  obtain ⟨k', hk, rfl⟩ := zb_of e2 (by decide)
  obtain ⟨e', he, rfl⟩ := zb_of e4 (by decide)
  obtain ⟨m', hm', rfl⟩ := zb_of e5 (by decide)
  obtain ⟨g0, hg0, rfl⟩ := zb_of e6 (by decide)
  obtain ⟨g', hg'⟩ : ∃ g' : Bool, nI g0 = b1 g' := by
    have : g0 = 0 ∨ g0 = 1 := by omega
    rcases this with rfl | rfl
    · exact ⟨false, rfl⟩
    · exact ⟨true, rfl⟩
  obtain ⟨w', hw1, hw2, rfl⟩ : ∃ w' : Nat, 1 ≤ w' ∧ w' ≤ 4 ∧ w = nI w' := by
    unfold zin at e3
    rw [Bool.and_eq_true, decide_eq_true_eq, decide_eq_true_eq, Int64.le_iff_toInt_le, Int64.le_iff_toInt_le, Int32.toInt_toInt64] at e3
    have x1 : (1 : Int64).toInt = 1 := by decide
    have x4 : (4 : Int64).toInt = 4 := by decide
    refine ⟨w.toInt.toNat, by omega, by omega, Int32.toInt_inj.mp ?_⟩
    rw [nI_toInt (by omega)]; omega
  have h := h2 l' k' w' e' m' g' hl rfl hk rfl hw2 hw1 rfl (by omega) rfl (by omega) rfl hg'
  rw [tp hT (by decide) rfl, tp hT (by decide) rfl, tp hT (by decide) rfl, tp hT (by decide) rfl, tp hT (by decide) rfl, tp hT (by decide) rfl]
  have hlen := zsh_len (l := l') (d := d) (k := k') (g := g') hw2 (show e' ≤ 3 by omega) (show e' ≤ e' + m' by omega) (by omega)
  have hS : tF (tF (tF (tF (tF (tF S 48 0) 49 (nI l')) 38 (nI w')) 39 (nI e')) 40 (nI e' + nI m')) 37 (nI g0) = tshs S (nI l') (nI w') (nI e') (nI m') (nI g0) := rfl
  rw [hS]
  refine ⟨tis _ (by decide), t_writesShaped (n := 0) (l := l') (w := w') (least := e') (most := e' + m') (g := g') hT rfl (by decide) rfl hl hg' rfl hw2 rfl (by show nI e' + nI m' = _; rw [nI_add]) (by omega) (by omega) (by omega) (by omega) ⟨tis _ (by decide), ?_⟩⟩
  refine t_puts hT (by rw [tw_48, Nat.zero_add]) (by omega) h
end TW5
