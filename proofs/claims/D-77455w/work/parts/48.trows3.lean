/-! the twin's rows: row, move -/
def zfz {α : Type} (f : Nat → α) (z : α) (a n : Nat) : Nat → α := fun x => if a ≤ x ∧ x < a + n then z else f x
theorem zfz_s {α : Type} {f : Nat → α} {z : α} {a n : Nat} : vf_upd (zfz f z a n) (a + n) z = zfz f z a (n + 1) := by
  funext x
  unfold vf_upd zfz
  by_cases h : x = a + n
  · subst h; rw [if_pos rfl, if_pos (by omega)]
  · rw [if_neg h]
    by_cases h2 : a ≤ x ∧ x < a + n
    · rw [if_pos h2, if_pos (by omega)]
    · rw [if_neg h2, if_neg (by omega)]
theorem zfz_0 {α : Type} {f : Nat → α} {z : α} {a : Nat} : zfz f z a 0 = f := by
  funext x; unfold zfz; rw [if_neg (by omega)]
def tzr (S : zTS) (a n : Nat) : zTS := (S.1, S.2.1, zfz S.2.2.1 0 a n, zfz S.2.2.2.1 0 a n, zfz S.2.2.2.2 0 a n)
theorem tzr_s {S : zTS} {a n : Nat} : tUl (tUd (tUf (tzr S a n) (a + n) 0) (a + n) 0) (a + n) 0 = tzr S a (n + 1) := by
  unfold tUl tUd tUf tzr
  simp only
  rw [zfz_s, zfz_s, show vp_updL (zfz S.2.2.2.2 0 a n) (a + n) 0 = vf_upd (zfz S.2.2.2.2 0 a n) (a + n) 0 from rfl, zfz_s]
theorem tzr_0 {S : zTS} {a : Nat} : tzr S a 0 = S := by unfold tzr; rw [zfz_0, zfz_0, zfz_0]
/-- numbers moved within an array -/
def zmv {α : Type} (f : Nat → α) (a b n : Nat) : Nat → α := fun x => if a ≤ x ∧ x < a + n then f (b + (x - a)) else f x
def zmb {α : Type} (f : Nat → α) (a b n m : Nat) : Nat → α := fun x => if a + (n - m) ≤ x ∧ x < a + n then f (b + (x - a)) else f x
theorem zmv_0 {α : Type} {f : Nat → α} {a b : Nat} : zmv f a b 0 = f := by
  funext x; unfold zmv; rw [if_neg (by omega)]
theorem zmb_0 {α : Type} {f : Nat → α} {a b n : Nat} : zmb f a b n 0 = f := by
  funext x; unfold zmb; rw [if_neg (by omega)]
theorem zmb_n {α : Type} {f : Nat → α} {a b n : Nat} : zmb f a b n n = zmv f a b n := by
  funext x; unfold zmb zmv; rw [Nat.sub_self, Nat.add_zero]
theorem zmv_s {α : Type} {f : Nat → α} {a b m : Nat} (h : a ≤ b ∨ b + m < a) : vf_upd (zmv f a b m) (a + m) (zmv f a b m (b + m)) = zmv f a b (m + 1) := by
  have e : zmv f a b m (b + m) = f (b + m) := by unfold zmv; rw [if_neg (by omega)]
  rw [e]
  funext x
  unfold vf_upd zmv
  by_cases h : x = a + m
  · subst h; rw [if_pos rfl, if_pos (by omega), show a + m - a = m by omega]
  · rw [if_neg h]
    by_cases h2 : a ≤ x ∧ x < a + m
    · rw [if_pos h2, if_pos (by omega)]
    · rw [if_neg h2, if_neg (by omega)]
theorem zmb_s {α : Type} {f : Nat → α} {a b n m : Nat} (h : b < a) (hm : m < n) : vf_upd (zmb f a b n m) (a + (n - 1 - m)) (zmb f a b n m (b + (n - 1 - m))) = zmb f a b n (m + 1) := by
  have e : zmb f a b n m (b + (n - 1 - m)) = f (b + (n - 1 - m)) := by unfold zmb; rw [if_neg (by omega)]
  rw [e]
  funext x
  unfold vf_upd zmb
  by_cases h : x = a + (n - 1 - m)
  · subst h; rw [if_pos rfl, if_pos (by omega), show a + (n - 1 - m) - a = n - 1 - m by omega]
  · rw [if_neg h]
    by_cases h2 : a + (n - m) ≤ x ∧ x < a + n
    · rw [if_pos h2, if_pos (by omega)]
    · rw [if_neg h2, if_neg (by omega)]
def tG (S : zTS) (φ : (α : Type) → (Nat → α) → Nat → α) : zTS := (S.1, S.2.1, φ _ S.2.2.1, φ _ S.2.2.2.1, φ _ S.2.2.2.2)
theorem tG_s {S : zTS} {φ ψ : (α : Type) → (Nat → α) → Nat → α} {x y : Nat} (h : ∀ α f, vf_upd (φ α f) x (φ α f y) = ψ α f) : tUl (tUd (tUf (tG S φ) x (φ _ S.2.2.1 y)) x (φ _ S.2.2.2.1 y)) x (φ _ S.2.2.2.2 y) = tG S ψ := by
  unfold tUl tUd tUf tG
  simp only
  rw [h, h, show ∀ z, vp_updL (φ _ S.2.2.2.2) x z = vf_upd (φ _ S.2.2.2.2) x z from fun z => rfl, h]
theorem tG_i {S : zTS} {φ : (α : Type) → (Nat → α) → Nat → α} (h : ∀ α f, φ α f = f) : tG S φ = S := by
  unfold tG; rw [h, h, h]
theorem m30' (a : Nat) : (30 : Int32) * nI a = nI (30 * a) := by rw [show (30 : Int32) = nI 30 from rfl, nI_mu]
/-- a row made anew -/
def trow (S : zTS) (q : Nat) (s n : Int32) : zTS := tzr (tA (tA S 51 q (if s < 0 then -1 else n)) 52 q s) (30 * q) 30
section TR3
variable {D : zD} {o : Nat} {A : Nat → Nat} {S : zTS} {I : zM}
theorem t_rowL {post : Int32 → zM → Prop} {q : Nat} (hT : tok D o A) (hq : q < 3) (h : post 1 (tm o A (tzr S (30 * q) 30) I)) : ∃ f, wp_X9_row_L72 D post o f (nI q) (nI (30 * q)) (tm o A S I) := by
  have loop : ∀ f n : Nat, n ≤ 30 → 30 - n < f → wp_X9_row_L72 D post o f (nI q) (nI (30 * q + n)) (tm o A (tzr S (30 * q) n) I) := by
    intro f
    induction f with
    | zero => intro n _ hf; omega
    | succ f ih =>
      intro n hn hf
      unfold wp_X9_row_L72
      rw [m30', show nI (30 * q) + (30 : Int32) = nI (30 * q + 30) by rw [show (30 : Int32) = nI 30 from rfl, nI_add], nI_leI (by omega) (by omega)]
      refine ifc (fun z => ?_) (fun z => ?_)
      · have : n = 30 := by omega
        subst this; exact h
      · simp (disch := first | decide | omega) only [tgI, tgR, tzd, taI hT, tsI hT, tp hT, tF_s, tF_n, tA_F, tF_A, tA_s, tA_n, tA_R, tsz, m8, m5, m6, m10, m30, m120, nI_1, nI_add, clT, vinT, true_and, updS, updN, if_true, tsF hT, tsD hT, tsL hT]
        rw [show FP.fconst0 = (0 : UInt32) from rfl, show FP.dconst0 = (0 : UInt64) from rfl, tzr_s]
        exact ih (n + 1) (by omega) (by omega)
  have := loop 31 0 (by omega) (by omega)
  rw [tzr_0, Nat.add_zero] at this
  exact ⟨31, this⟩
theorem t_row {post : Int32 → zM → Prop} {r s n : Int32} (hT : tok D o A) (h1 : (zb r 3 = false ∨ zin s.toInt64 (-1) 2 = false ∨ (¬ s < 0 ∧ ¬ n ≤ 30)) → post (-1) (tm o A S I)) (h2 : ∀ q, q < 3 → r = nI q → zin s.toInt64 (-1) 2 = true → ¬ s < 0 → n ≤ 30 → ¬ 0 ≤ n → post (-14) (tm o A S I))
    (h3 : ∀ q, q < 3 → r = nI q → zin s.toInt64 (-1) 2 = true → (s < 0 ∨ (n ≤ 30 ∧ 0 ≤ n)) → post 1 (tm o A (trow S q s n) I)) : wp_X9_row D post o r s n (tm o A S I) := by
  unfold wp_X9_row wp_X9_row_L31
  refine t_isRow (ifb' (fun e1 => t_in (ifb' (fun e2 => ?_) (fun e2 => h1 (Or.inr (Or.inl e2))))) (fun e1 => h1 (Or.inl e1)))
  obtain ⟨q, hq, rfl⟩ := zb_of e1 (by decide)
  have h44 : (s < 0 ∨ (n ≤ 30 ∧ 0 ≤ n)) → wp_X9_row_L44 D post o (nI q) s n (tm o A S I) := by
    intro hc
    have h := h3 q hq rfl e2 hc
    unfold trow at h
    unfold wp_X9_row_L44 wp_X9_row_L58
    rw [i0_le, m30']
    simp (disch := first | decide | omega) only [tgI, tgR, tzd, taI hT, tsI hT, tp hT, tF_s, tF_n, tA_F, tF_A, tA_s, tA_n, tA_R, tsz, m8, m5, m6, m10, m30, m120, nI_1, nI_add, clT, vinT, true_and, updS, updN, if_true]
    refine ⟨fun z => t_rowL hT hq ?_, fun z => t_rowL hT hq ?_⟩
    · rw [if_neg z] at h; exact h
    · rw [if_pos (Classical.not_not.mp z)] at h; exact h
  unfold wp_X9_row_L33
  refine ifc (fun z => ⟨fun _ => h44 (Or.inl z), fun y => absurd z y⟩) (fun z => ifc (fun z2 => ⟨fun y => absurd y z, fun _ => ifc (fun z3 => h44 (Or.inr ⟨z2, z3⟩)) (fun z3 => h2 q hq rfl e2 z z2 z3)⟩) (fun z2 => h1 (Or.inr (Or.inr ⟨z, z2⟩))))
/-- the three arrays, n numbers moved from b to a -/
def tmv (S : zTS) (a b n : Nat) : zTS := tG S fun _ f => zmv f a b n
theorem t_moveL {post : Int32 → zM → Prop} {r i q j n : Nat} (hT : tok D o A) (hr : r < 3) (hq : q < 3) (hi : i + n ≤ 30) (hj : j + n ≤ 30) (h : post (nI n) (tm o A (tmv S (30 * q + j) (30 * r + i) n) I)) : ∃ f, wp_X9_move_L102 D post o f (nI r) (nI i) (nI q) (nI j) (nI n) 0 (tm o A S I) := by
  have e3 : ∀ x y z : Nat, (30 : Int32) * nI x + nI y + nI z = nI (30 * x + y + z) := fun x y z => by rw [m30, nI_add]
  have step : ∀ (f : Nat) (φ ψ : (α : Type) → (Nat → α) → Nat → α) (m y : Nat), y < n → (∀ α f, vf_upd (φ α f) (30 * q + j + y) (φ α f (30 * r + i + y)) = ψ α f) → wp_X9_move_L102 D post o f (nI r) (nI i) (nI q) (nI j) (nI n) (nI m + 1) (tm o A (tG S ψ) I) →
      wp_X9_move_L132 D post o (wp_X9_move_L102 D post o f) (nI r) (nI i) (nI q) (nI j) (nI n) (nI m) (nI y) (tm o A (tG S φ) I) := by
    intro f φ ψ m y hy hs hw
    unfold wp_X9_move_L132
    simp only [e3]
    simp (disch := first | decide | omega) only [tgR, tzd, taF hT, tsF hT, taD hT, tsD hT, taL hT, tsL hT, clT, vinT, true_and, tUf_4, tUd_5]
    rw [← tG_s hs] at hw
    exact hw
  by_cases hb : r = q ∧ i < j
  · obtain ⟨rfl, hij⟩ := hb
    have loop : ∀ f m : Nat, m ≤ n → n - m < f → wp_X9_move_L102 D post o f (nI r) (nI i) (nI r) (nI j) (nI n) (nI m) (tm o A (tG S fun _ f => zmb f (30 * r + j) (30 * r + i) n m) I) := by
      intro f
      induction f with
      | zero => intro m _ hf; omega
      | succ f ih =>
        intro m hm hf
        unfold wp_X9_move_L102
        rw [nI_leI (by omega) (by omega), nI_leI (by omega) (by omega)]
        refine ifc (fun z => ?_) (fun z => ⟨fun y => absurd rfl y, fun _ => ⟨fun y => by omega, fun _ => ?_⟩⟩)
        · have : m = n := by omega
          subst this
          have e9 : (tG S fun _ f => zmb f (30 * r + j) (30 * r + i) m m) = tmv S (30 * r + j) (30 * r + i) m := by unfold tmv tG; simp only [zmb_n]
          rw [e9]; exact h
        · have e8 : nI n - 1 - nI m = nI (n - 1 - m) := by
            obtain ⟨w, rfl⟩ : ∃ w, n = w + 1 := ⟨n - 1, by omega⟩
            rw [nI_pred]
            obtain ⟨v, rfl⟩ : ∃ v, w = v + m := ⟨w - m, by omega⟩
            rw [← nI_add v m, Int32.add_sub_cancel]
            congr 1; omega
          rw [e8]
          refine step f _ (fun _ f => zmb f (30 * r + j) (30 * r + i) n (m + 1)) m (n - 1 - m) (by omega) (fun α f => zmb_s (by omega) (by omega)) ?_
          rw [nI_1]
          exact ih (m + 1) (by omega) (by omega)
    have := loop (n + 1) 0 (by omega) (by omega)
    rw [tG_i (fun _ _ => zmb_0)] at this
    exact ⟨n + 1, this⟩
  · have loop : ∀ f m : Nat, m ≤ n → n - m < f → wp_X9_move_L102 D post o f (nI r) (nI i) (nI q) (nI j) (nI n) (nI m) (tm o A (tG S fun _ f => zmv f (30 * q + j) (30 * r + i) m) I) := by
      intro f
      induction f with
      | zero => intro m _ hf; omega
      | succ f ih =>
        intro m hm hf
        have hst : m < n → wp_X9_move_L132 D post o (wp_X9_move_L102 D post o f) (nI r) (nI i) (nI q) (nI j) (nI n) (nI m) (nI m) (tm o A (tG S fun _ f => zmv f (30 * q + j) (30 * r + i) m) I) := fun hmn => by
          refine step f _ (fun _ f => zmv f (30 * q + j) (30 * r + i) (m + 1)) m m hmn (fun α f => zmv_s ?_) ?_
          · by_cases hrq : r = q
            · subst hrq
              have : ¬ i < j := fun z => hb ⟨rfl, z⟩
              omega
            · omega
          · rw [nI_1]
            exact ih (m + 1) (by omega) (by omega)
        unfold wp_X9_move_L102 wp_X9_move_L130
        rw [nI_leI (by omega) (by omega), nI_leI (by omega) (by omega), nI_eq (by omega) (by omega)]
        refine ifc (fun z => ?_) (fun z => ⟨fun _ => hst (by omega), fun e => ⟨fun _ => hst (by omega), fun y => absurd ⟨e, by omega⟩ hb⟩⟩)
        have : m = n := by omega
        subst this; exact h
    have := loop (n + 1) 0 (by omega) (by omega)
    rw [tG_i (fun _ _ => zmv_0)] at this
    exact ⟨n + 1, this⟩
theorem t_move {post : Int32 → zM → Prop} {r i q j n : Int32} (hT : tok D o A) (hW : zRw S) (h1 : (zb r 3 && zb q 3) = false → post (-1) (tm o A S I)) (h2 : ∀ a b, a < 3 → r = nI a → b < 3 → q = nI b → (S.2.1 51 a = -1 ∨ S.2.1 51 b = -1) → post (-11) (tm o A S I))
    (h3 : ∀ a b x y u v, a < 3 → r = nI a → b < 3 → q = nI b → x ≤ 30 → y ≤ 30 → S.2.1 51 a = nI x → S.2.1 51 b = nI y → u ≤ 2 → v ≤ 2 → S.2.1 52 a = nI u → S.2.1 52 b = nI v → (u ≠ v → post (-13) (tm o A S I)) ∧ (u = v → ((n < 0 ∨ i < 0 ∨ j < 0 ∨ nI x - i < n ∨ ¬ n ≤ nI y - j) → post (-12) (tm o A S I))
      ∧ ∀ i' j' n' : Nat, i = nI i' → j = nI j' → n = nI n' → i' + n' ≤ x → j' + n' ≤ y → post (nI n') (tm o A (tmv S (30 * b + j') (30 * a + i') n') I))) : wp_X9_move D post o r i q j n (tm o A S I) := by
  unfold wp_X9_move wp_X9_move_L14 wp_X9_move_L34 wp_X9_move_L96
  refine t_isRow (ifb' (fun e1 => t_isRow (ifb (fun e2 => ?_) (fun e2 => h1 (by rw [e2, Bool.and_false])))) (fun e1 => h1 (by rw [e1]; rfl)))
  obtain ⟨a, ha, rfl⟩ := zb_of e1 (by decide)
  obtain ⟨b, hb, rfl⟩ := zb_of e2 (by decide)
  simp (disch := first | decide | omega) only [tgI, tgR, tzd, taI hT, tsI hT, tp hT, tF_s, tF_n, tA_F, tF_A, tA_s, tA_n, tA_R, tsz, m8, m5, m6, m10, m30, m120, nI_1, nI_add, clT, vinT, true_and, updS, updN, if_true, i0_le]
  rcases hW a ha with h5 | ⟨x, u, hx, hu, h5, h6⟩
  · rw [h5]
    exact ⟨fun _ => h2 a b ha rfl hb rfl (Or.inl h5), fun z => absurd (by decide) z⟩
  rcases hW b hb with h7 | ⟨y, v, hy, hv, h7, h8⟩
  · rw [h7]
    refine ⟨fun z => h2 a b ha rfl hb rfl (Or.inr h7), fun _ => ⟨fun z => absurd (by decide) z, fun _ => h2 a b ha rfl hb rfl (Or.inr h7)⟩⟩
  rw [h5, h6, h7, h8]
  obtain ⟨k1, k2⟩ := h3 a b x y u v ha rfl hb rfl hx hy h5 h7 hu hv h6 h8
  refine ⟨fun z => absurd z (nI_pos (by omega)), fun _ => ⟨fun _ => ?_, fun z => absurd (nI_pos (by omega)) z⟩⟩
  rw [nI_eq (by omega) (by omega)]
  refine ⟨fun z => ?_, fun z => k1 z⟩
  obtain ⟨k3, k4⟩ := k2 z
  refine ifc (fun z1 => k3 (Or.inl z1)) (fun z1 => ifc (fun z2 => k3 (Or.inr (Or.inl z2))) (fun z2 => ifc (fun z3 => k3 (Or.inr (Or.inr (Or.inl z3)))) (fun z3 => ifc (fun z4 => k3 (Or.inr (Or.inr (Or.inr (Or.inl z4))))) (fun z4 => ⟨fun z5 => ?_, fun z5 => k3 (Or.inr (Or.inr (Or.inr (Or.inr z5))))⟩))))
  obtain ⟨n', hn', rfl⟩ := nI_of z1
  obtain ⟨i', hi', rfl⟩ := nI_of z2
  obtain ⟨j', hj', rfl⟩ := nI_of z3
  have hsub : ∀ p s t : Nat, p ≤ 30 → s < 2 ^ 31 → t < 2 ^ 31 → nI t ≤ nI p - nI s → s + t ≤ p := by
    intro p s t hp hs ht hle
    rw [Int32.le_iff_toInt_le, nI_toInt ht, Int32.toInt_sub, nI_toInt (by omega), nI_toInt hs, Int.bmod_def] at hle
    simp only [Nat.reducePow] at hle
    omega
  have hl1 : i' + n' ≤ x := hsub x i' n' hx hi' hn' (by rw [Int32.lt_iff_toInt_lt] at z4; rw [Int32.le_iff_toInt_le]; omega)
  have hl2 : j' + n' ≤ y := hsub y j' n' hy hj' hn' z5
  exact t_moveL hT ha hb (by omega) (by omega) (k4 i' j' n' rfl rfl rfl hl1 hl2)
end TR3
