/-! the component's acts that leave all as it was -/
theorem zDe_m {I M : zM} {a k : Nat} {d : Int32} (h : zle I M) (h1 : zDe I a d k) : zDe M a d k := h _ _ h1
theorem zLi_m {I M : zM} {L n : Nat} {f : Nat → Option Nat} (h : zle I M) (h1 : zLi I L n f) : zLi M L n f := by
  obtain ⟨mc, E, cap, h2, h3, h4⟩ := h1
  exact ⟨mc, E, cap, h _ _ h2, h _ _ h3, h4⟩
theorem zCs_m {I M : zM} {L : Nat} {l : List zCo} (h : zle I M) (h1 : zCs I L l) : zCs M L l := by
  obtain ⟨f, h2, h3⟩ := h1
  exact ⟨f, zLi_m h h2, fun i q hq => by obtain ⟨c, h4, h5⟩ := h3 i q hq; exact ⟨c, h4, h _ _ h5⟩⟩
theorem zTr_m {I M : zM} {T : Nat} (h : zle I M) (h1 : zTr I T) : zTr M T := by
  obtain ⟨f, h2, h3⟩ := h1
  refine ⟨f, h _ _ h2, fun i hi => ?_⟩
  obtain ⟨a, c, h4, h5, h6, h7⟩ := h3 i hi
  exact ⟨a, c, h4, h5, zDe_m h h6, zDe_m h h7⟩
theorem zLa_m {I M : zM} {a ci T : Nat} {l : List zCo} (h : zle I M) (h1 : zLa I a ci l T) : zLa M a ci l T := by
  obtain ⟨L, fs, h2, h3, h4⟩ := h1
  exact ⟨L, fs, h2, h _ _ h3, zCs_m h h4⟩
theorem zLs_m {α : Type} {I M : zM} {L : Nat} {l : List α} {P Q : Nat → α → Prop} (h : zle I M) (hP : ∀ a q, q ∈ l → P a q → Q a q) (h1 : zLs I L l P) : zLs M L l Q := by
  obtain ⟨f, h2, h3⟩ := h1
  refine ⟨f, zLi_m h h2, fun i q hq => ?_⟩
  obtain ⟨a, h4, h5⟩ := h3 i q hq
  exact ⟨a, h4, hP a q (List.mem_of_getElem? hq) h5⟩
theorem zLe_m {I M : zM} {a : Nat} {q : zLf} (h : zle I M) (h1 : zLe I a q) : zLe M a q := by
  obtain ⟨k, c, x, g, w, l, m⟩ := q
  match k with
  | 0 => exact h _ _ h1
  | 1 => exact h _ _ h1
  | 2 => exact h _ _ h1
  | 3 => exact h _ _ h1
  | k + 4 =>
    obtain ⟨p, h2, h3⟩ := h1
    exact ⟨p, h _ _ h2, h _ _ h3⟩
theorem zPs_m {α : Type} {I M : zM} {P : Nat} {t : List α} {p q : Nat → α → Prop} (h : zle I M) (hP : ∀ a x, x ∈ t → p a x → q a x) (h1 : zPs I p P t) : zPs M q P t := by
  obtain ⟨L, h2, h3⟩ := h1
  exact ⟨L, h _ _ h2, zLs_m h hP h3⟩
theorem zNd_m {I M : zM} (h : zle I M) : ∀ (d a : Nat) (q : zN d), zNd I d a q → zNd M d a q
  | 0, _, _, h1 => zLe_m h h1
  | d + 1, a, .inl q, h1 => zLe_m h (q := q) h1
  | d + 1, a, .inr q, h1 => by
    obtain ⟨L, u, h2, h3⟩ := h1
    refine ⟨L, u, h _ _ h2, zLs_m h (fun c b _ hb => ?_) h3⟩
    obtain ⟨P, h4, h5⟩ := hb
    exact ⟨P, h _ _ h4, zPs_m h (fun a x _ hx => zNd_m h d a x hx) h5⟩
theorem zCh0_m {I M : zM} {a : Nat} {x : zCh} (h : zle I M) (h1 : zCh0 I a x) : zCh0 M a x := by
  obtain ⟨L, h2, h5⟩ := h1
  exact ⟨L, h _ _ h2, zLs_m h (fun c b _ hb => by obtain ⟨P, h6⟩ := hb; exact ⟨P, h _ _ h6⟩) h5⟩
theorem zMg_m {I M : zM} {a : Nat} {q : zMs} (h : zle I M) (h1 : zMg I a q) : zMg M a q := by
  obtain ⟨P, L, T, f, h2, h3, h4, h6, h7⟩ := h1
  exact ⟨P, L, T, f, h _ _ h2, zPs_m h (fun a x _ hx => zNd_m h 3 a x hx) h3, zLs_m h (fun a x _ hx => zCh0_m h hx) h4, h _ _ h6, h7⟩
theorem zTg_m {I M : zM} {r : Option Nat} {q : zTh} (h : zle I M) (h1 : zTg I r q) : zTg M r q := by
  rcases h1 with h1 | ⟨h1, h2, a, c, h3, h4, h5⟩ | ⟨h1, h0, a, g, h2, h3, h4⟩ | ⟨h1, h0, h2, h3, a, c, f, h4, h5, h6, h7⟩
  · exact Or.inl h1
  · exact Or.inr (Or.inl ⟨h1, h2, a, c, h3, h _ _ h4, zDe_m h h5⟩)
  · exact Or.inr (Or.inr (Or.inl ⟨h1, h0, a, g, h2, h _ _ h3, h4⟩))
  · exact Or.inr (Or.inr (Or.inr ⟨h1, h0, h2, h3, a, c, f, h4, h _ _ h5, h _ _ h6, h7⟩))
section CO1
variable {D : zD} {X : zSg} {B : Nat → Nat} {I M : zM}
theorem RC_le (h : RC D X B I M) : zle I M → ∃ (f : Nat → Option Nat) (T : Nat), M (B 2) = some (.inl (6, 7, .inr (.inr (.inr (.inr f))))) ∧ zTr M T ∧ ∀ l, l < 7 → ∃ a, f l = some a ∧ zLa M a (zLc l) (zof X.1 l) T := by
  intro hz
  obtain ⟨-, -, -, -, -, -, ⟨f, T, h1, h2, h3, ⟨a6, h4, h5⟩, h6, -, mc, g, h7, h8, h9⟩, -⟩ := h
  refine ⟨f, T, hz _ _ h1, zTr_m hz h2, fun l hl => ?_⟩
  rcases Nat.lt_or_ge l 6 with hl6 | hl6
  · obtain ⟨a, L, k1, k2, k3⟩ := h3 l hl6
    refine ⟨a, k1, L, _, ?_, hz _ _ k2, ?_⟩
    · match l, hl6 with
      | 0, _ => decide
      | 1, _ => decide
      | 2, _ => decide
      | 3, _ => decide
      | 4, _ => decide
      | 5, _ => decide
    · unfold zof
      rw [if_neg (by omega)]
      exact zCs_m hz k3
  · have : l = 6 := by omega
    subst this
    refine ⟨a6, h4, B 20, [], by decide, hz _ _ h5, g, ⟨mc, B 21, 12, h7, h8, h6, by decide⟩, fun i q hq => ?_⟩
    obtain ⟨c, k1, k2⟩ := h9 i q hq
    exact ⟨c, k1, hz _ _ k2⟩
theorem c_isSlot {post : Int32 → zM → Prop} {a : Int32} (h : post (b1 (zb a 4)) M) : wp_X0_isSlot D post a M := by
  unfold wp_X0_isSlot
  refine c_in ?_
  rw [zin_b (n := 4) (by decide)]
  exact ⟨of_eq_true znb, h⟩
theorem c_isArgument {post : Int32 → zM → Prop} {a : Int32} (h : post (b1 (zb a 5)) M) : wp_X0_isArgument D post a M := by
  unfold wp_X0_isArgument
  refine c_in ?_
  rw [zin_b (n := 5) (by decide)]
  exact ⟨of_eq_true znb, h⟩
theorem c_isLanguage {post : Int32 → zM → Prop} {a : Int32} (h : post (b1 (zb a 7)) M) : wp_X0_isLanguage D post a M := by
  unfold wp_X0_isLanguage
  refine c_in ?_
  rw [zin_b (n := 7) (by decide)]
  exact ⟨of_eq_true znb, h⟩
theorem c_isScale {post : Int32 → zM → Prop} {a : Int32} (h : post (b1 (zb a 7)) M) : wp_X0_isScale D post a M := by
  unfold wp_X0_isScale
  refine c_in ?_
  rw [zin_b (n := 7) (by decide)]
  exact ⟨of_eq_true znb, h⟩
theorem c_isRow {post : Int32 → zM → Prop} {a : Int32} (h : post (b1 (zb a 3)) M) : wp_X0_isRow D post a M := by
  unfold wp_X0_isRow
  refine c_in ?_
  rw [zin_b (n := 3) (by decide)]
  exact ⟨of_eq_true znb, h⟩
/-- a decimal made -/
theorem c_newDec {k n : Nat} {Φ : Nat → zM → Prop} {d : Int32} {s : Nat} (hs : s ≤ 6) (hk : 1 ≤ k) (hn : 6 ≤ n) {post : Nat → Unit → zM → Prop} (h : ∀ b, M b = none → zB D ≤ b → post b () (zu M b (some (.inr (1, zde d s))))) :
    znew D M 1 6 [.int 0, .int 0, .long 0, .long 0, .int 0, .long 0] k n fun b M => wp_X1_init_2 D (post b) b d (nI s) M := ⟨hk, hn, fun b hb hb2 => c_dec2 hs hb2 (h b hb hb2)⟩
theorem zde_new {b : Nat} {d : Int32} {s : Nat} : zDe (zu M b (some (.inr (1, zde d s)))) b d s := zu_s
theorem c_operand {post : Int64 → zM → Prop} {k n o : Nat} {d s w : Int32} (hk : 1 ≤ k) (hn : 6 ≤ n) (h : ∀ M', zle M M' → post (if zb s 7 && zb w 5 then zop d s.toNatClampNeg w else -9223372036854775808) M') : wp_X0_operand D post k n o d s w M := by
  unfold wp_X0_operand wp_X0_operand_L35 wp_X0_operand_L38
  refine c_isScale (ifb' (fun e1 => c_in ?_) (fun e1 => ?_))
  · rw [zin_b (n := 5) (by decide)]
    refine ifb' (fun e2 => ?_) (fun e2 => ?_)
    · obtain ⟨j, hj, rfl⟩ := zb_of e1 (by decide)
      rw [e1, e2, nI_clamp (by omega)] at h
      refine ⟨hk, hn, fun b hb hb2 => c_dec2 (by omega) hb2 ⟨cis zu_s (by decide), c_operandD (k := j) (by omega) zde_new (h _ (zle_new (zle_r _) hb))⟩⟩
    · rw [e1, e2] at h; exact h _ (zle_r _)
  · rw [e1] at h; exact h _ (zle_r _)
theorem c_categoryA {post : Int32 → zM → Prop} {k n : Nat} {l d s : Int32} (hR : RC D X B I M) (hz : zle I M) (hk : 1 ≤ k) (hn : 6 ≤ n) (h : ∀ M', zle M M' → post (if zb l 7 && zb s 7 then nI (zca (zof X.1 l.toNatClampNeg) d s.toNatClampNeg) else -1) M') : wp_X0_category D post k n (B 0) l d s M := by
  unfold wp_X0_category wp_X0_category_L35 wp_X0_category_L36
  refine c_isLanguage (ifb' (fun e1 => c_isScale (ifb' (fun e2 => ?_) (fun e2 => ?_))) (fun e1 => ?_))
  · obtain ⟨j, hj, rfl⟩ := zb_of e1 (by decide)
    obtain ⟨i, hi, rfl⟩ := zb_of e2 (by decide)
    rw [e1, e2, nI_clamp (by omega), nI_clamp (by omega)] at h
    obtain ⟨f, T, h1, h2, h3⟩ := RC_le hR hz
    obtain ⟨a, h4, h5⟩ := h3 j hj
    refine cgR (x := some (B 2)) hR.1 rfl (czd (caR h1 (vp_in_nI hj (by decide)) ⟨hk, hn, fun b hb hb2 => c_dec2 (by omega) hb2 ?_⟩))
    rw [nI_clamp (by omega), h4]
    have hle : zle M (zu M b (some (.inr (1, zde d i)))) := zle_new (zle_r _) hb
    have h5' := zLa_m hle h5
    exact czd ⟨by obtain ⟨L, fs, q1, q2, -⟩ := h5'; exact cis q2 q1, c_category (k := i) (by omega) h5' zde_new (h _ hle)⟩
  · rw [e1, e2] at h; exact h _ (zle_r _)
  · rw [e1] at h; exact h _ (zle_r _)
theorem c_usedA {post : Int32 → zM → Prop} {l : Int32} (hR : RC D X B I M) (hz : zle I M) (h : post (if zb l 7 then zused (zof X.1 l.toNatClampNeg) else -1) M) : wp_X0_used D post (B 0) l M := by
  unfold wp_X0_used wp_X0_used_L20
  refine c_isLanguage (ifb' (fun e1 => ?_) (fun e1 => ?_))
  · obtain ⟨j, hj, rfl⟩ := zb_of e1 (by decide)
    rw [e1, nI_clamp (by omega)] at h
    obtain ⟨f, T, h1, h2, h3⟩ := RC_le hR hz
    obtain ⟨a, h4, h5⟩ := h3 j hj
    refine cgR (x := some (B 2)) hR.1 rfl (czd (caR h1 (vp_in_nI hj (by decide)) ?_))
    rw [nI_clamp (by omega), h4]
    exact czd ⟨by obtain ⟨L, fs, q1, q2, -⟩ := h5; exact cis q2 q1, c_used h5 h2 h⟩
  · rw [e1] at h; exact h
end CO1
