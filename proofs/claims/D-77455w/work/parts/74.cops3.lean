/-! the component's depth of parts -/
/-- what is asked of a part as a depth is counted -/
def zND (D : zD) (P : (Int32 → zM → Prop) → Nat → Nat → Nat → zM → Prop) (G : Int32 → Nat → Nat → zM → Prop) (k n a : Nat) (M : zM) : Prop :=
  (zis M a [12, 14, 15, 16, 21] ∧ wp_X13_depth D (fun r M => G r k n M) a M) ∨ (zis M a [18, 19] ∧ ∃ k1 n1, k1 ≤ k ∧ n1 ≤ n ∧ wp_X20_depth D P (fun r M => G r (k - k1) (n - n1) M) k1 n1 a M)
theorem zLe_is {M : zM} {a : Nat} {q : zLf} (h : zLe M a q) : zis M a [12, 14, 15, 16, 21] := by
  obtain ⟨k, c, x, g, w, l, m⟩ := q
  match k with
  | 0 => exact cis (ci := 21) h (by decide)
  | 1 => exact cis (ci := 12) h (by decide)
  | 2 => exact cis (ci := 14) h (by decide)
  | 3 => exact cis (ci := 15) h (by decide)
  | k + 4 =>
    obtain ⟨p, h2, h3⟩ := h
    exact cis (ci := 16) h2 (by decide)
theorem zNd_is {M : zM} : ∀ {d a : Nat} {q : zN d}, zNd M d a q → zis M a [12, 14, 15, 16, 18, 19, 21]
  | 0, a, q, h => by
    obtain ⟨ci, fs, h1, h2⟩ := zLe_is h
    exact ⟨ci, fs, (by decide : ∀ c ∈ ([12, 14, 15, 16, 21] : List Nat), c ∈ ([12, 14, 15, 16, 18, 19, 21] : List Nat)) ci h1, h2⟩
  | d + 1, a, .inl q, h => by
    obtain ⟨ci, fs, h1, h2⟩ := zLe_is (q := q) h
    exact ⟨ci, fs, (by decide : ∀ c ∈ ([12, 14, 15, 16, 21] : List Nat), c ∈ ([12, 14, 15, 16, 18, 19, 21] : List Nat)) ci h1, h2⟩
  | d + 1, a, .inr q, h => by
    obtain ⟨L, u, h2, h3⟩ := h
    refine cis h2 ?_
    split <;> decide
theorem zmx_c (x : Nat) (l : List Nat) : zmx (x :: l) = max x (zmx l) := rfl
section CDp
variable {D : zD}
theorem c_dloop {P : (Int32 → zM → Prop) → Nat → Nat → Nat → zM → Prop} {d : Nat} {post : Int32 → zM → Prop} {o L b : Nat} {t : List (zN d)} {M0 : zM} {mc : Int32} {E cap : Nat} {g : Nat → Option Nat} (hd : d ≤ 6)
    (hN : ∀ (q : zN d) (a k n : Nat) (M : zM) (G : Int32 → Nat → Nat → zM → Prop), zNd M d a q → znK d q ≤ k → 4 * znK d q ≤ n → (∀ M', zle M M' → G (nI (znD d q)) (k - znK d q) (n - 4 * znK d q) M') → zND D P G k n a M)
    (hL : M0 L = some (.inr (26, [.int mc, .ref E, .int (nI t.length)]))) (hE : M0 E = some (.inl (5, cap, .inr (.inr (.inr (.inr g)))))) (hc : t.length ≤ cap) (hc2 : cap < 2 ^ 31) (hg : ∀ i q, t[i]? = some q → ∃ a, g i = some a ∧ zNd M0 d a q) (hb : M0 b = none) (hb0 : zB D ≤ b)
    (h : ∀ M', zle M0 M' → post (nI (ztD d t)) M') : ∀ (f i acc k n : Nat) (x : Int32) (M : zM), t.length - i < f → i ≤ t.length → zle M0 M → M b = some (.inr (27, [.int (nI i), .int x, .int mc, .ref L])) → ((t.drop i).map (znK d)).sum ≤ k → 4 * ((t.drop i).map (znK d)).sum ≤ n → acc ≤ d →
      max acc (zmx ((t.drop i).map (znD d))) = ztD d t → wp_X12_depth_L10 D P post o f k n (nI acc) (some b) M := by
  intro f
  induction f with
  | zero => intro i acc k n x M hf; omega
  | succ f ih =>
    intro i acc k n x M hf hi hz hM hk hn ha he
    unfold wp_X12_depth_L10
    refine czd ⟨cis hM (by decide), it_has hM (hz _ _ hL) hi (by omega) (fun z => ⟨fun _ => ?_, fun y => absurd rfl y⟩) (fun z => ⟨fun y => absurd y (by decide), fun _ => ⟨cis hM (by decide), it_next hM (hz _ _ hL) (hz _ _ hE) z hc hc2 hb0 ?_⟩⟩)⟩
    · subst z
      rw [List.drop_length] at he
      have e : acc = ztD d t := by rw [← he]; exact (Nat.max_zero acc).symm
      rw [e]; exact h M hz
    · obtain ⟨q, hq⟩ : ∃ q, t[i]? = some q := ⟨t[i]'z, List.getElem?_eq_getElem z⟩
      obtain ⟨a, ha1, ha2⟩ := hg i q hq
      have hdr : t.drop i = q :: t.drop (i + 1) := by
        rw [List.drop_eq_getElem_cons z]
        congr 1
        exact Option.some.inj ((List.getElem?_eq_getElem z).symm.trans hq)
      rw [hdr, List.map_cons, List.sum_cons] at hk hn
      rw [hdr, List.map_cons, zmx_c] at he
      rw [ha1]
      have hz2 : zle M0 (zu M b (some (.inr (27, [.int (nI (i + 1)), .int (nI i), .int mc, .ref L])))) := zle_put hz hb
      have hnd := zNd_m hz2 d a q ha2
      refine ⟨fun w hw => by cases hw; exact zNd_is hnd, czd ?_⟩
      have hq2 := znD_le d q
      exact hN q a k n _ (fun r k n M => wp_X12_depth_L34 D P post o (wp_X12_depth_L10 D P post o f) k n (some b) (nI acc) r M) hnd (by omega) (by omega) (fun M' hz3 => by
        unfold wp_X12_depth_L34
        refine c_max (by omega) (by omega) ?_
        exact ih (i + 1) _ _ _ _ M' (by omega) (by omega) (zle_t hz2 hz3) (hz3 _ _ zu_s) (by omega) (by omega) (Nat.max_le.mpr ⟨ha, hq2⟩) (by rw [← he, Nat.max_assoc]))
theorem c_bloop {P : (Int32 → zM → Prop) → Nat → Nat → Nat → zM → Prop} {d : Nat} {post : Int32 → zM → Prop} {o L b : Nat} {t : List (List Int32 × List (zN d))} {pl : Bool} {M0 : zM} {mc : Int32} {E cap : Nat} {g : Nat → Option Nat} (hd : d ≤ 6)
    (hN : ∀ (q : List (zN d)) (a k n : Nat) (M : zM) (G : Int32 → zM → Prop), zPs M (zNd M d) a q → ztK d q ≤ k → 4 * ztK d q ≤ n → (∀ M', zle M M' → G (nI (ztD d q)) M') → P G k n a M)
    (hL : M0 L = some (.inr (26, [.int mc, .ref E, .int (nI t.length)]))) (hE : M0 E = some (.inl (5, cap, .inr (.inr (.inr (.inr g)))))) (hc : t.length ≤ cap) (hc2 : cap < 2 ^ 31) (hg : ∀ i q, t[i]? = some q → ∃ a, g i = some a ∧ ∃ Q, M0 a = some (.inr (20, [.int (nI (zkv pl q.1)), .ref Q])) ∧ zPs M0 (zNd M0 d) Q q.2) (hb : M0 b = none) (hb0 : zB D ≤ b)
    (h : ∀ M', zle M0 M' → post (nI (1 + zmx (t.map fun b => ztD d b.2))) M') : ∀ (f i acc k n : Nat) (x : Int32) (M : zM), t.length - i < f → i ≤ t.length → zle M0 M → M b = some (.inr (27, [.int (nI i), .int x, .int mc, .ref L])) → ((t.drop i).map fun b => ztK d b.2).sum ≤ k → 4 * ((t.drop i).map fun b => ztK d b.2).sum ≤ n → acc ≤ d →
      max acc (zmx ((t.drop i).map fun b => ztD d b.2)) = zmx (t.map fun b => ztD d b.2) → wp_X20_depth_L10 D P post o f k n (nI acc) (some b) M := by
  intro f
  induction f with
  | zero => intro i acc k n x M hf; omega
  | succ f ih =>
    intro i acc k n x M hf hi hz hM hk hn ha he
    unfold wp_X20_depth_L10
    refine czd ⟨cis hM (by decide), it_has hM (hz _ _ hL) hi (by omega) (fun z => ⟨fun _ => ?_, fun y => absurd rfl y⟩) (fun z => ⟨fun y => absurd y (by decide), fun _ => ⟨cis hM (by decide), it_next hM (hz _ _ hL) (hz _ _ hE) z hc hc2 hb0 ?_⟩⟩)⟩
    · subst z
      rw [List.drop_length] at he
      have e : acc = zmx (t.map fun b => ztD d b.2) := by rw [← he]; exact (Nat.max_zero acc).symm
      have h9 := h M hz
      rw [← e] at h9
      rw [show (1 : Int32) = nI 1 from rfl, nI_add]; exact h9
    · obtain ⟨q, hq⟩ : ∃ q, t[i]? = some q := ⟨t[i]'z, List.getElem?_eq_getElem z⟩
      obtain ⟨a, ha1, Q, ha2, ha3⟩ := hg i q hq
      have hdr : t.drop i = q :: t.drop (i + 1) := by
        rw [List.drop_eq_getElem_cons z]
        congr 1
        exact Option.some.inj ((List.getElem?_eq_getElem z).symm.trans hq)
      rw [hdr, List.map_cons, List.sum_cons] at hk hn
      rw [hdr, List.map_cons, zmx_c] at he
      rw [ha1]
      have hz2 : zle M0 (zu M b (some (.inr (27, [.int (nI (i + 1)), .int (nI i), .int mc, .ref L])))) := zle_put hz hb
      have hnd := zPs_m hz2 (fun a x _ hx => zNd_m hz2 d a x hx) ha3
      refine ⟨fun w hw => by cases hw; exact cis (hz2 _ _ ha2) (by decide), czd (cgR (x := some Q) (hz2 _ _ ha2) rfl (czd ⟨?_, ztK d q.2, 4 * ztK d q.2, by omega, by omega, ?_⟩))⟩
      · obtain ⟨L, hp, -⟩ := hnd
        exact cis hp (by decide)
      · have hq2 : ztD d q.2 ≤ d := by
          have hm : ∀ (l : List (zN d)), zmx (l.map (znD d)) ≤ d := by
            intro l
            induction l with
            | nil => exact Nat.zero_le _
            | cons x l ih => exact Nat.max_le.mpr ⟨znD_le d x, ih⟩
          exact hm q.2
        exact hN q.2 Q _ _ _ _ hnd (Nat.le_refl _) (Nat.le_refl _) (fun M' hz3 => by
          refine c_max (by omega) (by omega) ?_
          exact ih (i + 1) _ _ _ _ M' (by omega) (by omega) (zle_t hz2 hz3) (hz3 _ _ zu_s) (by omega) (by omega) (Nat.max_le.mpr ⟨ha, hq2⟩) (by rw [← he, Nat.max_assoc]))
theorem c_depthP : ∀ (d e : Nat) (t : List (zN d)) (M : zM) (o k n : Nat) (post : Int32 → zM → Prop), d < e → d ≤ 6 → zPs M (zNd M d) o t → ztK d t ≤ k → 4 * ztK d t ≤ n → (∀ M', zle M M' → post (nI (ztD d t)) M') → wp_X12_depth D e post k n o M := by
  intro d
  induction d with
  | zero =>
    intro e t M o k n post hde hd hP hk hn h
    obtain ⟨e, rfl⟩ : ∃ e', e = e' + 1 := ⟨e - 1, by omega⟩
    obtain ⟨L, hP1, g, ⟨mc, E, cap, h1, h2, h3, h4⟩, hg⟩ := hP
    unfold wp_X12_depth
    have hK : ztK 0 t = 1 + (t.map (znK 0)).sum := rfl
    refine cgR (x := some L) hP1 rfl (czd ⟨cis h1 (by decide), 1, 4, by omega, by omega, c_iter (Nat.le_refl _) (Nat.le_refl _) h1 fun b hb hb0 => ⟨t.length + 1, ?_⟩⟩)
    refine c_dloop (d := 0) (M0 := M) hd ?_ h1 h2 h3 h4 hg hb hb0 h (t.length + 1) 0 0 _ _ _ _ (by omega) (Nat.zero_le _) (zle_new (zle_r _) hb) zu_s (by rw [List.drop_zero]; omega) (by rw [List.drop_zero]; omega) (Nat.zero_le _) (by rw [List.drop_zero]; exact Nat.zero_max _)
    intro q a k n M G hq hk hn hG
    exact Or.inl ⟨zLe_is hq, hG M (zle_r _)⟩
  | succ d ih =>
    intro e t M o k n post hde hd hP hk hn h
    obtain ⟨e, rfl⟩ : ∃ e', e = e' + 1 := ⟨e - 1, by omega⟩
    obtain ⟨L, hP1, g, ⟨mc, E, cap, h1, h2, h3, h4⟩, hg⟩ := hP
    unfold wp_X12_depth
    have hK : ztK (d + 1) t = 1 + (t.map (znK (d + 1))).sum := rfl
    refine cgR (x := some L) hP1 rfl (czd ⟨cis h1 (by decide), 1, 4, by omega, by omega, c_iter (Nat.le_refl _) (Nat.le_refl _) h1 fun b hb hb0 => ⟨t.length + 1, ?_⟩⟩)
    refine c_dloop (d := d + 1) (M0 := M) hd ?_ h1 h2 h3 h4 hg hb hb0 h (t.length + 1) 0 0 _ _ _ _ (by omega) (Nat.zero_le _) (zle_new (zle_r _) hb) zu_s (by rw [List.drop_zero]; omega) (by rw [List.drop_zero]; omega) (Nat.zero_le _) (by rw [List.drop_zero]; exact Nat.zero_max _)
    intro q a k n M G hq hk hn hG
    match q, hq, hk, hn, hG with
    | .inl q, hq, hk, hn, hG => exact Or.inl ⟨zLe_is (q := q) hq, hG M (zle_r _)⟩
    | .inr q, hq, hk, hn, hG =>
      obtain ⟨L, u, k1, k2, ⟨mc, E, cap, k3, k4, k5, k6⟩, k7⟩ := hq
      have hK : znK (d + 1) (.inr q) = 1 + (q.2.2.map fun b => ztK d b.2).sum := rfl
      refine Or.inr ⟨cis k1 (by split <;> decide), znK (d + 1) (.inr q), 4 * znK (d + 1) (.inr q), hk, hn, ?_⟩
      unfold wp_X20_depth
      have hm : ((if q.1 then 18 else 19), 0) ∈ ([(18, 0), (19, 0)] : List (Nat × Nat)) := by split <;> decide
      refine cgRm (x := some L) k1 hm rfl (czd ⟨cis k3 (by decide), 1, 4, by omega, by omega, c_iter (Nat.le_refl _) (Nat.le_refl _) k3 fun b hb hb0 => ⟨q.2.2.length + 1, ?_⟩⟩)
      refine c_bloop (d := d) (pl := q.1) (M0 := M) (by omega) ?_ k3 k4 k5 k6 k7 hb hb0 hG (q.2.2.length + 1) 0 0 _ _ _ _ (by omega) (Nat.zero_le _) (zle_new (zle_r _) hb) zu_s (by rw [List.drop_zero]; omega) (by rw [List.drop_zero]; omega) (Nat.zero_le _) (by rw [List.drop_zero]; exact Nat.zero_max _)
      intro q a k n M G hq hk hn hG
      exact ih e q M a k n G (by omega) (by omega) hq hk hn hG
end CDp
