/-! what a reader answers: branches, choices, all -/
section ZR1
variable {tp : Nat → Int32} {n : Nat}
def zkf {d : Nat} (k : Bool) (b : List Int32 × List (zN d)) : Nat := zkv k b.1
def zwB {d : Nat} (k pl : Bool) (acc new : List (List Int32 × List (zN d))) : Prop := (∀ b ∈ new, zkok k b.1 ∧ ∀ x ∈ b.2, zwfN d pl x) ∧ ((acc.map (zkf k)).Pairwise (· ≠ ·) → ((acc ++ new).map (zkf k)).Pairwise (· ≠ ·))
theorem zrB_x {d : Nat} {k pl : Bool} {sub : zRh → Nat ⊕ (List (zN d) × zRh)} (hsub : ∀ (r : zRh) (t : List (zN d)) (r1 : zRh), r.1 ≤ n → sub r = .inr (t, r1) → zfx tp n r r1 (ztL d t) (ztC d t) (zwfT d pl t)) :
    ∀ (f : Nat) (acc : List (List Int32 × List (zN d))) (r : zRh) (bs : List (List Int32 × List (zN d))) (r' : zRh), acc.length ≤ 10 → zrB tp n sub k f acc r = .inr (bs, r') → ∃ new, bs = acc ++ new ∧ new ≠ [] ∧ bs.length ≤ 10 ∧ zhr tp n r'.1 = 125 ∧ zfx tp n r r' (new.flatMap (zbL d)) ((new.map fun b => ztC d b.2).sum) (zwB k pl acc new) := by
  intro f
  induction f with
  | zero => intro acc r bs r' _ h; unfold zrB at h; cases h
  | succ f ih =>
    intro acc r bs r' hacc h
    unfold zrB at h
    simp only at h
    split at h
    · cases h
    rename_i hl10
    split at h
    · cases h
    rename_i kt hkt
    split at h
    · cases h
    rename_i h40
    split at h
    · cases h
    rename_i t r2 hs
    have h40' : zhr tp n (r.1 + kt.length) = 40 := Classical.not_not.mp h40
    have hk := zkey_ok hkt
    have hkat := zkey_at hkt
    have hb40 := zhr_t h40' (by decide)
    have hx := hsub _ t r2 (by show r.1 + kt.length + 1 ≤ n; omega) hs
    split at h
    · cases h
    rename_i h41
    have h41' : zhr tp n r2.1 = 41 := Classical.not_not.mp h41
    have hb41 := zhr_t h41' (by decide)
    -- one branch
    have one : zfx tp n r (r2.1 + 1, r2.2) (zbL d (kt, t)) (ztC d t) ((acc.any fun b => zkv k b.1 == zkv k kt) = false ∧ zwfT d pl t) := by
      obtain ⟨x1, x2, x3, x4, x5⟩ := hx
      have x2' : r2.1 = r.1 + kt.length + 1 + (ztL d t).length := x2
      refine ⟨?_, ?_, ?_, fun z => ?_, x5⟩
      · show zax tp n r.1 (kt ++ 40 :: (ztL d t ++ [41]))
        refine zax_a hkat (zax_c h40' (by decide) (zax_a x1 ?_))
        have x1' : r.1 + kt.length + 1 + (ztL d t).length = r2.1 := x2'.symm
        show zax tp n (r.1 + kt.length + 1 + (ztL d t).length) [41]
        rw [x1']
        exact zax_1 h41' (by decide)
      · show r2.1 + 1 = r.1 + (kt ++ 40 :: (ztL d t ++ [41])).length
        rw [List.length_append, List.length_cons, List.length_append]
        simp only [List.length_cons, List.length_nil]
        omega
      · exact x3
      · obtain ⟨z1, z2⟩ := x4 z
        cases e : (acc.any fun b => zkv k b.1 == zkv k kt) with
        | true => simp only [e, if_true] at z1; exact absurd z1 zlie_no
        | false => simp only [e] at z1; exact ⟨z1, rfl, z2⟩
    have hwb : ∀ new, ((acc.any fun b => zkv k b.1 == zkv k kt) = false ∧ zwfT d pl t) → zwB k pl (acc ++ [(kt, t)]) new → zwB k pl acc ((kt, t) :: new) := by
      intro new ⟨w1, w2⟩ ⟨w3, w4⟩
      refine ⟨fun b hb => ?_, fun hp => ?_⟩
      · rcases List.mem_cons.mp hb with hb | hb
        · rw [hb]; exact ⟨hk, w2⟩
        · exact w3 b hb
      · have := w4 (by
          rw [List.map_append, List.pairwise_append]
          refine ⟨hp, List.pairwise_singleton _ _, fun x hx y hy => ?_⟩
          rw [List.map_cons, List.map_nil, List.mem_singleton] at hy
          obtain ⟨b, hb, rfl⟩ := List.mem_map.mp hx
          rw [hy]
          intro z
          have h2 : (acc.any fun b => zkv k b.1 == zkv k kt) = true := List.any_eq_true.mpr ⟨b, hb, beq_iff_eq.mpr z⟩
          rw [w1] at h2
          cases h2)
        rw [List.append_assoc] at this
        exact this
    split at h
    · rename_i h125
      cases h
      refine ⟨[(kt, t)], rfl, by simp, ?_, h125, ?_⟩
      · rw [List.length_append]; simp only [List.length_cons, List.length_nil]
        omega
      · have e1 : ([(kt, t)] : List (List Int32 × List (zN d))).flatMap (zbL d) = zbL d (kt, t) := by rw [List.flatMap_cons, List.flatMap_nil, List.append_nil]
        rw [e1]
        refine zfx_w ?_ fun hw => hwb [] hw ⟨fun b hb => (nomatch hb), fun hp => (by rw [List.append_nil]; exact hp)⟩
        show zfx tp n r (r2.1 + 1, r2.2) (zbL d (kt, t)) (ztC d t + 0) _
        rw [Nat.add_zero]
        exact one
    · obtain ⟨new, y1, y2, y3, y4, y5⟩ := ih _ _ _ _ (by rw [List.length_append]; simp only [List.length_cons, List.length_nil]; omega) h
      refine ⟨(kt, t) :: new, by rw [y1, List.append_assoc]; rfl, by simp, y3, y4, ?_⟩
      have := zfx_t one y5
      rw [List.flatMap_cons, List.map_cons, List.sum_cons]
      exact zfx_w this fun hw => hwb new hw.1 hw.2
theorem zrC_x {d : Nat} {pl : Bool} {sub : Bool → zRh → Nat ⊕ (List (zN d) × zRh)} (hsub : ∀ (pl : Bool) (r : zRh) (t : List (zN d)) (r1 : zRh), r.1 ≤ n → sub pl r = .inr (t, r1) → zfx tp n r r1 (ztL d t) (ztC d t) (zwfT d pl t))
    {r : zRh} {a : Nat} {c : Int32} {q : zN (d + 1)} {r' : zRh} (hc0 : zhr tp n r.1 = 123) (ha : a < 5) (hc1 : zhr tp n (r.1 + 1) = nI (65 + a)) (hc1' : nI (65 + a) ≠ -1) (hc2 : c = zhr tp n (r.1 + 2)) (h : zrC tp n sub pl r a c = .inr (q, r')) : zfx tp n r r' (znL (d + 1) q) (znC (d + 1) q) (zwfN (d + 1) pl q) := by
  unfold zrC at h
  simp only at h
  split at h
  · rename_i hcc
    split at h
    · cases h
    · rename_i bs r2 hB
      cases h
      obtain ⟨new, y1, y2, y3, y4, y5⟩ := zrB_x (hsub (pl || decide (c = 112))) _ _ _ _ _ (Nat.zero_le _) hB
      rw [List.nil_append] at y1
      subst y1
      obtain ⟨x1, x2, x3, x4, x5⟩ := y5
      have hk : c = if decide (c = 112) then 112 else 103 := by
        rcases hcc.1 with e | e <;> subst e <;> rfl
      have hcn : (if decide (c = 112) = true then (112 : Int32) else 103) ≠ -1 := by split <;> decide
      have hz2 : zhr tp n (r.1 + 2) = if decide (c = 112) = true then (112 : Int32) else 103 := by rw [← hc2]; exact hk
      have hL : znL (d + 1) (.inr (decide (c = 112), a, bs)) = 123 :: nI (65 + a) :: (if decide (c = 112) then 112 else 103) :: (bs.flatMap (zbL d) ++ [125]) := rfl
      have hC : znC (d + 1) (.inr (decide (c = 112), a, bs)) = 1 + (bs.map fun b => ztC d b.2).sum := rfl
      rw [hL, hC]
      generalize decide (c = 112) = k at *
      have x2' : r2.1 = r.1 + 3 + (bs.flatMap (zbL d)).length := x2
      refine ⟨zax_c hc0 (by decide) (zax_c hc1 hc1' (zax_c hz2 hcn (zax_a x1 ?_))), ?_, ?_, fun z => ?_, fun z => ?_⟩
      · show zax tp n (r.1 + 3 + (bs.flatMap (zbL d)).length) [125]
        rw [← x2']
        exact zax_1 y4 (by decide)
      · show r2.1 + 1 = r.1 + (123 :: nI (65 + a) :: (if k then 112 else 103) :: (bs.flatMap (zbL d) ++ [125])).length
        simp only [List.length_cons, List.length_append, List.length_nil]
        omega
      · show r2.2.1 = r.2.1 + (1 + _)
        have : r2.2.1 = r.2.1 + 1 + (bs.map fun b => ztC d b.2).sum := x3
        omega
      · have z' : (if (bs.any fun b => zkv k b.1 == if k = true then 5 else 3) = true then r2.2.2.1 else zlie r2.2.2.1 r2.1) = none := z
        cases e : (bs.any fun b => zkv k b.1 == if k = true then 5 else 3) with
        | false => rw [e] at z'; simp only [Bool.false_eq_true, if_false] at z'; exact absurd z' zlie_no
        | true =>
          rw [e] at z'
          simp only [if_true] at z'
          obtain ⟨z1, z2, z3⟩ := x4 z'
          refine ⟨(zuse_1 (r := (r.1 + 3, r.2)) (a := a) (ty := if k then 1 else 2) (p := r.1 + 1)).2.2.1 z1, ha, y3, z2, ?_, ?_⟩
          · have := z3 List.Pairwise.nil
            rw [List.nil_append] at this
            exact this
          · obtain ⟨b, hb, e2⟩ := List.any_eq_true.mp e
            exact List.mem_map.mpr ⟨b, hb, beq_iff_eq.mp e2⟩
      · exact x5 ((zuse_1 (r := (r.1 + 3, r.2)) (a := a) (ty := if k then 1 else 2) (p := r.1 + 1)).2.2.2 (by split <;> decide) z)
  · cases h
theorem zon_x : ∀ (d : Nat) (pl : Bool) (r : zRh) (q : zN d) (r1 : zRh), (∀ e, d = e + 1 → ∀ (pl : Bool) (r : zRh) (t : List (zN e)) (r1 : zRh), r.1 ≤ n → zrd tp n e pl r = .inr (t, r1) → zfx tp n r r1 (ztL e t) (ztC e t) (zwfT e pl t)) → zhr tp n r.1 = 123 → zon tp n d pl r = .inr (q, r1) → zfx tp n r r1 (znL d q) (znC d q) (zwfN d pl q)
  | 0, pl, r, q, r1, _, hc, h => by
    unfold zon at h
    dsimp only at h
    cases hx : zr0 tp n r with
    | inl e => rw [hx] at h; cases h
    | inr y =>
      cases y with
      | inl x => rw [hx] at h; cases h; exact zr0_x hc hx
      | inr y => rw [hx] at h; cases h
  | d + 1, pl, r, q, r1, hs, hc, h => by
    unfold zon at h
    dsimp only at h
    cases hx : zr0 tp n r with
    | inl e => rw [hx] at h; cases h
    | inr y =>
      cases y with
      | inl x =>
        obtain ⟨q0, r0⟩ := x
        rw [hx] at h; cases h; exact zr0_x (pl := pl) hc hx
      | inr y =>
        obtain ⟨a, c⟩ := y
        rw [hx] at h
        obtain ⟨y1, y2, y3, y4⟩ := zr0_h hx
        exact zrC_x (hs d rfl) hc y1 y2 y3 y4 h
theorem zrd_x : ∀ (d : Nat) (pl : Bool) (r : zRh) (t : List (zN d)) (r1 : zRh), r.1 ≤ n → zrd tp n d pl r = .inr (t, r1) → zfx tp n r r1 (ztL d t) (ztC d t) (zwfT d pl t)
  | 0, pl, r, t, r1, hr, h => by
    rw [zrd_e] at h
    exact zrL_x (fun r q r1 hc hq => zon_x 0 pl r q r1 (fun e he => by cases he) hc hq) _ r t r1 hr h
  | d + 1, pl, r, t, r1, hr, h => by
    rw [zrd_e] at h
    exact zrL_x (fun r q r1 hc hq => zon_x (d + 1) pl r q r1 (fun e he => by cases he; exact zrd_x d) hc hq) _ r t r1 hr h
theorem zrW_x {t : List (zN 3)} {r : zRh} (h : zrW tp n = .inr (.inr (t, r))) : zfx tp n (0, 0, none, 0, fun _ => 0) r (ztL 3 t) (ztC 3 t) (zwfT 3 false t) ∧ r.1 = n ∧ r.2.2.1 = none := by
  unfold zrW at h
  split at h
  · cases h
  · rename_i t' r' hd
    split at h
    · rename_i hn
      split at h
      · cases h
      · rename_i hw
        cases h
        exact ⟨zrd_x 3 false _ _ _ (Nat.zero_le _) hd, hn, hw⟩
    · cases h
end ZR1
theorem zalg_len {α β : Type} {g : Nat → α → List β} {len : α → Nat} {c : α → Nat} : ∀ (l : List α) (p : Nat), (∀ p, ∀ x ∈ l, (g p x).length = c x) → (zalg g len p l).length = (l.map c).sum
  | [], _, _ => rfl
  | x :: l, p, h => by
    rw [zalg, List.length_append, List.map_cons, List.sum_cons, h p x List.mem_cons_self, zalg_len l (p + len x) (fun p y hy => h p y (List.mem_cons_of_mem _ hy))]
theorem zcN_len : ∀ (d u p : Nat) (q : zN d), (zcN d u p q).length = znC d q
  | 0, _, _, _ => rfl
  | d + 1, _, _, .inl _ => rfl
  | d + 1, u, p, .inr (k, a, bs) => by
    show ((a, (if k then 1 else 2), u, p, zbr k d (p + 3) bs) :: zalg (fun r b => zalg (zcN d (u + 1)) (fun x => (znL d x).length) (r + b.1.length + 1) b.2) (fun b => (zbL d b).length) (p + 3) bs).length = 1 + (bs.map fun b => (b.2.map (znC d)).sum).sum
    rw [List.length_cons, zalg_len (c := fun b => (b.2.map (znC d)).sum) bs (p + 3) (fun r b _ => zalg_len b.2 _ (fun p x _ => zcN_len d (u + 1) p x))]
    omega
theorem zcs_len (d u p : Nat) (t : List (zN d)) : (zcs d u p t).length = ztC d t := zalg_len t p fun p x _ => zcN_len d u p x
theorem zbr_k (pl : Bool) (d : Nat) : ∀ (bs : List (List Int32 × List (zN d))) (p : Nat), (zbr pl d p bs).map Prod.fst = bs.map fun b => zkv pl b.1
  | [], _ => rfl
  | b :: bs, p => by
    rw [zbr, List.map_cons, List.map_cons, zbr_k pl d bs]
theorem zalg_in {α β : Type} {g : Nat → α → List β} {len : α → Nat} {y : β} : ∀ (l : List α) (p : Nat), y ∈ zalg g len p l → ∃ p', ∃ x ∈ l, y ∈ g p' x
  | [], _, h => by cases h
  | x :: l, p, h => by
    rw [zalg] at h
    rcases List.mem_append.mp h with h | h
    · exact ⟨p, x, List.mem_cons_self, h⟩
    · obtain ⟨p', x', h1, h2⟩ := zalg_in l _ h
      exact ⟨p', x', List.mem_cons_of_mem _ h1, h2⟩
theorem zcN_gd : ∀ (d u p : Nat) (pl : Bool) (q : zN d), zwfN d pl q → ∀ x ∈ zcN d u p q, zgd x
  | 0, _, _, _, _, _, x, hx => by cases hx
  | d + 1, _, _, _, .inl _, _, x, hx => by cases hx
  | d + 1, u, p, pl, .inr (k, a, bs), hw, x, hx => by
    obtain ⟨ha, hl, hb, hnd, ho⟩ := hw
    have hx' : x ∈ (a, (if k then 1 else 2), u, p, zbr k d (p + 3) bs) :: zalg (fun r b => zalg (zcN d (u + 1)) (fun x => (znL d x).length) (r + b.1.length + 1) b.2) (fun b => (zbL d b).length) (p + 3) bs := hx
    rcases List.mem_cons.mp hx' with e | hx'
    · subst e
      unfold zgd
      simp only
      rw [zbr_k, zbr_len]
      refine ⟨by cases k <;> simp, hl, fun q hq => ?_, hnd, ?_⟩
      · obtain ⟨b, hb1, rfl⟩ := List.mem_map.mp hq
        exact (hb b hb1).1.2.1
      · cases k
        · exact ho
        · exact ho
    · obtain ⟨p', b, hb1, hx2⟩ := zalg_in _ _ hx'
      obtain ⟨p2, q, hq1, hx3⟩ := zalg_in _ _ hx2
      exact zcN_gd d (u + 1) p2 _ q ((hb b hb1).2 q hq1) x hx3
theorem zcs_gd {d u p : Nat} {pl : Bool} {t : List (zN d)} (h : zwfT d pl t) : ∀ x ∈ zcs d u p t, zgd x := by
  intro x hx
  obtain ⟨p', q, hq, hx2⟩ := zalg_in _ _ hx
  exact zcN_gd d u p' pl q (h q hq) x hx2
