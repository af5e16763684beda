/-! the component writes a choice; a message -/
section SH6
variable {D : zD} {X : zSg} {B : Nat → Nat} {I M0 M : zM} {s b L : Nat} {T h : Option Nat} {txt : List Int32} {own : List zCo} {l Tt : Nat} {th : Nat → zTh}
theorem nI_ex (u : Int32) : ∃ n, u = nI n := ⟨u.toBitVec.toNat, by
  apply Int32.toBitVec_inj.mp
  show u.toBitVec = BitVec.ofNat 32 u.toBitVec.toNat
  rw [BitVec.ofNat_toNat, BitVec.setWidth_eq]⟩
theorem zLs_map {α β : Type} {g : α → β} {Lq : Nat} {l : List α} {P : Nat → α → Prop} {Q : Nat → β → Prop} (hP : ∀ a q, P a q → Q a (g q)) (h1 : zLs M Lq l P) : zLs M Lq (l.map g) Q := by
  obtain ⟨f, h2, h3⟩ := h1
  refine ⟨f, by rw [List.length_map]; exact h2, fun i q hq => ?_⟩
  rw [List.getElem?_map] at hq
  cases e : l[i]? with
  | none => rw [e] at hq; cases hq
  | some x =>
    rw [e] at hq
    cases hq
    obtain ⟨a, h4, h5⟩ := h3 i x e
    exact ⟨a, h4, hP a x h5⟩
theorem ztM_mem {d : Nat} {bs : List (List Int32 × List (zN d))} {c : List Int32 × List (zN d)} (h : c ∈ bs) : ztM d c.2 ≤ (bs.map fun b => (b.2.map (znM d)).sum).sum := by
  induction bs with
  | nil => cases h
  | cons x bs ih =>
    rw [List.map_cons, List.sum_cons]
    rcases List.mem_cons.mp h with h | h
    · subst h; unfold ztM; omega
    · have := ih h; omega
/-- a tree's choice, told by its keys -/
def zcx8 (kd : Bool) (a n : Nat) (ks : List Nat) : zCh := (a, (if kd then 1 else 2), n, 0, ks.map fun q => (q, 0))
theorem zcx8_k {kd : Bool} {a n : Nat} {ks : List Nat} : zkx (zcx8 kd a n ks) = ks := by
  unfold zkx zcx8
  simp only [List.map_map]
  exact (List.map_congr_left (fun q _ => rfl)).trans (List.map_id ks)
theorem zW1_s {d e : Nat} (hC : zcw D M0 L T own l Tt th) (hP : zWT D M0 s b L T own l th d e) : zW1 D M0 s b L T own l th (d + 1) e := by
  intro q a pl pq h txt M Q xp k n hq hw hpl hs hl hk hn h0 h1
  match q, hq, hw with
  | .inl q, hq, hw => exact c_leaf (q := q) hC hq hw hpl hs hl hk hn (fun z k' n' M' y1 y2 => h0 z k' n' M' (by show k ≤ k' + 12 * 1 - 1; omega) (by show n ≤ n' + 80 * 1 - 7; omega)) h1
  | .inr (kd, x, bs), hq, hw =>
    obtain ⟨hJ, hla, hLa, hT⟩ := hC
    obtain ⟨Lb, u, hq1, hq2⟩ := hq
    obtain ⟨hx5, hb10, hbk, hnd, hoth⟩ := hw
    simp only at hx5 hb10 hbk hnd hoth hq1 hq2
    have hzM : znM (d + 1) (Sum.inr (kd, x, bs)) = 1 + (bs.map fun b => (b.2.map (znM d)).sum).sum := rfl
    rw [hzM] at hk hn h0
    have hzN : zwN own l th (d + 1) pq (Sum.inr (kd, x, bs)) txt = if (th x).1 = (if kd then 1 else 2) then zwL (zwN own l th d (if kd then ((th x).2.1, (th x).2.2.1) else pq)) (((zpick own l kd (th x) (bs.map fun b => zkv kd b.1)).bind fun i => bs[i]?).elim [] fun b => b.2) txt else (-20 - nI x, txt) := rfl
    rw [hzN] at h0 h1
    clear hzN hzM
    obtain ⟨n8, hn8⟩ := nI_ex u
    have hch : zCh0 M0 a (zcx8 kd x n8 (bs.map fun b => zkv kd b.1)) := by
      refine ⟨Lb, ?_, ?_⟩
      · rw [hq1, hn8]
        cases kd <;> rfl
      · have e : (zcx8 kd x n8 (bs.map fun b => zkv kd b.1)).2.2.2.2 = bs.map fun b => (zkv kd b.1, 0) := by
          unfold zcx8
          simp only [List.map_map]
          rfl
        rw [e]
        refine zLs_map (fun c b hb => ?_) hq2
        obtain ⟨P, h2, -⟩ := hb
        exact ⟨P, h2⟩
    have hkx : zkx (zcx8 kd x n8 (bs.map fun b => zkv kd b.1)) = bs.map fun b => zkv kd b.1 := zcx8_k
    have hk1 : (zcx8 kd x n8 (bs.map fun b => zkv kd b.1)).2.1 = if kd then 1 else 2 := rfl
    have hgd : zgd (zcx8 kd x n8 (bs.map fun b => zkv kd b.1)) := by
      refine ⟨?_, ?_, ?_, ?_, ?_⟩
      · rw [hk1]; cases kd
        · exact Or.inr rfl
        · exact Or.inl rfl
      · have := zkx_l (x := zcx8 kd x n8 (bs.map fun b => zkv kd b.1))
        rw [hkx, List.length_map] at this
        omega
      · intro q hq
        have hq' : q ∈ zkx (zcx8 kd x n8 (bs.map fun b => zkv kd b.1)) := hq
        rw [hkx] at hq'
        obtain ⟨y, hy, rfl⟩ := List.mem_map.mp hq'
        exact (hbk y hy).1.2.1
      · show (zkx (zcx8 kd x n8 (bs.map fun b => zkv kd b.1))).Nodup
        rw [hkx]
        exact hnd
      · show (if (zcx8 kd x n8 (bs.map fun b => zkv kd b.1)).2.1 = 1 then 5 else 3) ∈ zkx (zcx8 kd x n8 (bs.map fun b => zkv kd b.1))
        rw [hkx, hk1]
        cases kd
        · exact hoth
        · exact hoth
    have e20 : ¬ (-20 - nI x : Int32) = 0 := by
      match x, hx5 with
      | 0, _ => decide
      | 1, _ => decide
      | 2, _ => decide
      | 3, _ => decide
      | 4, _ => decide
    have hxp : (th x).1 ≠ (if kd then 1 else 2) → zxp D M0 s b L T (-20 - nI x) xp := fun z => by
      rw [if_neg z] at h1
      exact h1 e20
    obtain ⟨r, hr, hrl⟩ := zpick_some (own := own) (l := l) (k := kd) (t := th x) hoth
    rw [List.length_map] at hrl
    obtain ⟨br, hbr⟩ : ∃ br, bs[r]? = some br := ⟨bs[r], List.getElem?_eq_getElem hrl⟩
    have hbm := List.mem_of_getElem? hbr
    have htm := ztM_mem hbm
    have epick : (((zpick own l kd (th x) (bs.map fun b => zkv kd b.1)).bind fun i => bs[i]?).elim [] fun b => b.2) = br.2 := by
      rw [hr]
      show (bs[r]?).elim [] _ = br.2
      rw [hbr]; rfl
    rw [epick] at h0 h1
    have hwb : zwfT d (pl || kd) br.2 := fun y hy => (hbk br hbm).2 y hy
    cases kd with
    | true =>
      rw [if_pos rfl] at hq1
      refine ⟨Or.inr (Or.inr (Or.inr (Or.inr (Or.inl ⟨cis (she_l hs _ _ hq1) (by decide), 12 * (1 + (bs.map fun b => (b.2.map (znM d)).sum).sum) - 1, 80 * (1 + (bs.map fun b => (b.2.map (znM d)).sum).sum) - 7, by omega, by omega, ?_⟩)))), fun w e => by cases e; exact cis (she_l hs _ _ hq1) (by decide)⟩
      unfold wp_X21_write
      refine ⟨cis (she_l hs _ _ hq1) (by decide), 1, 7, by omega, by omega, c_thing hT ⟨18, 2, _, by decide, hq1, rfl⟩ hx5 (Nat.le_refl _) (Nat.le_refl _) hs (fun z => hxp (by rw [z]; decide)) fun t ht hne => cgI (she_l hs _ _ hq1) rfl (czd ?_)⟩
      rcases ht with ⟨z, -⟩ | ⟨z1, z2, w', c', e', z4, z5⟩ | ⟨z1, z2, w', g', e', z4, z5, z6⟩ | ⟨z1, -, -, -, w', c', g', e', z4, -⟩
      · exact absurd z hne
      · cases e'
        rw [if_pos (by rw [z1]; rfl)] at h0 h1
        refine Or.inl ⟨cis (she_l hs _ _ z4) (by decide), ?_⟩
        unfold wp_X25_decimal wp_X21_write_L14
        refine cgR (x := some c') (she_l hs _ _ z4) rfl (czd (she_h hs (she_p (h' := some c') hs fun M1 hs1 _ => ?_)))
        refine cgR (x := some Lb) (she_l hs1 _ _ hq1) rfl (she_L hs1 ⟨cis (she_l hs1 _ _ hq1) (by decide), c_comesTo (zCh0_m (she_l hs1) hch) hgd hk1 (zLa_m (she_l hs1) hLa) (zDe_m (she_l hs1) z5) z2 ?_⟩)
        have hpk : zbo (th x).2.1 (th x).2.2.1 (zoth (bs.map fun b => zkv true b.1) (zca (zof own l) (th x).2.1 (th x).2.2.1) 5) 0 (bs.map fun b => zkv true b.1) = some r := by
          unfold zpick at hr
          rw [if_pos rfl] at hr
          exact hr
        rw [hkx, hpk]
        refine czd (c_get' (zLs_m (she_l hs1) (fun a q _ hq => hq) hq2) hbr fun c hc => ?_)
        obtain ⟨Pb, hc1, hc2⟩ := hc
        refine ⟨fun w e => by cases e; exact cis (she_l hs1 _ _ hc1) (by decide), czd (cgR (x := some Pb) (she_l hs1 _ _ hc1) rfl (czd ?_))⟩
        have main := hP br.2 Pb (pl || true) ((th x).2.1, (th x).2.2.1) (some c') txt M1 (fun _ M => zp D M s 25 4 (va_rf h) fun M => Q (k - (12 * (1 + (bs.map fun b => (b.2.map (znM d)).sum).sum) - 1)) (n - (80 * (1 + (bs.map fun b => (b.2.map (znM d)).sum).sum) - 7)) M)
          (fun q M => wp_X21_write_L59 D (wp_X12_write D e) (fun _ M => Q (k - (12 * (1 + (bs.map fun b => (b.2.map (znM d)).sum).sum) - 1)) (n - (80 * (1 + (bs.map fun b => (b.2.map (znM d)).sum).sum) - 7)) M) xp a (12 * (1 + (bs.map fun b => (b.2.map (znM d)).sum).sum) - 1 - 1 - (12 * (1 + (bs.map fun b => (b.2.map (znM d)).sum).sum) - 1 - 1)) (80 * (1 + (bs.map fun b => (b.2.map (znM d)).sum).sum) - 7 - 7 - (80 * (1 + (bs.map fun b => (b.2.map (znM d)).sum).sum) - 7 - 7)) (some s) h (some q) M)
          (12 * (1 + (bs.map fun b => (b.2.map (znM d)).sum).sum) - 1 - 1) (80 * (1 + (bs.map fun b => (b.2.map (znM d)).sum).sum) - 7 - 7) hc2 hwb (fun _ => ⟨c', rfl, z5, z2⟩) hs1 hl (by omega) (by omega) (fun z M' hs' => ?_) (fun z => ?_)
        · exact ⟨main.1, _, _, Nat.le_refl _, Nat.le_refl _, main.2⟩
        · exact she_p hs' fun M2 hs2 _ => h0 z _ _ M2 (by omega) (by omega) hs2
        · intro qx fs Mx hx' tx hsx hqx hqx0 hfs
          unfold wp_X21_write_L59
          have nqs : qx ≠ s := fun y => by
            obtain ⟨-, -, -, -, -, -, y6, -⟩ := hsx
            rw [y, y6] at hqx; cases hqx
          refine czd (she_p (h' := h) hsx fun M2 hs2 hk2 => czd ⟨⟨13, fs, by decide, by rw [hk2 _ nqs]; exact hqx, hqx0⟩, h1 z qx fs M2 h tx hs2 (by rw [hk2 _ nqs]; exact hqx) hqx0 hfs⟩)
      · cases e'
        exact Or.inr ⟨cis (she_l hs _ _ z4) (by decide), 1, 7, by omega, by omega, c_noDec (Nat.le_refl _) (Nat.le_refl _) (hxp (by rw [z1]; decide)) hs⟩
      · cases e'
        exact Or.inr ⟨cis (she_l hs _ _ z4) (by decide), 1, 7, by omega, by omega, c_noDec (Nat.le_refl _) (Nat.le_refl _) (hxp (by rw [z1]; decide)) hs⟩
    | false =>
      rw [if_neg (by decide)] at hq1
      refine ⟨Or.inr (Or.inr (Or.inr (Or.inr (Or.inr (Or.inl ⟨cis (she_l hs _ _ hq1) (by decide), 12 * (1 + (bs.map fun b => (b.2.map (znM d)).sum).sum) - 1, 80 * (1 + (bs.map fun b => (b.2.map (znM d)).sum).sum) - 7, by omega, by omega, ?_⟩))))), fun w e => by cases e; exact cis (she_l hs _ _ hq1) (by decide)⟩
      unfold wp_X22_write
      refine ⟨cis (she_l hs _ _ hq1) (by decide), 1, 7, by omega, by omega, c_thing hT ⟨19, 2, _, by decide, hq1, rfl⟩ hx5 (Nat.le_refl _) (Nat.le_refl _) hs (fun z => hxp (by rw [z]; decide)) fun t ht hne => ?_⟩
      rcases ht with ⟨z, -⟩ | ⟨z1, z2, w', c', e', z4, z5⟩ | ⟨z1, z2, w', g', e', z4, z5, z6⟩ | ⟨z1, -, -, -, w', c', g', e', z4, -⟩
      · exact absurd z hne
      · cases e'
        exact Or.inr ⟨fun w e => by cases e; exact cis (she_l hs _ _ z4) (by decide), cgI (she_l hs _ _ hq1) rfl ⟨1, 7, by omega, by omega, c_need0 (Nat.le_refl _) (Nat.le_refl _) (hxp (by rw [z1]; decide)) hs⟩⟩
      · cases e'
        rw [if_pos (by rw [z1]; rfl)] at h0 h1
        refine Or.inl ⟨t, _, rfl, she_l hs _ _ z4, cgI (she_l hs _ _ hq1) rfl ⟨0, 0, by omega, by omega, c_need1 (cgR (x := some Lb) (she_l hs _ _ hq1) rfl (czd (Or.inr (Or.inl ⟨cis (she_l hs _ _ z4) (by decide), ?_⟩))))⟩⟩
        unfold wp_X26_held wp_X26_held_L25
        refine ⟨fun y => absurd rfl y, fun _ => cgI (she_l hs _ _ z4) rfl ?_⟩
        unfold wp_X22_write_L32
        rw [z6]
        dsimp only
        rw [Int32.toInt32_toInt64]
        refine czd ⟨cis (she_l hs _ _ hq1) (by decide), c_orOther (zCh0_m (she_l hs) hch) hgd (by omega) ?_⟩
        have hpk : zoth (bs.map fun b => zkv false b.1) g' 3 = some r := by
          unfold zpick at hr
          rw [if_neg (by decide), z6, nI_clamp (by omega)] at hr
          exact hr
        have hot : zot (zcx8 false x n8 (bs.map fun b => zkv false b.1)) = 3 := rfl
        rw [hkx, hot, hpk]
        refine czd (c_get' (zLs_m (she_l hs) (fun a q _ hq => hq) hq2) hbr fun c hc => ?_)
        obtain ⟨Pb, hc1, hc2⟩ := hc
        refine ⟨fun w e => by cases e; exact cis (she_l hs _ _ hc1) (by decide), czd (cgR (x := some Pb) (she_l hs _ _ hc1) rfl (czd ?_))⟩
        have main := hP br.2 Pb (pl || false) pq h txt M (fun _ M => Q (k - (12 * (1 + (bs.map fun b => (b.2.map (znM d)).sum).sum) - 1)) (n - (80 * (1 + (bs.map fun b => (b.2.map (znM d)).sum).sum) - 7)) M) xp
          (12 * (1 + (bs.map fun b => (b.2.map (znM d)).sum).sum) - 1 - 1 - 0) (80 * (1 + (bs.map fun b => (b.2.map (znM d)).sum).sum) - 7 - 7 - 0) hc2 hwb (by rw [Bool.or_false]; exact hpl) hs hl (by omega) (by omega) (fun z M' hs' => h0 z _ _ M' (by omega) (by omega) hs') h1
        exact ⟨main.1, _, _, Nat.le_refl _, Nat.le_refl _, main.2⟩
      · cases e'
        exact Or.inr ⟨fun w e => by cases e; exact cis (she_l hs _ _ z4) (by decide), cgI (she_l hs _ _ hq1) rfl ⟨1, 7, by omega, by omega, c_need0 (Nat.le_refl _) (Nat.le_refl _) (hxp (by rw [z1]; decide)) hs⟩⟩
theorem zWT_3 (hC : zcw D M0 L T own l Tt th) : zWT D M0 s b L T own l th 3 6 :=
  zWT_of (zW1_s hC (zWT_of (zW1_s hC (zWT_of (zW1_s hC (zWT_of (zW1_0 (e := 2) hC)))))))
theorem zwL_240 {α : Type} {one : α → List Int32 → Int32 × List Int32} : ∀ (t : List α) (out : List Int32), out.length ≤ 240 → (zwL one t out).1 = 0 → (zwL one t out).2.length ≤ 240
  | [], out, ho, _ => ho
  | q :: t, out, ho, h => by
    rw [zwL] at h ⊢
    by_cases e1 : (one q out).1 ≠ 0
    · rw [if_pos e1] at h; exact absurd h e1
    · rw [if_neg e1] at h ⊢
      by_cases e2 : 240 < (one q out).2.length
      · rw [if_pos e2] at h; exact absurd (show (-5 : Int32) = 0 from h) (by decide)
      · rw [if_neg e2] at h ⊢
        exact zwL_240 t _ (by omega) h
def sp_write (X : zSg) (s c : Int32) : Int32 × zSg := if zb s 4 && zb c 7 then (match X.2.2.1 s.toNatClampNeg with | none => (-2, X) | some q => if (zwr X.1 c.toNatClampNeg X.2.2.2.1 q.1).1 ≠ 0 then ((zwr X.1 c.toNatClampNeg X.2.2.2.1 q.1).1, X) else
  (nI (zwr X.1 c.toNatClampNeg X.2.2.2.1 q.1).2.length, xO X (zwr X.1 c.toNatClampNeg X.2.2.2.1 q.1).2)) else (-1, X)
/-- the messages in the slots are those of readers -/
def zXw (X : zSg) : Prop := ∀ j q, j < 4 → X.2.2.1 j = some q → zwfT 3 false q.1
theorem znM_L : ∀ (d : Nat) (pl : Bool) (q : zN d), zwfN d pl q → znM d q ≤ (znL d q).length
  | 0, pl, q, h => znL_pos 0 pl q h
  | d + 1, pl, .inl q, h => znL_pos (d + 1) pl (.inl q) h
  | d + 1, pl, .inr q, h => by
    show 1 + (q.2.2.map fun b => (b.2.map (znM d)).sum).sum ≤ (123 :: nI (65 + q.2.1) :: (if q.1 then 112 else 103) :: (q.2.2.flatMap (fun b => b.1 ++ 40 :: (b.2.flatMap (znL d) ++ [41])) ++ [125])).length
    simp only [List.length_cons, List.length_append, List.length_nil, flen]
    have h3 : (q.2.2.map fun b => (b.2.map (znM d)).sum).sum ≤ (q.2.2.map fun b => b.1.length + ((b.2.map fun x => (znL d x).length).sum + (0 + 1) + 1)).sum := by
      refine sum_le _ _ _ fun b hb => ?_
      have := sum_le (znM d) (fun x => (znL d x).length) b.2 fun x hx => znM_L d _ x ((h.2.2.1 b hb).2 x hx)
      omega
    omega
theorem ztM_L {d : Nat} {pl : Bool} {t : List (zN d)} (h : zwfT d pl t) : ztM d t ≤ (ztL d t).length := by
  unfold ztM ztL
  rw [flen]
  exact sum_le _ _ _ fun x hx => znM_L d pl x (h x hx)
theorem c_write {post : Int32 → zM → Prop} {k n : Nat} {s0 c : Int32} (hR : RC D X B I M) (hz : zle I M) (hJ : zJs D M) (hW : zXw X) (hk : 1500 ≤ k) (hn : 10000 ≤ n) (h : done D X B I M (sp_write X s0 c).2 (post (sp_write X s0 c).1)) : wp_X0_write D post k n (B 0) s0 c M := by
  unfold wp_X0_write wp_X0_write_L14
  unfold sp_write at h
  refine c_isSlot (ifb' (fun e1 => c_isLanguage (ifb (fun e2 => ?_) (fun e2 => by rw [e1, e2] at h; exact fin0 hR hz h (zle_r _)))) (fun e1 => by rw [e1] at h; exact fin0 hR hz h (zle_r _)))
  obtain ⟨j, hj, rfl⟩ := zb_of e1 (by decide)
  obtain ⟨l, hl, rfl⟩ := zb_of e2 (by decide)
  rw [e1, e2, nI_clamp (by omega), nI_clamp (by omega)] at h
  simp only [Bool.and_true, if_true] at h
  obtain ⟨f, k1, k2⟩ := RC_sl hR hz hj
  have hv := vp_in_nI hj (by decide : 4 < 2 ^ 31)
  have hcl : (nI j).toNatClampNeg = j := nI_clamp (by omega)
  refine cgR (x := some (B 5)) hR.1 rfl (czd (caR k1 hv ?_))
  rw [hcl]
  rcases k2 with ⟨h3, h4⟩ | ⟨q, a, h3, h4, P, L, T, g, h5, h6, h7, h8, h9, h10, h11, h12⟩
  · rw [h3] at h
    rw [h4]
    exact ⟨fun b hb => (nomatch hb), fun _ => fin0 hR hz h (zle_r _)⟩
  · rw [h3] at h
    rw [h4]
    simp only at h
    refine ⟨fun b _ => ⟨by omega, by omega, fun sa hsa hsa0 => ?_⟩, fun z => (nomatch z)⟩
    have hzs : zle M (zu M sa (some (.inr (25, [.null, .int 0, .null, .null, .null])))) := zle_new (zle_r _) hsa
    obtain ⟨fl, La, Tt, m1, m2, m3, m4, m5⟩ := RC_la hR hz hl
    obtain ⟨ft, m6, m7⟩ := RC_th hR hz
    refine cgR (x := some (B 2)) (hzs _ _ hR.1) rfl (czd (caR (hzs _ _ m1) (vp_in_nI hl (by decide)) ?_))
    rw [nI_clamp (by omega), m2]
    refine cgR (x := some (B 6)) (hzs _ _ hR.1) rfl ⟨1, 360, by omega, by omega, c_sheet (M0 := M) hsa hsa0 hzs zu_s (Nat.le_refl _) (Nat.le_refl _) fun bb M1 hs1 => ?_⟩
    refine cgR (x := some (B 5)) (she_l hs1 _ _ hR.1) rfl (czd (caR (she_l hs1 _ _ k1) hv ?_))
    rw [hcl, h4]
    refine czd (cgR (x := some P) (she_l hs1 _ _ h5) rfl (czd ?_))
    have hw := hW j q hj h3
    have hM := ztM_L hw
    have hC : zcw D M La (some (B 6)) X.1 l Tt X.2.2.2.1 := ⟨hJ, m3, m4, B 6, ft, rfl, m6, m7⟩
    have main := zWT_3 (s := sa) (b := bb) hC q.1 P false ((X.2.2.2.1 0).2.1, (X.2.2.2.1 0).2.2.1) none [] M1 (fun _ M => ((zis M (B 0) [0] ∧ wp_X0_takes D (fun r32 M => post r32 M) (B 0) (some sa) M)))
      (fun q M => (∃ fs, M q = some (.inr (13, fs))) ∧ wp_X0_write_L65 D post (B 0) (((k - 1) - 1) - 1440) (((n - 5) - 360) - 9600) (some q) M) 1440 9600 h6 hw (fun z => by cases z) hs1 (by simp) (by omega) (by omega) (fun z M' hs' => ?_) (fun z => ?_)
    · exact ⟨main.1, 1440, 9600, by omega, by omega, main.2⟩
    · have z' : (zwr X.1 l X.2.2.2.1 q.1).1 = 0 := z
      rw [if_neg (by rw [z']; simp)] at h
      exact c_takes hR hz hs' (zwL_240 _ _ (by simp) z) h
    · intro qx fs Mx hx' tx hsx hqx hqx0 hfs
      have z' : (zwr X.1 l X.2.2.2.1 q.1).1 ≠ 0 := z
      rw [if_pos z'] at h
      unfold wp_X0_write_L65
      exact ⟨⟨fs, hqx⟩, czd (cgI hqx hfs (fin0 hR hz h (she_l hsx)))⟩
end SH6
