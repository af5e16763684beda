/-! the component: branch -/
section CO12
variable {D : zD} {X : zSg} {B : Nat → Nat} {I M : zM}
theorem ziz_d {d : Int32} {k v : Nat} : ziz d k v = true ↔ (zab d % 10 ^ k = 0 ∧ zab d / 10 ^ k = v ∧ ¬ d < 0) := by
  have hq := p10_pos k
  unfold ziz
  rw [Bool.and_eq_true, decide_eq_true_eq, decide_eq_true_eq, Int32.lt_iff_toInt_lt, show (0 : Int32).toInt = 0 by decide]
  have h1 := Nat.div_add_mod (zab d) (10 ^ k)
  constructor
  · intro ⟨h2, h3⟩
    rw [h3]
    exact ⟨Nat.mul_mod_left _ _, Nat.mul_div_cancel _ hq, by omega⟩
  · intro ⟨h2, h3, h4⟩
    rw [h2, h3, Nat.add_zero, Nat.mul_comm] at h1
    exact ⟨by omega, h1.symm⟩
theorem c_is {post : Int32 → zM → Prop} {b k v : Nat} {d : Int32} (hb : zDe M b d k) (hk : k ≤ 6) (hv : v ≤ 999) (h : post (b1 (ziz d k v)) M) : zis M b [1] ∧ wp_X1_is D post b (nI v) M := by
  have hd := zab_lt d
  have hp := p10_lt (k := k) (by omega)
  have hq := p10_pos k
  have hr : zab d % 10 ^ k < 10 ^ k := Nat.mod_lt _ hq
  have hr2 : zab d % 10 ^ k ≤ zab d := Nat.mod_le _ _
  have hr3 : zab d / 10 ^ k ≤ zab d := Nat.div_le_self _ _
  have hno : ziz d k v = false → wp_X1_is_L30 D post b M := by
    intro z
    rw [z] at h
    exact ⟨rfl, h⟩
  unfold wp_X1_is wp_X1_is_L31
  have e0 := ziz_d (d := d) (k := k) (v := v)
  refine ⟨cis hb (by decide), cgL hb rfl ?_⟩
  rw [lgc_eq, show (0 : Int64) = lN 0 from rfl, l3_eq (by omega) (by decide)]
  refine ⟨fun z => hno (Bool.eq_false_iff.mpr fun y => z (e0.mp y).1), fun z => cgL hb rfl ?_⟩
  rw [lgc_eq, nI_l (by omega), l3_eq (by omega) (by omega)]
  refine ⟨fun z2 => hno (Bool.eq_false_iff.mpr fun y => z2 (e0.mp y).2.1), fun z2 => cgI hb rfl ⟨fun z3 => hno (Bool.eq_false_iff.mpr fun y => (e0.mp y).2.2 z3), fun z3 => ⟨rfl, ?_⟩⟩⟩
  rw [e0.mpr ⟨z, z2, z3⟩] at h
  exact h
theorem c_comesTo {post : Int32 → zM → Prop} {a b ci al T k : Nat} {d : Int32} {x : zCh} {l : List zCo} (ha : zCh0 M a x) (hg : zgd x) (h1k : x.2.1 = 1) (hla : zLa M al ci l T) (hb : zDe M b d k) (hk : k ≤ 6) (h : post (zoi (-1) (zbo d k (zoth (zkx x) (zca l d k) 5) 0 (zkx x))) M) :
    wp_X21_comesTo D post a (some al) (some b) M := by
  have hl2 := zkx_l (x := x)
  have hl10 : x.2.2.2.2.length ≤ 10 := hg.2.1
  obtain ⟨cj, L, fs, hcj, m1, m2, h1, h2⟩ := zch_0 ha
  have zo : zot x = 5 := if_pos h1k
  rw [if_pos h1k] at hcj
  subst hcj
  have loop : ∀ f i : Nat, i ≤ (zkx x).length → (zkx x).length - i < f → zbo d k (zoth (zkx x) (zca l d k) 5) i ((zkx x).drop i) = zbo d k (zoth (zkx x) (zca l d k) 5) 0 (zkx x) → wp_X21_comesTo_L2 D post a f (some al) (some b) (nI i) M := by
    intro f
    induction f with
    | zero => intro i _ hf; omega
    | succ f ih =>
      intro i hi hf e
      unfold wp_X21_comesTo_L2
      refine cgR (x := some L) h1 rfl (czd (c_size' h2 ?_))
      rw [nI_leI (by omega) (by omega)]
      refine ⟨fun z => ?_, fun z => ?_⟩
      · rw [List.drop_eq_nil_of_le (by omega), zbo] at e
        rw [← e] at h
        refine czd ⟨by obtain ⟨L, fs, q1, q2, -⟩ := hla; exact cis q2 q1, c_category hk hla hb ⟨cis h1 (by decide), c_orOther ha hg (by have := zca_le l d k; omega) (by rw [zo]; exact h)⟩⟩
      · obtain ⟨v, hv1, hv2⟩ := zkx_at (x := x) (i := i) (by omega)
        have hv3 : v.1 ≤ 1009 := hg.2.2.1 _ (List.mem_map.mpr ⟨v, List.mem_of_getElem? hv1, rfl⟩)
        rw [zkx_d hv2, zbo] at e
        refine cgR (x := some L) h1 rfl (czd (c_get' h2 hv1 fun c hc => ?_))
        obtain ⟨P, hP⟩ := hc
        refine ⟨fun w hw => by cases hw; exact cis hP (by decide), czd (cgI hP rfl ?_)⟩
        unfold wp_X21_comesTo_L50
        rw [show (10 : Int32) = nI 10 from rfl, nI_ltI (by omega) (by decide), nI_1]
        refine ⟨fun z2 => ?_, fun z2 => czd ?_⟩
        · rw [if_neg (fun y => by omega)] at e
          exact ih (i + 1) (by omega) (by omega) e
        · rw [nI_sub (by omega)]
          refine c_is hb hk (by omega) ⟨fun z3 => ?_, fun z3 => ?_⟩
          · have z4 : ¬ ziz d k (v.1 - 10) = true := fun y => by rw [y] at z3; exact absurd z3 (by decide)
            rw [if_neg (fun y => z4 y.2)] at e
            exact ih (i + 1) (by omega) (by omega) e
          · rw [if_pos ⟨by omega, b1_n z3⟩] at e
            rw [← e] at h
            exact h
  exact ⟨(zkx x).length + 1, loop _ 0 (Nat.zero_le _) (by omega) rfl⟩
def sp_branch (X : zSg) (s l c d k : Int32) : Int32 := if zb s 4 && (zb l 7 && zb k 7) then (match zchs X s.toNatClampNeg c with | none => -2 | some x => if x.2.1 = 1 then zoi (-1) (zbo d k.toNatClampNeg (zoth (zkx x) (zca (zof X.1 l.toNatClampNeg) d k.toNatClampNeg) 5) 0 (zkx x)) else -2) else -1
theorem c_branch {post : Int32 → zM → Prop} {k n : Nat} {s l c d e : Int32} (hR : RC D X B I M) (hz : zle I M) (hk : 1 ≤ k) (hn : 6 ≤ n) (h : ∀ M', zle M M' → post (sp_branch X s l c d e) M') : wp_X0_branch D post k n (B 0) s l c d e M := by
  unfold wp_X0_branch wp_X0_branch_L22 wp_X0_branch_L74
  unfold sp_branch at h
  refine c_isSlot (ifb' (fun e1 => c_isLanguage (ifb' (fun e2 => c_isScale (ifb (fun e3 => ?_) (fun e3 => by rw [e1, e2, e3] at h; exact h _ (zle_r _)))) (fun e2 => by rw [e1, e2] at h; exact h _ (zle_r _)))) (fun e1 => by rw [e1] at h; exact h _ (zle_r _)))
  rw [e1, e2, e3] at h
  obtain ⟨j, hj, rfl⟩ := zb_of e1 (by decide)
  obtain ⟨q, hq, rfl⟩ := zb_of e2 (by decide)
  obtain ⟨r, hr, rfl⟩ := zb_of e3 (by decide)
  rw [nI_clamp (by omega), nI_clamp (by omega), nI_clamp (by omega)] at h
  simp only [Bool.and_true, if_true] at h
  refine c_choiceOf hR hz hj (fun z => ?_) (fun x a hx hg ha => ?_)
  · rw [z] at h
    exact Or.inr ⟨fun w hw => (nomatch hw), fun _ => h _ (zle_r _), fun y => absurd rfl y⟩
  · rw [hx] at h
    obtain ⟨cj, L, fs, hcj, m1, m2, k1, k2⟩ := zch_0 ha
    by_cases e9 : x.2.1 = 1
    · rw [if_pos e9] at hcj
      subst hcj
      simp only [if_pos e9] at h
      obtain ⟨f, T, h1, h2, h3⟩ := RC_le hR hz
      obtain ⟨al, h4, h5⟩ := h3 q hq
      refine Or.inl ⟨a, _, rfl, k1, fun y => absurd y (by decide), fun _ => ⟨fun w hw => by cases hw; exact cis k1 (by decide), cgR (x := some (B 2)) hR.1 rfl (czd (caR h1 (vp_in_nI hq (by decide)) ⟨hk, hn, fun b hb hb0 => c_dec2 (by omega) hb0 ?_⟩))⟩⟩
      rw [nI_clamp (by omega), h4]
      have hle : zle M (zu M b (some (.inr (1, zde d r)))) := zle_new (zle_r _) hb
      exact czd ⟨cis (hle _ _ k1) (by decide), c_comesTo (zCh0_m hle ha) hg e9 (zLa_m hle h5) zde_new (by omega) (h _ hle)⟩
    · rw [if_neg e9] at hcj
      subst hcj
      simp only [if_neg e9] at h
      exact Or.inr ⟨fun w hw => by cases hw; exact cis k1 (by decide), fun _ => h _ (zle_r _), fun y => absurd rfl y⟩
end CO12
