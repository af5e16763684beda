/-! the component's cells: rows for a map with known cells -/
def zle (I M : zM) : Prop := ∀ (a : Nat) (e : zV), I a = some e → M a = some e
theorem zle_r (M : zM) : zle M M := fun _ _ h => h
theorem zle_t {I J M : zM} (h1 : zle I J) (h2 : zle J M) : zle I M := fun a e h => h2 a e (h1 a e h)
theorem zle_new {I M : zM} {b : Nat} {e : Option zV} (h : zle I M) (hb : M b = none) : zle I (zu M b e) := fun a x hx => by
  have h1 := h a x hx
  have : a ≠ b := fun z => by rw [z, hb] at h1; cases h1
  rw [zu_n this]; exact h1
theorem zle_put {I M : zM} {b : Nat} {e : Option zV} (h : zle I M) (hb : I b = none) : zle I (zu M b e) := fun a x hx => by
  have : a ≠ b := fun z => by rw [z, hb] at hx; cases hx
  rw [zu_n this]; exact h a x hx
theorem zu_zu {M : zM} {b : Nat} {e e' : Option zV} : zu (zu M b e) b e' = zu M b e' := by
  funext a; unfold zu; split <;> rfl
theorem zu_c {M : zM} {a b : Nat} {e e' : Option zV} (h : a ≠ b) : zu (zu M a e) b e' = zu (zu M b e') a e := by
  funext c; unfold zu
  by_cases h1 : c = b
  · by_cases h2 : c = a
    · exact absurd (h2.symm.trans h1) h
    · rw [h1]; simp; intro z; exact absurd z.symm h
  · simp [h1]
theorem zu_self {M : zM} {b : Nat} {e : Option zV} (h : M b = e) : zu M b e = M := by
  funext a; unfold zu; split
  · rename_i z; rw [z, h]
  · rfl
theorem b1_n {b : Bool} (h : ¬ b1 b = 0) : b = true := by
  cases b
  · exact absurd rfl h
  · rfl
section CM
variable {D : zD} {M : zM} {b ci k : Nat} {fs : List Value}
theorem cgI {x : Int32} {Φ : Int32 → Prop} (hM : M b = some (.inr (ci, fs))) (hx : fs[k]? = some (.int x)) (h : Φ x) : zgI M b ci k Φ := ⟨fs, x, hM, hx, h⟩
theorem cgL {x : Int64} {Φ : Int64 → Prop} (hM : M b = some (.inr (ci, fs))) (hx : fs[k]? = some (.long x)) (h : Φ x) : zgL M b ci k Φ := ⟨fs, x, hM, hx, h⟩
theorem cgR {x : Option Nat} {Φ : Option Nat → Prop} (hM : M b = some (.inr (ci, fs))) (hx : fs[k]? = some (va_rf x)) (h : Φ x) : zgR M b ci k Φ := ⟨fs, x, hM, hx, h⟩
theorem cgRm {L : List (Nat × Nat)} {x : Option Nat} {Φ : Option Nat → Prop} (hM : M b = some (.inr (ci, fs))) (hL : (ci, k) ∈ L) (hx : fs[k]? = some (va_rf x)) (h : Φ x) : zgRm M b L Φ := ⟨(ci, k), fs, x, hL, hM, hx, h⟩
theorem cgIm {L : List (Nat × Nat)} {x : Int32} {Φ : Int32 → Prop} (hM : M b = some (.inr (ci, fs))) (hL : (ci, k) ∈ L) (hx : fs[k]? = some (.int x)) (h : Φ x) : zgIm M b L Φ := ⟨(ci, k), fs, x, hL, hM, hx, h⟩
theorem czd {Φ : Nat → Prop} (h : Φ b) : zd (some b) Φ := ⟨b, rfl, h⟩
theorem cis {L : List Nat} (hM : M b = some (.inr (ci, fs))) (hL : ci ∈ L) : zis M b L := ⟨ci, fs, hL, hM⟩
theorem cp {v : Value} {Φ : zM → Prop} (hM : M b = some (.inr (ci, fs))) (hb : zB D ≤ b) (hk : k < fs.length) (h : Φ (zu M b (some (.inr (ci, fs.set k v))))) : zp D M b ci k v Φ := ⟨fs, hM, hb, hk, h⟩
theorem cp0 {M0 : zM} {v : Value} {Φ : zM → Prop} (hb : zB D ≤ b) (hk : k < fs.length) (h : Φ (zu M0 b (some (.inr (ci, fs.set k v))))) : zp D (zu M0 b (some (.inr (ci, fs)))) b ci k v Φ := ⟨fs, zu_s, hb, hk, by rw [zu_zu]; exact h⟩
theorem caI {n : Nat} {f : Nat → Int32} {kd : Nat} {i : Int32} {Φ : Int32 → Prop} (hM : M b = some (.inl (kd, n, .inl f))) (hi : vp_in i n) (h : Φ (f i.toNatClampNeg)) : zaI M b kd i Φ := ⟨n, f, hM, hi, h⟩
theorem caR {n : Nat} {f : Nat → Option Nat} {kd : Nat} {i : Int32} {Φ : Option Nat → Prop} (hM : M b = some (.inl (kd, n, .inr (.inr (.inr (.inr f)))))) (hi : vp_in i n) (h : Φ (f i.toNatClampNeg)) : zaR M b kd i Φ := ⟨n, f, _, hM, hi, rfl, h⟩
theorem clen {kd n : Nat} {y} {Φ : Int32 → Prop} (hM : M b = some (.inl (kd, n, y))) (hk : kd < 11) (h : Φ (nI n)) : zlen M b Φ := ⟨(kd, n, y), hM, hk, h⟩
end CM
/-- a decimal's fields -/
def zde (d : Int32) (k : Nat) : List Value := [.int d, .int (nI k), .long (lN (zab d / 10 ^ k)), .long (lN (zab d % 10 ^ k)), .int (nI (zst k (zab d % 10 ^ k)).2), .long (lN (zst k (zab d % 10 ^ k)).1)]
def zDe (M : zM) (a : Nat) (d : Int32) (k : Nat) : Prop := M a = some (.inr (1, zde d k))
section CF
variable {D : zD} {M : zM}
theorem c_in {post : Int32 → zM → Prop} {a b c : Int64} (h : post (b1 (zin a b c)) M) : wp_X0_in D post a b c M := by
  unfold wp_X0_in wp_X0_in_L17 wp_X0_in_L18
  simp only [lgc_lt, lgc_gt]
  refine ⟨fun h1 => ⟨rfl, ?_⟩, fun h1 => ⟨fun h2 => ⟨rfl, ?_⟩, fun h2 => ⟨rfl, ?_⟩⟩⟩
  · have e : zin a b c = false := by unfold zin; rw [Int64.lt_iff_toInt_lt] at h1; simp [Int64.le_iff_toInt_le]; omega
    rw [e] at h; exact h
  · have e : zin a b c = false := by unfold zin; rw [Int64.lt_iff_toInt_lt] at h1 h2; simp [Int64.le_iff_toInt_le]; omega
    rw [e] at h; exact h
  · have e : zin a b c = true := by unfold zin; rw [Int64.lt_iff_toInt_lt] at h1 h2; simp [Int64.le_iff_toInt_le]; omega
    rw [e] at h; exact h
theorem c_tens {post : Int64 → zM → Prop} {j : Nat} (hj : j ≤ 18) (h : post (lN (10 ^ j)) M) : wp_X0_tens D post (nI j) M := by
  have key : ∀ f i : Nat, i ≤ j → j - i < f → wp_X0_tens_L4 D post f (nI j) (lN (10 ^ i)) (nI i) M := by
    intro f
    induction f with
    | zero => intro i _ h; omega
    | succ f ih =>
      intro i hi hf
      unfold wp_X0_tens_L4
      refine ⟨fun h1 => ?_, fun h1 => ?_⟩
      · rw [nI_leI (by omega) (by omega)] at h1
        have : i = j := by omega
        subst this; exact h
      · rw [nI_leI (by omega) (by omega)] at h1
        have h2 := ih (i + 1) (by omega) (by omega)
        rw [nI_1, show (10 : Int64) = lN 10 from rfl, lN_mul, ← Nat.pow_succ]
        exact h2
  exact ⟨j + 1, key (j + 1) 0 (Nat.zero_le _) (by omega)⟩
end CF
theorem i0_le {x : Int32} : (0 ≤ x) ↔ ¬ x < 0 := by rw [Int32.le_iff_toInt_le, Int32.lt_iff_toInt_lt]; omega
section CD
variable {D : zD} {M : zM}
theorem c_abs {post : Int64 → zM → Prop} {d : Int32} (h : post (lN (zab d)) M) : wp_J0_abs D post d.toInt64 M := by
  have h0 : (0 : Int64).toInt = 0 := by decide
  have h1 : (0 : Int32).toInt = 0 := by decide
  unfold wp_J0_abs wp_J0_abs_L12
  rw [i0_le, lgc_lt, Int64.lt_iff_toInt_lt, Int32.toInt_toInt64, h0]
  refine ⟨fun z => ?_, fun z => ?_⟩
  · rw [zab_nn (by rw [Int32.lt_iff_toInt_lt, h1]; exact z)]; exact h
  · rw [zab_ng (by rw [Int32.lt_iff_toInt_lt, h1]; omega)]; exact h
theorem c_min {post : Int32 → zM → Prop} {a b : Nat} (ha : a < 2 ^ 31) (hb : b < 2 ^ 31) (h : post (nI (min a b)) M) : wp_J0_min D post (nI a) (nI b) M := by
  unfold wp_J0_min wp_J0_min_L10
  rw [nI_ltI hb ha]
  refine ⟨fun z => ?_, fun z => ?_⟩
  · rw [Nat.min_eq_right (by omega)] at h; exact h
  · rw [Nat.min_eq_left (by omega)] at h; exact h
theorem c_dec2 {post : Unit → zM → Prop} {b : Nat} {d : Int32} {k : Nat} {v0 v1 v2 v3 v4 v5 : Value} (hk : k ≤ 6) (hb : zB D ≤ b) (h : post () (zu M b (some (.inr (1, zde d k))))) :
    wp_X1_init_2 D post b d (nI k) (zu M b (some (.inr (1, [v0, v1, v2, v3, v4, v5])))) := by
  have hd := zab_lt d
  have hp := p10_lt (k := k) (by omega)
  have hq := p10_pos k
  have hr : zab d % 10 ^ k < 10 ^ k := Nat.mod_lt _ hq
  have hr2 : zab d % 10 ^ k ≤ zab d := Nat.mod_le _ _
  unfold wp_X1_init_2
  refine cp0 hb (by simp) ?_
  refine cp0 hb (by simp) ?_
  refine cp0 hb (by simp) ?_
  refine c_abs (c_tens (by omega) ⟨l3_ne0 hq hp, ?_⟩)
  rw [l3_div (by omega) hp]
  refine cp0 hb (by simp) (c_tens (by omega) ⟨l3_ne0 hq hp, ?_⟩)
  rw [l3_mod (by omega) hp]
  refine cp0 hb (by simp) (cgL zu_s rfl (cp0 hb (by simp) (cgI zu_s rfl (c_min (a := 7) (by decide) (by omega) (cp0 hb (by simp) ?_)))))
  rw [Nat.min_eq_right (by omega)]
  have loop : ∀ f i v : Nat, i < f → i ≤ 6 → v ≤ zab d → zst i v = zst k (zab d % 10 ^ k) →
      wp_X1_init_2_L66 D post b f (zu M b (some (.inr (1, [.int d, .int (nI k), .long (lN (zab d / 10 ^ k)), .long (lN (zab d % 10 ^ k)), .int (nI i), .long (lN v)])))) := by
    intro f
    induction f with
    | zero => intro i v h; omega
    | succ f ih =>
      intro i v hi hi6 hv he
      unfold wp_X1_init_2_L66
      refine cgI zu_s rfl ⟨fun z => ?_, fun z => cgL zu_s rfl ⟨fun z2 => ?_, fun z2 => ?_⟩⟩
      · rw [show (0 : Int32) = nI 0 from rfl, nI_leI (by omega) (by decide)] at z
        have : i = 0 := by omega
        subst this
        unfold wp_X1_init_2_L111
        unfold zde at h
        rw [← he] at h
        exact h
      · rw [show (0 : Int32) = nI 0 from rfl, nI_leI (by omega) (by decide)] at z
        obtain ⟨j, rfl⟩ : ∃ j, i = j + 1 := ⟨i - 1, by omega⟩
        rw [lgc_eq, show (10 : Int64) = lN 10 from rfl, l3_mod (by omega) (by decide), show (0 : Int64) = lN 0 from rfl, l3_eq (by omega) (by decide)] at z2
        unfold wp_X1_init_2_L111
        unfold zde at h
        rw [← he, show zst (j + 1) v = (v, j + 1) by simp [zst, z2]] at h
        exact h
      · rw [show (0 : Int32) = nI 0 from rfl, nI_leI (by omega) (by decide)] at z
        obtain ⟨j, rfl⟩ : ∃ j, i = j + 1 := ⟨i - 1, by omega⟩
        rw [lgc_eq, show (10 : Int64) = lN 10 from rfl, l3_mod (by omega) (by decide), show (0 : Int64) = lN 0 from rfl, l3_eq (by omega) (by decide)] at z2
        rw [show (10 : Int64) = lN 10 from rfl]
        refine cgL zu_s rfl (cp0 hb (by simp) (cgI zu_s rfl (cp0 hb (by simp) ?_)))
        rw [l3_div (by omega) (by decide), nI_pred]
        exact ih j (v / 10) (by omega) (by omega) (by omega) (by rw [← he]; simp [zst, z2])
  exact ⟨k + 1, loop (k + 1) k _ (by omega) hk hr2 rfl⟩
theorem c_dec {post : Unit → zM → Prop} {b : Nat} {d : Int32} {v0 v1 v2 v3 v4 v5 : Value} (hb : zB D ≤ b) (h : post () (zu M b (some (.inr (1, zde d 0))))) :
    wp_X1_init D post b d (zu M b (some (.inr (1, [v0, v1, v2, v3, v4, v5])))) := by
  unfold wp_X1_init
  exact c_dec2 (k := 0) (by decide) hb h
theorem c_operandD {post : Int64 → zM → Prop} {a : Nat} {d w : Int32} {k : Nat} (hk : k ≤ 6) (hM : zDe M a d k) (h : post (zop d k w) M) : wp_X1_operand D post a w M := by
  have hw : (zst k (zab d % 10 ^ k)).2 ≤ k := (zst_le k _).2
  unfold wp_X1_operand
  unfold zop at h
  refine ⟨fun e => cgL hM rfl ?_, fun e => cgI hM rfl ?_, fun e => cgL hM rfl ?_, fun e => cgI hM rfl ?_, fun e => cgL hM rfl ?_⟩
  · rw [if_pos e] at h; exact h
  · subst e; rw [nI_l (by omega)]; exact h
  · subst e; exact h
  · subst e; rw [nI_l (by omega)]; exact h
  · rw [if_neg e.1, if_neg e.2.1, if_neg e.2.2.1, if_neg e.2.2.2] at h; exact h
end CD
/-- a list: n elements f behind the address L -/
def zLi (M : zM) (L n : Nat) (f : Nat → Option Nat) : Prop := ∃ (mc : Int32) (E cap : Nat), M L = some (.inr (26, [.int mc, .ref E, .int (nI n)])) ∧ M E = some (.inl (5, cap, .inr (.inr (.inr (.inr f))))) ∧ n ≤ cap ∧ cap < 2 ^ 31
def zcf (q : zCo) : List Value := [.int q.1.1, .int q.1.2.1, .int q.1.2.2.1, .int q.1.2.2.2.1, .int q.1.2.2.2.2.1, .int q.1.2.2.2.2.2, .int (b1 q.2)]
/-- conditions as objects behind the list L -/
def zCs (M : zM) (L : Nat) (l : List zCo) : Prop := ∃ f : Nat → Option Nat, zLi M L l.length f ∧ ∀ (i : Nat) (q : zCo), l[i]? = some q → ∃ c, f i = some c ∧ M c = some (.inr (3, zcf q))
/-- a language: its class, its conditions, the row of what is tried -/
def zLa (M : zM) (a ci : Nat) (l : List zCo) (T : Nat) : Prop := ∃ (L : Nat) (fs : List Value), ci ∈ [2, 4, 5, 6] ∧ M a = some (.inr (ci, .ref L :: .ref T :: fs)) ∧ zCs M L l
section CL
variable {D : zD} {M : zM}
theorem c_size {post : Int32 → zM → Prop} {L n : Nat} {f : Nat → Option Nat} (hL : zLi M L n f) (h : post (nI n) M) : wp_J3_size D post L M := by
  obtain ⟨mc, E, cap, h1, -⟩ := hL
  exact cgI h1 rfl h
theorem c_get {post : Option Nat → zM → Prop} {L n i : Nat} {f : Nat → Option Nat} (hL : zLi M L n f) (hi : i < n) (h : post (f i) M) : wp_J3_get D post L (nI i) M := by
  obtain ⟨mc, E, cap, h1, h2, h3, h4⟩ := hL
  unfold wp_J3_get wp_J6_checkIndex wp_J7_checkIndex wp_J3_elementData
  refine cgI h1 rfl ⟨fun z => absurd z (nI_pos (by omega)), fun _ => ⟨fun _ => ?_, fun z => absurd (nI_lt hi (by omega)) z⟩⟩
  refine ⟨cis h1 (by decide), cgR (x := some E) h1 rfl (czd (caR h2 (vp_in_nI (by omega) h4) ?_))⟩
  rw [nI_clamp (by omega)]
  exact h
theorem c_cond {post : Int32 → zM → Prop} {c a : Nat} {q : zCo} {d : Int32} {k : Nat} (hk : k ≤ 6) (hc : M c = some (.inr (3, zcf q))) (ha : zDe M a d k) (h : post (b1 (zct q d k)) M) : wp_X4_holds D post c (some a) M := by
  have key : ∀ v : Int64, v = zmo (zop d k q.1.2.2.1) q.1.2.2.2.1 → wp_X4_holds_L27 D post c v M := by
    rintro v rfl
    unfold wp_X4_holds_L27 wp_X4_holds_L52
    refine cgI hc rfl (cgI hc rfl (c_in (cgI hc rfl ?_)))
    unfold zct at h
    generalize zin _ _ _ = x at h ⊢
    cases x <;> cases hq : q.2 <;> rw [hq] at h <;> first | exact ⟨fun _ => ⟨rfl, h⟩, fun z => absurd rfl z⟩ | exact ⟨fun z => absurd z (by decide), fun _ => ⟨rfl, h⟩⟩
  unfold wp_X4_holds
  refine cgI hc rfl (czd ⟨cis ha (by decide), c_operandD hk ha (cgI hc rfl ⟨fun z => cgI hc rfl ⟨?_, key _ ?_⟩, fun z => key _ ?_⟩)⟩)
  · intro z2
    apply z
    have := congrArg Int64.toInt z2
    rw [Int32.toInt_toInt64] at this
    exact Int32.toInt_inj.mp this
  · unfold zmo; rw [if_neg z]
  · unfold zmo; rw [if_pos z]
theorem c_holds {post : Int32 → zM → Prop} {o ci a T : Nat} {l : List zCo} {c r : Int32} {d : Int32} {k : Nat} (hk : k ≤ 6) (ho : zLa M o ci l T) (ha : zDe M a d k) (h : post (b1 (zru l false c r d k)) M) : wp_X2_holds D post o (some a) c r M := by
  obtain ⟨L, fs, hci, h1, f, hL, hf⟩ := ho
  have hlen : l.length < 2 ^ 31 := by obtain ⟨mc, E, cap, -, -, h3, h4⟩ := hL; omega
  have hm : (ci, 0) ∈ ([(2, 0), (4, 0), (5, 0), (6, 0)] : List (Nat × Nat)) := by
    simp only [List.mem_cons, List.not_mem_nil, or_false] at hci
    rcases hci with rfl | rfl | rfl | rfl <;> decide
  have loop : ∀ n i : Nat, ∀ any : Bool, l.length - i < n → i ≤ l.length → zru (l.drop i) any c r d k = zru l false c r d k → wp_X2_holds_L6 D post o n (some a) c r (b1 any) (nI i) M := by
    intro n
    induction n with
    | zero => intro i any h; omega
    | succ n ih =>
      intro i any hn hi he
      unfold wp_X2_holds_L6
      refine cgRm (x := some L) h1 hm rfl (czd ⟨by obtain ⟨mc, E, cap, h5, -⟩ := hL; exact cis h5 (by decide), c_size hL ⟨fun z => ?_, fun z => ?_⟩⟩)
      · rw [nI_leI (by omega) (by omega)] at z
        have : i = l.length := by omega
        subst this
        rw [List.drop_length] at he
        rw [← he] at h
        exact ⟨of_eq_true znb, h⟩
      · rw [nI_leI (by omega) (by omega)] at z
        obtain ⟨q, hq⟩ : ∃ q, l[i]? = some q := ⟨l[i]'(by omega), List.getElem?_eq_getElem (by omega)⟩
        obtain ⟨cc, hc1, hc2⟩ := hf i q hq
        have hdr : l.drop i = q :: l.drop (i + 1) := by
          rw [List.drop_eq_getElem_cons (by omega)]
          congr 1
          exact Option.some.inj ((List.getElem?_eq_getElem (by omega)).symm.trans hq)
        rw [hdr, zru] at he
        refine cgRm (x := some L) h1 hm rfl (czd ⟨by obtain ⟨mc, E, cap, h5, -⟩ := hL; exact cis h5 (by decide), c_get hL (by omega) ?_⟩)
        rw [hc1]
        refine ⟨fun w hw => by cases hw; exact cis hc2 (by decide), czd (cgI hc2 rfl ⟨fun z1 => ?_, fun z1 => cgI hc2 rfl ⟨fun z2 => ?_, fun z2 => ⟨cis hc2 (by decide), c_cond hk hc2 ha ⟨fun z3 => ?_, fun z3 => ?_⟩⟩⟩⟩)⟩
        · unfold wp_X2_holds_L64
          rw [nI_1]
          exact ih (i + 1) any (by omega) (by omega) (by rw [if_neg (fun z => z1 z.1)] at he; exact he)
        · unfold wp_X2_holds_L64
          rw [nI_1]
          exact ih (i + 1) any (by omega) (by omega) (by rw [if_neg (fun z => z2 z.2)] at he; exact he)
        · unfold wp_X2_holds_L64
          rw [nI_1]
          refine ih (i + 1) true (by omega) (by omega) ?_
          rw [if_pos ⟨z1, z2⟩] at he
          cases hz : zct q d k
          · rw [hz] at z3; exact absurd rfl z3
          · rw [hz, if_pos rfl] at he; exact he
        · rw [if_pos ⟨z1, z2⟩, b1_0.mp z3] at he
          rw [← he] at h
          exact ⟨rfl, h⟩
  exact ⟨l.length + 1, loop _ 0 false (by omega) (Nat.zero_le _) rfl⟩
end CL
section CL2
variable {D : zD} {M : zM}
theorem c_category {post : Int32 → zM → Prop} {o ci a T : Nat} {l : List zCo} {d : Int32} {k : Nat} (hk : k ≤ 6) (ho : zLa M o ci l T) (ha : zDe M a d k) (h : post (nI (zca l d k)) M) : wp_X2_category D post o (some a) M := by
  have hi : zis M o [2, 4, 5, 6] := by obtain ⟨L, fs, hci, h1, -⟩ := ho; exact cis h1 hci
  have loop : ∀ n, n ≤ 5 → zcaN l d k n = zca l d k → wp_X2_category_L2 D post o (n + 1) (some a) (nI (5 - n)) M := by
    intro n
    induction n with
    | zero =>
      intro _ he
      unfold wp_X2_category_L2
      refine ⟨fun _ => ?_, fun z => absurd (nI_le (Nat.le_refl 5) (by decide)) z⟩
      rw [← he] at h; exact h
    | succ n ih =>
      intro hn he
      unfold wp_X2_category_L2
      have e5 : 5 - (n + 1) = 4 - n := by omega
      rw [e5]
      refine ⟨fun z => absurd z (nI_ge (a := 4 - n) (b := 5) (by omega) (by decide)), fun _ => ⟨hi, c_holds hk ho ha ⟨fun z => ?_, fun z => ⟨hi, c_holds hk ho ha ⟨fun z2 => ?_, fun z2 => ?_⟩⟩⟩⟩⟩
      · unfold wp_X2_category_L27
        have z' : zru l false (nI (4 - n)) 0 d k = true := b1_n z
        rw [← he, zcaN, if_pos (by unfold zho; rw [z']; rfl)] at h
        exact h
      · rw [nI_1, show 4 - n + 1 = 5 - n by omega]
        refine ih (by omega) ?_
        rw [← he, zcaN, if_neg (by unfold zho; rw [b1_0.mp z, show zru l false (nI (4 - n)) 1 d k = false from b1_0.mp z2]; decide)]
      · unfold wp_X2_category_L27
        have z' : zru l false (nI (4 - n)) 1 d k = true := b1_n z2
        rw [← he, zcaN, if_pos (by unfold zho; rw [z']; exact Bool.or_true _)] at h
        exact h
  exact ⟨6, loop 5 (Nat.le_refl 5) rfl⟩
/-- the row of what is tried: 0 to 210, whole and with one place -/
def zTr (M : zM) (T : Nat) : Prop := ∃ f : Nat → Option Nat, M T = some (.inl (7, 422, .inr (.inr (.inr (.inr f))))) ∧ ∀ i, i < 211 → ∃ a c : Nat, f (2 * i) = some a ∧ f (2 * i + 1) = some c ∧ zDe M a (nI i) 0 ∧ zDe M c (nI i) 1
theorem c_used {post : Int32 → zM → Prop} {o ci T : Nat} {l : List zCo} (ho : zLa M o ci l T) (hT : zTr M T) (h : post (zused l) M) : wp_X2_used D post o M := by
  obtain ⟨f, hf, hd⟩ := hT
  have ho' := ho
  obtain ⟨L, fs, hci, h1, -⟩ := ho
  have hi : zis M o [2, 4, 5, 6] := cis h1 hci
  have hm : (ci, 1) ∈ ([(2, 1), (4, 1), (5, 1), (6, 1)] : List (Nat × Nat)) := by
    simp only [List.mem_cons, List.not_mem_nil, or_false] at hci
    rcases hci with rfl | rfl | rfl | rfl <;> decide
  have loop : ∀ n i : Nat, i ≤ 211 → 2 * (211 - i) + 1 ≤ n → wp_X2_used_L13 D post o n (zus l i) (some T) (nI 422) (nI (2 * i)) M := by
    intro n
    induction n using Nat.strongRecOn with
    | ind n ih =>
      intro i hi9 hn
      obtain ⟨n, rfl⟩ : ∃ m, n = m + 1 := ⟨n - 1, by omega⟩
      unfold wp_X2_used_L13
      rw [nI_leI (by omega) (by omega)]
      refine ⟨fun z => ?_, fun z => ?_⟩
      · have : i = 211 := by omega
        subst this; exact h
      · obtain ⟨a, c, ha1, hc1, ha2, hc2⟩ := hd i (by omega)
        obtain ⟨n, rfl⟩ : ∃ m, n = m + 1 := ⟨n - 1, by omega⟩
        refine czd (caR hf (vp_in_nI (by omega) (by decide)) ⟨hi, ?_⟩)
        rw [nI_clamp (by omega), ha1]
        refine c_category (by decide) ho' ha2 ?_
        unfold wp_X2_used_L13
        rw [nI_1, nI_leI (by omega) (by omega)]
        refine ⟨fun z => by omega, fun _ => czd (caR hf (vp_in_nI (by omega) (by decide)) ⟨hi, ?_⟩)⟩
        rw [nI_clamp (by omega), hc1]
        refine c_category (by decide) ho' hc2 ?_
        rw [nI_1, show 2 * i + 1 + 1 = 2 * (i + 1) by omega, Int32.or_assoc]
        exact ih n (by omega) (i + 1) (by omega) (by omega)
  unfold wp_X2_used
  exact cgRm (x := some T) h1 hm rfl (czd (clen hf (by decide) ⟨_, loop 423 0 (by omega) (by omega)⟩))
end CL2
