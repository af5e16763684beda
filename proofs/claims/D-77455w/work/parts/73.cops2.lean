/-! the component's acts that tell of messages -/
section CI
variable {D : zD} {M : zM}
theorem c_size' {post : Int32 → zM → Prop} {α : Type} {L : Nat} {l : List α} {P : Nat → α → Prop} (hL : zLs M L l P) (h : post (nI l.length) M) : zis M L [26] ∧ wp_J3_size D post L M := by
  obtain ⟨f, hf, -⟩ := hL
  exact ⟨by obtain ⟨mc, E, cap, h1, -⟩ := hf; exact cis h1 (by decide), c_size hf h⟩
theorem c_get' {post : Option Nat → zM → Prop} {α : Type} {L i : Nat} {l : List α} {q : α} {P : Nat → α → Prop} (hL : zLs M L l P) (hi : l[i]? = some q) (h : ∀ a, P a q → post (some a) M) : zis M L [26] ∧ wp_J3_get D post L (nI i) M := by
  obtain ⟨f, hf, hp⟩ := hL
  obtain ⟨a, ha, hq⟩ := hp i q hi
  exact ⟨by obtain ⟨mc, E, cap, h1, -⟩ := hf; exact cis h1 (by decide), c_get hf (List.getElem?_eq_some_iff.mp hi).1 (by rw [ha]; exact h a hq)⟩
theorem it_has {post : Int32 → zM → Prop} {b L E i n : Nat} {x mc mc2 : Int32} (hb : M b = some (.inr (27, [.int (nI i), .int x, .int mc, .ref L]))) (hL : M L = some (.inr (26, [.int mc2, .ref E, .int (nI n)]))) (hi : i ≤ n) (hn : n < 2 ^ 31) (h1 : i = n → post 0 M) (h2 : i < n → post 1 M) : wp_J15_hasNext D post b M := by
  unfold wp_J15_hasNext wp_J15_hasNext_L19
  refine cgI hb rfl (cgR (x := some L) hb rfl (czd (cgI hL rfl ⟨fun z => ⟨rfl, h1 ?_⟩, fun z => ⟨rfl, h2 ?_⟩⟩)))
  · rw [nI_eq (by omega) hn] at z; exact z
  · rw [nI_eq (by omega) hn] at z; omega
theorem it_next {post : Option Nat → zM → Prop} {b L E i n cap : Nat} {x mc : Int32} {f : Nat → Option Nat} (hb : M b = some (.inr (27, [.int (nI i), .int x, .int mc, .ref L]))) (hL : M L = some (.inr (26, [.int mc, .ref E, .int (nI n)]))) (hE : M E = some (.inl (5, cap, .inr (.inr (.inr (.inr f)))))) (hi : i < n) (hn : n ≤ cap) (hc : cap < 2 ^ 31) (hb0 : zB D ≤ b)
    (h : post (f i) (zu M b (some (.inr (27, [.int (nI (i + 1)), .int (nI i), .int mc, .ref L]))))) : wp_J15_next D post b M := by
  unfold wp_J15_next wp_J15_checkForComodification
  refine ⟨cis hb (by decide), cgR (x := some L) hb rfl (czd (cgI hL rfl (cgI hb rfl ⟨fun _ => ?_, fun z => absurd rfl z⟩)))⟩
  refine cgI hb rfl (cgR (x := some L) hb rfl (czd (cgI hL rfl ⟨fun _ => ?_, fun z => absurd (nI_lt hi (by omega)) z⟩)))
  refine cgR (x := some L) hb rfl (czd (cgR (x := some E) hL rfl (czd (clen hE (by decide) ⟨fun _ => ?_, fun z => absurd (nI_lt (by omega) hc) z⟩))))
  refine cp hb hb0 (by simp) (cp0 hb0 (by simp) ?_)
  refine caR (f := f) (n := cap) ?_ (vp_in_nI (by omega) hc) ?_
  · exact kn hE hb (by simp)
  · rw [nI_clamp (by omega), nI_1]
    exact h
theorem c_max {post : Int32 → zM → Prop} {a b : Nat} (ha : a < 2 ^ 31) (hb : b < 2 ^ 31) (h : post (nI (max a b)) M) : wp_J0_max D post (nI a) (nI b) M := by
  unfold wp_J0_max wp_J0_max_L10
  rw [nI_ltI ha hb]
  refine ⟨fun z => ?_, fun z => ?_⟩
  · rw [Nat.max_eq_right (by omega)] at h; exact h
  · rw [Nat.max_eq_left (by omega)] at h; exact h
theorem c_iter {post : Option Nat → zM → Prop} {k n L E m : Nat} {mc : Int32} (hk : 1 ≤ k) (hn : 4 ≤ n) (hL : M L = some (.inr (26, [.int mc, .ref E, .int (nI m)])))
    (h : ∀ b, M b = none → zB D ≤ b → post (some b) (zu M b (some (.inr (27, [.int (nI 0), .int (-1), .int mc, .ref L]))))) : wp_J3_iterator D post k n L M := by
  unfold wp_J3_iterator wp_J15_init
  refine ⟨hk, hn, fun b hb hb0 => ?_⟩
  refine cp0 hb0 (by simp) (cp0 hb0 (by simp) (cgR (x := some L) zu_s rfl (czd (cgI (kw hL hb) rfl (cp0 hb0 (by simp) ?_)))))
  exact h b hb hb0
end CI
/-- iterators that a depth's count makes -/
def znK : (d : Nat) → zN d → Nat
  | 0, _ => 0
  | d + 1, q => Sum.elim (fun _ => 0) (fun q => 1 + (q.2.2.map (fun b => 1 + (b.2.map (znK d)).sum)).sum) q
def ztK (d : Nat) (t : List (zN d)) : Nat := 1 + (t.map (znK d)).sum
theorem sum_le {α : Type} (f g : α → Nat) : ∀ l : List α, (∀ x ∈ l, f x ≤ g x) → (l.map f).sum ≤ (l.map g).sum
  | [], _ => Nat.le_refl _
  | x :: l, h => by
    rw [List.map_cons, List.map_cons, List.sum_cons, List.sum_cons]
    exact Nat.add_le_add (h x List.mem_cons_self) (sum_le f g l (fun y hy => h y (List.mem_cons_of_mem _ hy)))
theorem flen {α β : Type} (f : α → List β) : ∀ l : List α, (l.flatMap f).length = (l.map fun x => (f x).length).sum
  | [] => rfl
  | x :: l => by rw [List.flatMap_cons, List.length_append, List.map_cons, List.sum_cons, flen f l]
theorem znK_le : ∀ (d : Nat) (q : zN d), znK d q ≤ (znL d q).length
  | 0, _ => Nat.zero_le _
  | d + 1, .inl _ => Nat.zero_le _
  | d + 1, .inr q => by
    show 1 + (q.2.2.map (fun b => 1 + (b.2.map (znK d)).sum)).sum ≤ (123 :: nI (65 + q.2.1) :: (if q.1 then (112 : Int32) else 103) :: (q.2.2.flatMap (fun b => b.1 ++ 40 :: (b.2.flatMap (znL d) ++ [41])) ++ [125])).length
    have h1 : (q.2.2.map (fun b => 1 + (b.2.map (znK d)).sum)).sum ≤ (q.2.2.flatMap (fun b => b.1 ++ 40 :: (b.2.flatMap (znL d) ++ [41]))).length := by
      rw [flen]
      refine sum_le _ _ _ fun b _ => ?_
      have h2 : (b.2.map (znK d)).sum ≤ (b.2.flatMap (znL d)).length := by
        rw [flen]
        exact sum_le _ _ _ fun x _ => znK_le d x
      simp only [List.length_append, List.length_cons, List.length_nil]
      omega
    simp only [List.length_cons, List.length_append, List.length_nil]
    omega
theorem ztK_le (d : Nat) (t : List (zN d)) : ztK d t ≤ 1 + (ztL d t).length := by
  unfold ztK ztL
  rw [flen]
  exact Nat.add_le_add_left (sum_le _ _ _ fun x _ => znK_le d x) 1
theorem znD_le : ∀ (d : Nat) (q : zN d), znD d q ≤ d
  | 0, _ => Nat.le_refl _
  | d + 1, .inl _ => Nat.zero_le _
  | d + 1, .inr q => by
    have hm : ∀ (l : List Nat), (∀ x ∈ l, x ≤ d) → zmx l ≤ d := by
      intro l
      induction l with
      | nil => intro _; exact Nat.zero_le _
      | cons x l ih =>
        intro h
        show max x (zmx l) ≤ d
        exact Nat.max_le.mpr ⟨h x List.mem_cons_self, ih (fun y hy => h y (List.mem_cons_of_mem _ hy))⟩
    show 1 + zmx (q.2.2.map (fun b => zmx (b.2.map (znD d)))) ≤ d + 1
    have := hm (q.2.2.map (fun b => zmx (b.2.map (znD d)))) (fun x hx => by
      obtain ⟨b, -, rfl⟩ := List.mem_map.mp hx
      refine hm _ fun y hy => ?_
      obtain ⟨z, -, rfl⟩ := List.mem_map.mp hy
      exact znD_le d z)
    omega
