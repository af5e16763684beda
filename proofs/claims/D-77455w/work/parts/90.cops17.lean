/-! shaped numbers as the component cuts them: at the most places, then stripped -/
/-- the value at the most places -/
def zW (u k most : Nat) : Nat := if k ≤ most then u * 10 ^ (most - k) else zr1 u (10 ^ (k - most))
theorem zst_m : ∀ (x w v : Nat), zst (w + x) (v * 10 ^ x) = zst w v
  | 0, w, v => by rw [Nat.pow_zero, Nat.mul_one, Nat.add_zero]
  | x + 1, w, v => by
    rw [← Nat.add_assoc, zst, Nat.pow_succ, ← Nat.mul_assoc, Nat.mul_mod_left, if_pos rfl, Nat.mul_div_cancel _ (by decide : 0 < 10)]
    exact zst_m x w v
/-- stripping a number is stripping its last places -/
theorem zst_f : ∀ (w W E : Nat), w ≤ E → (zst w W).2 = (zst w (W % 10 ^ E)).2 ∧ (zst w W).1 / 10 ^ (E - w + (zst w W).2) = W / 10 ^ E ∧ (zst w W).1 % 10 ^ (E - w + (zst w W).2) = (zst w (W % 10 ^ E)).1
  | 0, W, E, _ => by
    rw [zst, zst]
    exact ⟨rfl, rfl, rfl⟩
  | w + 1, W, E, h => by
    obtain ⟨F, rfl⟩ : ∃ F, E = F + 1 := ⟨E - 1, by omega⟩
    have e1 : W % 10 ^ (F + 1) % 10 = W % 10 := Nat.mod_mod_of_dvd W ⟨10 ^ F, by rw [Nat.pow_succ, Nat.mul_comm]⟩
    rw [zst, zst, e1]
    split
    · have e2 : W % 10 ^ (F + 1) / 10 = W / 10 % 10 ^ F := by rw [Nat.pow_succ, Nat.mul_comm, Nat.mod_mul_right_div_self]
      have ih := zst_f w (W / 10) F (by omega)
      rw [e2, show F + 1 - (w + 1) = F - w by omega]
      refine ⟨ih.1, ?_, ih.2.2⟩
      rw [ih.2.1, Nat.div_div_eq_div_mul, Nat.pow_succ, Nat.mul_comm]
    · rename_i hne
      rw [show F + 1 - (w + 1) + (w + 1) = F + 1 by omega]
      exact ⟨rfl, rfl, rfl⟩
theorem zsv_W {u k least most : Nat} (hlm : least ≤ most) : zsv u k least most = ((zst (most - least) (zW u k most)).1, least + (zst (most - least) (zW u k most)).2) := by
  unfold zsv zs2
  have hm := zs0_m (u := u) (k := k) (most := most)
  have hW : zW u k most = (zs0 u k most).1 * 10 ^ (most - (zs0 u k most).2) := by
    unfold zW zs0
    split
    · rfl
    · rw [Nat.sub_self, Nat.pow_zero, Nat.mul_one]
  rw [hW]
  generalize zs0 u k most = q at *
  unfold zs1
  split
  · rename_i hlt
    have e : q.1 * 10 ^ (most - q.2) = q.1 * 10 ^ (least - q.2) * 10 ^ (most - least) := by
      rw [Nat.mul_assoc, ← Nat.pow_add]
      congr 2; omega
    have e2 := zst_m (most - least) 0 (q.1 * 10 ^ (least - q.2))
    rw [Nat.zero_add] at e2
    rw [e, e2, Nat.sub_self]
  · rename_i hlt
    have e2 := zst_m (most - q.2) (q.2 - least) q.1
    rw [show q.2 - least + (most - q.2) = most - least by omega] at e2
    rw [e2]
theorem zW_le {u k most : Nat} (hu : u ≤ 2 ^ 31) (hm : most ≤ 6) : zW u k most ≤ (2 ^ 31 + 1) * 1000000 := by
  unfold zW
  split
  · have : 10 ^ (most - k) ≤ 1000000 := Nat.le_trans (Nat.pow_le_pow_right (by decide) (by omega)) (by decide : 10 ^ 6 ≤ 1000000)
    exact Nat.mul_le_mul (by omega) this
  · have := zr1_le u (10 ^ (k - most))
    omega
theorem zst_z {w W : Nat} : (zst w W).1 = 0 ↔ W = 0 := by
  induction w generalizing W with
  | zero => rw [zst]
  | succ w ih =>
    rw [zst]
    split
    · rw [ih]; omega
    · rfl
/-- the letters of a number at the most places, its sign aside -/
theorem zwh_W {l : Nat} {g : Bool} {w u k least most : Nat} (hlm : least ≤ most) : zwh l g w (zsv u k least most).1 (zsv u k least most).2 =
    (if g then zgt (zgs l) (max w (znd (zW u k most / 10 ^ most))) (zW u k most / 10 ^ most) else zdl w (zW u k most / 10 ^ most)) ++ (if least + (zst (most - least) (zW u k most % 10 ^ most)).2 = 0 then [] else
      zpt l :: zdl (least + (zst (most - least) (zW u k most % 10 ^ most)).2) (zst (most - least) (zW u k most % 10 ^ most)).1) := by
  have h := zst_f (most - least) (zW u k most) most (by omega)
  rw [show most - (most - least) = least by omega] at h
  rw [zsv_W hlm]
  unfold zwh
  simp only
  rw [h.2.1, h.2.2, h.1]
