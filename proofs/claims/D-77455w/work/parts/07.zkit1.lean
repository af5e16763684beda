/-! Z-KIT 1: the whole run's cells as ONE map M; cells ahead of the law's own (zB) never change -/
set_option maxRecDepth 100000
abbrev zV : Type := (Nat × vp_A) ⊕ (Nat × List Value)
abbrev zM : Type := Nat → Option zV
/-- the run's fixed data: classes' ids and slots; array kinds' class ids; the state at the law's entry; addresses of statics and String constants -/
abbrev zD : Type := va_G × (Nat → ClassId) × State × (Nat → Nat)
abbrev zB (D : zD) : Nat := D.2.2.1.heap.size
def zTN : u_T := fun _ => ("", "", "", false)
def zCl : List vw_C := [(RX0, TX0, 8), (RX1, TX1, 6), (RX3, TX3, 3), (RX4, TX4, 7), (RX5, TX5, 2), (RX6, TX6, 2), (RX7, TX7, 2), (RX8, TX8, 1), (RX9, TX9, 56), (RX10, TX10, 6), (RX11, TX11, 5), (RX12, TX12, 1), (RX14, zTN, 0), (RX15, TX15, 7), (RX16, TX16, 1), (RX17, TX17, 1), (RX18, TX18, 2), (RX19, TX19, 4), (RX21, TX21, 3), (RX22, TX22, 3), (RX23, TX23, 2), (RX24, TX24, 1), (RX25, TX25, 1), (RX26, TX26, 1), (RX27, TX27, 1), (RX28, TX28, 5), (RJ3, TJ3, 3), (RJ15, TJ15, 4), (RJ16, zTN, 0), (RJ17, zTN, 0), (RJ11, TJ11, 2)]
def zTy : Nat → FieldType := fun k => match k with
  | 0 => .int
  | 1 => .byte
  | 2 => .long
  | 3 => .float
  | 4 => .double
  | 5 => .object "java/lang/Object"
  | 6 => .object "PluralBranches$Language"
  | 7 => .object "PluralBranches$Decimal"
  | 8 => .object "PluralBranches$Message"
  | 9 => .object "PluralBranches$Thing"
  | _ => .object "PluralBranches$Row"
def zTys (D : zD) : List (ClassId × FieldType) := [(D.2.1 0, zTy 0), (D.2.1 1, zTy 1), (D.2.1 2, zTy 2), (D.2.1 3, zTy 3), (D.2.1 4, zTy 4), (D.2.1 5, zTy 5), (D.2.1 6, zTy 6), (D.2.1 7, zTy 7), (D.2.1 8, zTy 8), (D.2.1 9, zTy 9), (D.2.1 10, zTy 10)]
def zu (M : zM) (a : Nat) (e : Option zV) : zM := fun b => if b = a then e else M b
theorem zu_s {M : zM} {a : Nat} {e : Option zV} : zu M a e a = e := by simp [zu]
theorem zu_n {M : zM} {a b : Nat} {e : Option zV} (h : b ≠ a) : zu M a e b = M b := by simp [zu, h]
/-- an array's places as values -/
def zav (x : vp_A) : Nat → Value := match x.2 with
  | .inl f => fun j => .int (f j)
  | .inr (.inl f) => fun j => .long (f j)
  | .inr (.inr (.inl f)) => fun j => .float (f j)
  | .inr (.inr (.inr (.inl f))) => fun j => .double (f j)
  | .inr (.inr (.inr (.inr f))) => fun j => va_rf (f j)
theorem zav_cell (c : ClassId) (x : vp_A) : vp_cell c x = arrV c x.1 (zav x) := by
  obtain ⟨n, f | f | f | f | f⟩ := x <;> rfl
/-- a cell of the map, in a heap: ahead of the law's own cells in a weaker form -/
def zat (D : zD) (a : Nat) (e : zV) (H : Heap) : Prop := match e with
  | .inl y => if zB D ≤ a then H[a]? = some (vp_cell (D.2.1 y.1) y.2) else ∃ cell : Cell, H[a]? = some cell ∧ D.2.2.1.isArrayOf cell (zTy y.1) ∧ cell.vm ≠ .unknown ∧ cell.slots.size = y.2.1 ∧ ∀ j : Nat, j < y.2.1 → cell.slots[j]? = some (zav y.2 j)
  | .inr o => if zB D ≤ a then va_at D.1 zCl (a, .inr o) H else ∃ r : vw_C, zCl[o.1]? = some r ∧ ∃ cell : Cell, H[a]? = some cell ∧ cell.cls = D.1.1 o.1 ∧ cell.vm.isStatics = false ∧ cell.vm ≠ .unknown ∧ ∀ k : Nat, k < r.2.2 → cell.slots[D.1.2 o.1 k]? = some (vp_V o.2 k)
def zH (D : zD) (M : zM) (H : Heap) : Prop := (∀ (a : Nat) (e : zV), M a = some e → zat D a e H) ∧ zB D ≤ H.size ∧ ∀ q : Nat, q < zB D → H[q]? = D.2.2.1.heap[q]?
def zS (D : zD) (M : zM) (H : Heap) (locs : List Loc) : Prop := zH D M H ∧ ∀ x ∈ locs, zB D ≤ x.base
theorem zat_kept {D : zD} {a : Nat} {e : zV} {H H1 : Heap} (h : zat D a e H) (hq : H1[a]? = H[a]?) : zat D a e H1 := by
  cases e with
  | inl y =>
    unfold zat at h ⊢
    dsimp only at h ⊢
    split
    next c => rw [if_pos c] at h; rw [hq]; exact h
    next c =>
      rw [if_neg c] at h
      obtain ⟨cell, h1, h2⟩ := h
      exact ⟨cell, by rw [hq]; exact h1, h2⟩
  | inr o =>
    unfold zat at h ⊢
    dsimp only at h ⊢
    split
    next c => rw [if_pos c] at h; exact h.kept hq
    next c =>
      rw [if_neg c] at h
      obtain ⟨r, h0, cell, h1, h2⟩ := h
      exact ⟨r, h0, cell, by rw [hq]; exact h1, h2⟩
theorem zat_lt {D : zD} {a : Nat} {e : zV} {H : Heap} (h : zat D a e H) : a < H.size := by
  cases e with
  | inl y =>
    unfold zat at h
    dsimp only at h
    split at h
    · exact (Array.getElem?_eq_some_iff.mp h).1
    · obtain ⟨cell, h1, h2⟩ := h
      exact (Array.getElem?_eq_some_iff.mp h1).1
  | inr o =>
    unfold zat at h
    dsimp only at h
    split at h
    · exact h.lt
    · obtain ⟨r, h0, cell, h1, h2⟩ := h
      exact (Array.getElem?_eq_some_iff.mp h1).1
theorem zH_fresh {D : zD} {M : zM} {H : Heap} (h : zH D M H) : M H.size = none := by
  cases hm : M H.size with
  | none => rfl
  | some e => exact absurd (zat_lt (h.1 _ _ hm)) (Nat.lt_irrefl _)
/-- a written cell -/
theorem zS_put {D : zD} {M : zM} {H H1 : Heap} {locs : List Loc} {a k : Nat} {e : zV} (h : zS D M H locs) (hb : zB D ≤ a) (he : zat D a e H1) (z : H1.size = H.size) (oq : ∀ q : Nat, q ≠ a → H1[q]? = H[q]?) : zS D (zu M a (some e)) H1 (locs ++ [⟨a, k⟩]) := by
  refine ⟨⟨fun b f hf => ?_, by rw [z]; exact h.1.2.1, fun q hq => ?_⟩, fun x hx => ?_⟩
  · by_cases hba : b = a
    · subst hba
      rw [zu_s] at hf
      cases hf
      exact he
    · rw [zu_n hba] at hf
      exact zat_kept (h.1.1 b f hf) (oq b hba)
  · rw [oq q (by omega)]
    exact h.1.2.2 q hq
  · rcases List.mem_append.mp hx with hx | hx
    · exact h.2 x hx
    · rw [List.mem_singleton.mp hx]
      exact hb
/-- a new cell -/
theorem zS_new {D : zD} {M : zM} {H H1 : Heap} {locs : List Loc} {e : zV} (h : zS D M H locs) (he : zat D H.size e H1) (z : H.size < H1.size) (oq : ∀ q : Nat, q < H.size → H1[q]? = H[q]?) : zS D (zu M H.size (some e)) H1 locs := by
  refine ⟨⟨fun b f hf => ?_, by have := h.1.2.1; omega, fun q hq => ?_⟩, h.2⟩
  · by_cases hba : b = H.size
    · subst hba
      rw [zu_s] at hf
      cases hf
      exact he
    · rw [zu_n hba] at hf
      exact zat_kept (h.1.1 b f hf) (oq b (zat_lt (h.1.1 b f hf)))
  · rw [oq q (by have := h.1.2.1; omega)]
    exact h.1.2.2 q hq
theorem zat_arr {D : zD} {a : Nat} {y : Nat × vp_A} {H : Heap} (hb : zB D ≤ a) : zat D a (.inl y) H ↔ H[a]? = some (vp_cell (D.2.1 y.1) y.2) := by
  unfold zat
  simp only [hb, if_true]
theorem zat_obj {D : zD} {a : Nat} {o : Nat × List Value} {H : Heap} (hb : zB D ≤ a) : zat D a (.inr o) H ↔ va_at D.1 zCl (a, .inr o) H := by
  unfold zat
  simp only [hb, if_true]
/-- an object's cell, as reads need it -/
theorem zat_o {D : zD} {a : Nat} {o : Nat × List Value} {H : Heap} (h : zat D a (.inr o) H) : ∃ r : vw_C, zCl[o.1]? = some r ∧ ∃ cell : Cell, H[a]? = some cell ∧ cell.cls = D.1.1 o.1 ∧ cell.vm.isStatics = false ∧ cell.vm ≠ .unknown ∧ ∀ k : Nat, k < r.2.2 → cell.slots[D.1.2 o.1 k]? = some (vp_V o.2 k) := by
  by_cases hb : zB D ≤ a
  · rw [zat_obj hb] at h
    obtain ⟨r, h1, cell, q1, q2, q3, q4⟩ := h
    exact ⟨r, h1, cell, q1, q2, by rw [q3]; rfl, by rw [q3]; exact (fun h => by cases h), q4⟩
  · unfold zat at h
    dsimp only at h
    rw [if_neg hb] at h
    exact h
/-- the tables' words that don't ride in the lists -/
def zNw : Cond → Bool
  | .fieldLinkNest _ _ _ _ _ _ => true
  | .methodLinkNest _ _ _ _ => true
  | .castable _ _ => true
  | .declares _ => true
  | _ => false
theorem zNw_warm {w : Cond} (hz : zNw w = true) {s U : State} (hW : s.WarmedH U.vm) (h : va_Nw w s) : va_Nw w U := by
  cases w <;> first | exact (Bool.false_ne_true hz).elim | exact va_Nw.warmF hW h | exact va_Nw.warmM hW h | exact va_Nw.warmC hW h | exact va_Nw.warmD hW h
theorem zNw_on {w : Cond} (hz : zNw w = true) : w.onTables = true := by
  cases w <;> first | exact (Bool.false_ne_true hz).elim | rfl
def zAOs : List String := ["java/lang/Object", "PluralBranches$Language", "PluralBranches$Decimal", "PluralBranches$Message", "PluralBranches$Thing", "PluralBranches$Row"]
/-- interface calls: the receiver's class, the method named, the method that runs -/
def zFs : List (String × MethodName × MethodName) := [("java/util/ArrayList$Itr", ⟨"java/util/Iterator", "hasNext", "()Z"⟩, ⟨"java/util/ArrayList$Itr", "hasNext", "()Z"⟩), ("java/util/ArrayList$Itr", ⟨"java/util/Iterator", "next", "()Ljava/lang/Object;"⟩, ⟨"java/util/ArrayList$Itr", "next", "()Ljava/lang/Object;"⟩), ("PluralBranches$Gendered", ⟨"PluralBranches$Thing", "type", "()I"⟩, ⟨"PluralBranches$Gendered", "type", "()I"⟩), ("PluralBranches$Listed", ⟨"PluralBranches$Thing", "type", "()I"⟩, ⟨"PluralBranches$Listed", "type", "()I"⟩), ("PluralBranches$Numbered", ⟨"PluralBranches$Thing", "type", "()I"⟩, ⟨"PluralBranches$Numbered", "type", "()I"⟩), ("PluralBranches$Gendered", ⟨"PluralBranches$Thing", "held", "(I)J"⟩, ⟨"PluralBranches$Gendered", "held", "(I)J"⟩), ("PluralBranches$Listed", ⟨"PluralBranches$Thing", "held", "(I)J"⟩, ⟨"PluralBranches$Listed", "held", "(I)J"⟩), ("PluralBranches$Numbered", ⟨"PluralBranches$Thing", "held", "(I)J"⟩, ⟨"PluralBranches$Numbered", "held", "(I)J"⟩), ("PluralBranches$Numbered", ⟨"PluralBranches$Thing", "decimal", "(I)LPluralBranches$Decimal;"⟩, ⟨"PluralBranches$Numbered", "decimal", "(I)LPluralBranches$Decimal;"⟩), ("PluralBranches$Gendered", ⟨"PluralBranches$Thing", "write", "(LPluralBranches$Sheet;)V"⟩, ⟨"PluralBranches$Gendered", "write", "(LPluralBranches$Sheet;)V"⟩), ("PluralBranches$Listed", ⟨"PluralBranches$Thing", "write", "(LPluralBranches$Sheet;)V"⟩, ⟨"PluralBranches$Listed", "write", "(LPluralBranches$Sheet;)V"⟩), ("PluralBranches$Numbered", ⟨"PluralBranches$Thing", "write", "(LPluralBranches$Sheet;)V"⟩, ⟨"PluralBranches$Numbered", "write", "(LPluralBranches$Sheet;)V"⟩)]
/-- classes' names of which an object of the first is no object of the second -/
def zNs : List (String × String) := [("PluralBranches$Numbered", "PluralBranches$Listed"), ("PluralBranches$Gendered", "PluralBranches$Listed"), ("PluralBranches$Numbered", "PluralBranches$Gendered"), ("PluralBranches$Listed", "PluralBranches$Gendered"), ("PluralBranches$Bent", "PluralBranches$Plural"), ("[F", "[D"), ("[F", "[J"), ("[D", "[F"), ("[D", "[J"), ("[J", "[F"), ("[J", "[D")]
/-- String constants: class, entry, text; D.2.2.2 (10 + i) is the i-th one's address -/
def zStr : List (String × Nat × String) := [("PluralBranches", 74, " e "), ("PluralBranches", 79, " i "), ("PluralBranches", 82, " un "), ("PluralBranches$Reader", 195, "zotfmx"), ("PluralBranches$Reader", 197, "mfnx"), ("java/lang/Math", 116, "long overflow"), ("java/lang/Math", 111, "integer overflow"), ("PluralBranches$Gendered", 15, "mfn"), ("PluralBranches$Bare", 7, ","), ("PluralBranches$Language", 60, ", "), ("PluralBranches$Language", 62, " wa "), ("PluralBranches$Stopped", 7, " and "), ("PluralBranches$Stopped", 13, ", and "), ("PluralBranchesModel", 360, " e "), ("PluralBranchesModel", 362, " i "), ("PluralBranchesModel", 364, " un "), ("PluralBranchesModel", 366, " wa "), ("PluralBranchesModel", 368, ","), ("PluralBranchesModel", 370, " and "), ("PluralBranchesModel", 376, ", "), ("PluralBranchesModel", 378, ", and ")]
abbrev zA (D : zD) : Nat → Prop := fun q => zB D ≤ q
/-- Thing.decimal, the interface's own -/
def zTd : MethodName := ⟨"PluralBranches$Thing", "decimal", "(I)LPluralBranches$Decimal;"⟩
def zDf (U : State) : Prop := ∀ C ∈ (["PluralBranches$Gendered", "PluralBranches$Listed"] : List String), va_Fw C zTd zTd U ∧ (Cond.landsInDefault C zTd zTd).before #[] U = true
theorem zDf.moved {u U : State} (hA : u.vm.Alike U.vm) (h : zDf u) : zDf U := by
  intro C hC
  obtain ⟨h1, h2⟩ := h C hC
  refine ⟨va_Fw.moved (by decide) hA h1, ?_⟩
  have h3 : (Cond.landsInDefault C zTd zTd).before #[] (u.setVm U.vm) = true := (Cond.landsInDefault_setVm hA (State.methodFound?_setVm hA _ _ _)).trans h2
  have e : (Cond.landsInDefault C zTd zTd).before #[] U = (Cond.landsInDefault C zTd zTd).before #[] (u.setVm U.vm) := rfl
  rw [e]
  exact h3
/-- Language.holds is private: it's what runs on an object of a subclass too -/
def zHl : MethodName := ⟨"PluralBranches$Language", "holds", "(LPluralBranches$Decimal;II)Z"⟩
def zLg : List String := ["PluralBranches$Linked", "PluralBranches$Everywhere", "PluralBranches$Bare", "PluralBranches$Stopped"]
def zHo (U : State) : Prop := ∀ C ∈ zLg, (Cond.selects C zHl zHl).before #[] U = true
theorem zHo.moved {s U : State} (hW : s.WarmedH U.vm) (h : zHo s) : zHo U := fun C hC => word_at hW (good_of_word (w := Cond.selects C zHl zHl) rfl) (h C hC)
/-- what the tables say all through the run -/
def zK (D : zD) (U : State) : Prop :=
  va_K D.1 zCl (zTys D) U ∧ (∀ w ∈ lw_tbl, zNw w = true → va_Nw w U) ∧ (∀ C ∈ zAOs, va_AO C U) ∧ (∀ q ∈ zFs, va_Fw q.1 q.2.1 q.2.2 U) ∧ (∀ q ∈ zNs, va_Nc q.1 q.2 U) ∧
  (va_Z "PluralBranches" "TOLD" "[I" (.ref (D.2.2.2 0)) (zA D) U D.2.2.1.heap ∧ va_Z "java/util/ArrayList" "DEFAULTCAPACITY_EMPTY_ELEMENTDATA" "[Ljava/lang/Object;" (.ref (D.2.2.2 1)) (zA D) U D.2.2.1.heap ∧ va_Z "java/lang/String" "COMPACT_STRINGS" "Z" (.int 1) (zA D) U D.2.2.1.heap) ∧
  (va_Zq "jdk/internal/util/Preconditions" "SIOOBE_FORMATTER" "Ljava/util/function/BiFunction;" (zA D) U D.2.2.1.heap ∧ vx_Zq Bundle.tN "UNASSIGNED_STACK" Bundle.steD (zA D) U D.2.2.1.heap ∧ vx_Zq Bundle.tN "SUPPRESSED_SENTINEL" Bundle.listD (zA D) U D.2.2.1.heap) ∧
  (∀ (i : Nat) (q : String × Nat × String), zStr[i]? = some q → vk_R q.1 q.2.1 q.2.2 (D.2.2.2 (10 + i)) U) ∧ (va_Dc U ∧ va_Mi "[Ljava/lang/Object;" (D.2.2.2 2) U ∧ zDf U ∧ zHo U) ∧ D.2.2.1.vm.Alike U.vm
theorem zFs_ok : ∀ q ∈ zFs, q.2.1.cls ≠ "java/lang/invoke/MethodHandle" ∧ q.2.1.cls ≠ "java/lang/invoke/VarHandle" := by decide
theorem zK_warm {D : zD} {s U : State} (hW : s.WarmedH U.vm) (h : zK D s) : zK D U := by
  obtain ⟨h1, h2, h3, h4, h5, ⟨a1, a2, a3⟩, ⟨b1, b2, b3⟩, h8, ⟨c1, c2, c3, c4⟩, h9⟩ := h
  have hA := hW.alike
  exact ⟨va_K.moved hA h1, fun w hw hz => zNw_warm hz hW (h2 w hw hz), fun C hC => va_AO.moved hA (h3 C hC), fun q hq => va_Fw.moved (zFs_ok q hq) hA (h4 q hq), fun q hq => va_Nc.moved hA (h5 q hq),
    ⟨va_Z.moved hA a1, va_Z.moved hA a2, va_Z.moved hA a3⟩, ⟨va_Zq.moved hA b1, vx_Zq.moved hA b2, vx_Zq.moved hA b3⟩, fun i q hq => vk_R.warm hW (h8 i q hq), ⟨va_Dc.moved hA c1, va_Mi.moved hA c2, zDf.moved hA c3, zHo.moved hW c4⟩, h9.trans hA⟩
theorem zK_same {D : zD} {s U : State} (hv : U.vm = s.vm) (h : zK D s) : zK D U := by
  obtain ⟨h1, h2, h3, h4, h5, ⟨a1, a2, a3⟩, ⟨b1, b2, b3⟩, h8, ⟨c1, c2, c3, c4⟩, h9⟩ := h
  have hA : s.vm.Alike U.vm := by rw [hv]; exact Vm.Alike.refl _
  exact ⟨va_K.moved hA h1, fun w hw hz => va_Nw.same (zNw_on hz) hv.symm (h2 w hw hz), fun C hC => va_AO.moved hA (h3 C hC), fun q hq => va_Fw.moved (zFs_ok q hq) hA (h4 q hq), fun q hq => va_Nc.moved hA (h5 q hq),
    ⟨va_Z.moved hA a1, va_Z.moved hA a2, va_Z.moved hA a3⟩, ⟨va_Zq.moved hA b1, vx_Zq.moved hA b2, vx_Zq.moved hA b3⟩, fun i q hq => vk_R.same hv (h8 i q hq), ⟨va_Dc.moved hA c1, va_Mi.moved hA c2, zDf.moved hA c3, zHo.moved (by rw [hv]; exact State.WarmedH.refl s) c4⟩, h9.trans hA⟩
/-- class number ci: its name, its fields, their types -/
def zCls (ci : Nat) (C : String) (T : u_T) (N : Nat) (ty : Nat → FieldType) : Prop := zCl[ci]? = some (C, T, N) ∧ (∀ w ∈ u_ws C T N, w ∈ lw_all) ∧ (∀ k, k < N → parseFieldDescriptor (T k).2.2.1 = some (ty k)) ∧ ∀ a, a < N → ∀ b, b < N → a ≠ b → (T a).2.1 ≠ (T b).2.1
theorem zc0 : zCls 0 RX0 TX0 8 tyX0 := ⟨rfl, in_X0, tyX0_ok, nmX0⟩
theorem zc1 : zCls 1 RX1 TX1 6 tyX1 := ⟨rfl, in_X1, tyX1_ok, nmX1⟩
theorem zc2 : zCls 2 RX3 TX3 3 tyX3 := ⟨rfl, in_X3, tyX3_ok, nmX3⟩
theorem zc3 : zCls 3 RX4 TX4 7 tyX4 := ⟨rfl, in_X4, tyX4_ok, nmX4⟩
theorem zc4 : zCls 4 RX5 TX5 2 tyX5 := ⟨rfl, in_X5, tyX5_ok, nmX5⟩
theorem zc5 : zCls 5 RX6 TX6 2 tyX6 := ⟨rfl, in_X6, tyX6_ok, nmX6⟩
theorem zc6 : zCls 6 RX7 TX7 2 tyX7 := ⟨rfl, in_X7, tyX7_ok, nmX7⟩
theorem zc7 : zCls 7 RX8 TX8 1 tyX8 := ⟨rfl, in_X8, tyX8_ok, nmX8⟩
theorem zc8 : zCls 8 RX9 TX9 56 tyX9 := ⟨rfl, in_X9, tyX9_ok, nmX9⟩
theorem zc9 : zCls 9 RX10 TX10 6 tyX10 := ⟨rfl, in_X10, tyX10_ok, nmX10⟩
theorem zc10 : zCls 10 RX11 TX11 5 tyX11 := ⟨rfl, in_X11, tyX11_ok, nmX11⟩
theorem zc11 : zCls 11 RX12 TX12 1 tyX12 := ⟨rfl, in_X12, tyX12_ok, nmX12⟩
theorem zc12 : zCls 12 RX14 zTN 0 (fun _ => .int) := ⟨rfl, (fun w h => by cases h), (fun k h => absurd h (Nat.not_lt_zero k)), (fun a h => absurd h (Nat.not_lt_zero a))⟩
theorem zc13 : zCls 13 RX15 TX15 7 tyX15 := ⟨rfl, in_X15, tyX15_ok, nmX15⟩
theorem zc14 : zCls 14 RX16 TX16 1 tyX16 := ⟨rfl, in_X16, tyX16_ok, nmX16⟩
theorem zc15 : zCls 15 RX17 TX17 1 tyX17 := ⟨rfl, in_X17, tyX17_ok, nmX17⟩
theorem zc16 : zCls 16 RX18 TX18 2 tyX18 := ⟨rfl, in_X18, tyX18_ok, nmX18⟩
theorem zc17 : zCls 17 RX19 TX19 4 tyX19 := ⟨rfl, in_X19, tyX19_ok, nmX19⟩
theorem zc18 : zCls 18 RX21 TX21 3 tyX21 := ⟨rfl, in_X21, tyX21_ok, nmX21⟩
theorem zc19 : zCls 19 RX22 TX22 3 tyX22 := ⟨rfl, in_X22, tyX22_ok, nmX22⟩
theorem zc20 : zCls 20 RX23 TX23 2 tyX23 := ⟨rfl, in_X23, tyX23_ok, nmX23⟩
theorem zc21 : zCls 21 RX24 TX24 1 tyX24 := ⟨rfl, in_X24, tyX24_ok, nmX24⟩
theorem zc22 : zCls 22 RX25 TX25 1 tyX25 := ⟨rfl, in_X25, tyX25_ok, nmX25⟩
theorem zc23 : zCls 23 RX26 TX26 1 tyX26 := ⟨rfl, in_X26, tyX26_ok, nmX26⟩
theorem zc24 : zCls 24 RX27 TX27 1 tyX27 := ⟨rfl, in_X27, tyX27_ok, nmX27⟩
theorem zc25 : zCls 25 RX28 TX28 5 tyX28 := ⟨rfl, in_X28, tyX28_ok, nmX28⟩
theorem zc26 : zCls 26 RJ3 TJ3 3 tyJ3 := ⟨rfl, in_J3, tyJ3_ok, nmJ3⟩
theorem zc27 : zCls 27 RJ15 TJ15 4 tyJ15 := ⟨rfl, in_J15, tyJ15_ok, nmJ15⟩
theorem zc28 : zCls 28 RJ16 zTN 0 (fun _ => .int) := ⟨rfl, (fun w h => by cases h), (fun k h => absurd h (Nat.not_lt_zero k)), (fun a h => absurd h (Nat.not_lt_zero a))⟩
theorem zc29 : zCls 29 RJ17 zTN 0 (fun _ => .int) := ⟨rfl, (fun w h => by cases h), (fun k h => absurd h (Nat.not_lt_zero k)), (fun a h => absurd h (Nat.not_lt_zero a))⟩
theorem zc30 : zCls 30 RJ11 TJ11 2 tyJ11 := ⟨rfl, in_J11, tyJ11_ok, nmJ11⟩
