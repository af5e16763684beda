set_option maxRecDepth 100000
theorem dd_X9_branchOf : yX9_branchOf.cls ≠ "java/lang/invoke/MethodHandle" ∧ yX9_branchOf.cls ≠ "java/lang/invoke/VarHandle" ∧ (parseMethodDescriptor yX9_branchOf.desc).map (fun d => d.parameters.length) = some 5 := by decide +kernel
theorem dd_X9_branchWith : yX9_branchWith.cls ≠ "java/lang/invoke/MethodHandle" ∧ yX9_branchWith.cls ≠ "java/lang/invoke/VarHandle" ∧ (parseMethodDescriptor yX9_branchWith.desc).map (fun d => d.parameters.length) = some 3 := by decide +kernel
theorem dd_X9_categoryOf : yX9_categoryOf.cls ≠ "java/lang/invoke/MethodHandle" ∧ yX9_categoryOf.cls ≠ "java/lang/invoke/VarHandle" ∧ (parseMethodDescriptor yX9_categoryOf.desc).map (fun d => d.parameters.length) = some 3 := by decide +kernel
theorem dd_X9_holds : yX9_holds.cls ≠ "java/lang/invoke/MethodHandle" ∧ yX9_holds.cls ≠ "java/lang/invoke/VarHandle" ∧ (parseMethodDescriptor yX9_holds.desc).map (fun d => d.parameters.length) = some 4 := by decide +kernel
theorem dd_X9_holdsNow : yX9_holdsNow.cls ≠ "java/lang/invoke/MethodHandle" ∧ yX9_holdsNow.cls ≠ "java/lang/invoke/VarHandle" ∧ (parseMethodDescriptor yX9_holdsNow.desc).map (fun d => d.parameters.length) = some 4 := by decide +kernel
theorem dd_X9_in : yX9_in.cls ≠ "java/lang/invoke/MethodHandle" ∧ yX9_in.cls ≠ "java/lang/invoke/VarHandle" ∧ (parseMethodDescriptor yX9_in.desc).map (fun d => d.parameters.length) = some 3 := by decide +kernel
theorem dd_X9_isArgument : yX9_isArgument.cls ≠ "java/lang/invoke/MethodHandle" ∧ yX9_isArgument.cls ≠ "java/lang/invoke/VarHandle" ∧ (parseMethodDescriptor yX9_isArgument.desc).map (fun d => d.parameters.length) = some 1 := by decide +kernel
theorem dd_X9_isChoice : yX9_isChoice.cls ≠ "java/lang/invoke/MethodHandle" ∧ yX9_isChoice.cls ≠ "java/lang/invoke/VarHandle" ∧ (parseMethodDescriptor yX9_isChoice.desc).map (fun d => d.parameters.length) = some 2 := by decide +kernel
theorem dd_X9_isInt : yX9_isInt.cls ≠ "java/lang/invoke/MethodHandle" ∧ yX9_isInt.cls ≠ "java/lang/invoke/VarHandle" ∧ (parseMethodDescriptor yX9_isInt.desc).map (fun d => d.parameters.length) = some 1 := by decide +kernel
theorem dd_X9_isLanguage : yX9_isLanguage.cls ≠ "java/lang/invoke/MethodHandle" ∧ yX9_isLanguage.cls ≠ "java/lang/invoke/VarHandle" ∧ (parseMethodDescriptor yX9_isLanguage.desc).map (fun d => d.parameters.length) = some 1 := by decide +kernel
theorem dd_X9_isRow : yX9_isRow.cls ≠ "java/lang/invoke/MethodHandle" ∧ yX9_isRow.cls ≠ "java/lang/invoke/VarHandle" ∧ (parseMethodDescriptor yX9_isRow.desc).map (fun d => d.parameters.length) = some 1 := by decide +kernel
theorem dd_X9_isSlot : yX9_isSlot.cls ≠ "java/lang/invoke/MethodHandle" ∧ yX9_isSlot.cls ≠ "java/lang/invoke/VarHandle" ∧ (parseMethodDescriptor yX9_isSlot.desc).map (fun d => d.parameters.length) = some 1 := by decide +kernel
theorem dd_X9_isThere : yX9_isThere.cls ≠ "java/lang/invoke/MethodHandle" ∧ yX9_isThere.cls ≠ "java/lang/invoke/VarHandle" ∧ (parseMethodDescriptor yX9_isThere.desc).map (fun d => d.parameters.length) = some 2 := by decide +kernel
theorem dd_X9_keyAt : yX9_keyAt.cls ≠ "java/lang/invoke/MethodHandle" ∧ yX9_keyAt.cls ≠ "java/lang/invoke/VarHandle" ∧ (parseMethodDescriptor yX9_keyAt.desc).map (fun d => d.parameters.length) = some 3 := by decide +kernel
theorem dd_X9_lacksOf : yX9_lacksOf.cls ≠ "java/lang/invoke/MethodHandle" ∧ yX9_lacksOf.cls ≠ "java/lang/invoke/VarHandle" ∧ (parseMethodDescriptor yX9_lacksOf.desc).map (fun d => d.parameters.length) = some 3 := by decide +kernel
theorem dd_X9_operandOf : yX9_operandOf.cls ≠ "java/lang/invoke/MethodHandle" ∧ yX9_operandOf.cls ≠ "java/lang/invoke/VarHandle" ∧ (parseMethodDescriptor yX9_operandOf.desc).map (fun d => d.parameters.length) = some 3 := by decide +kernel
theorem dd_X9_ownHolds : yX9_ownHolds.cls ≠ "java/lang/invoke/MethodHandle" ∧ yX9_ownHolds.cls ≠ "java/lang/invoke/VarHandle" ∧ (parseMethodDescriptor yX9_ownHolds.desc).map (fun d => d.parameters.length) = some 3 := by decide +kernel
theorem dd_X9_tens : yX9_tens.cls ≠ "java/lang/invoke/MethodHandle" ∧ yX9_tens.cls ≠ "java/lang/invoke/VarHandle" ∧ (parseMethodDescriptor yX9_tens.desc).map (fun d => d.parameters.length) = some 1 := by decide +kernel
theorem dd_X9_usedBy : yX9_usedBy.cls ≠ "java/lang/invoke/MethodHandle" ∧ yX9_usedBy.cls ≠ "java/lang/invoke/VarHandle" ∧ (parseMethodDescriptor yX9_usedBy.desc).map (fun d => d.parameters.length) = some 1 := by decide +kernel
abbrev rm_X9_in : Room := { frames := 1, cells := 0, slots := 0, locals := 64 }
def wp_X9_in_L18 (D : zD) (post : Int32 → zM → Prop) (y0 : Int32) (M : zM) : Prop :=
    (narrow .boolean (.int y0) = .int y0 ∧ post y0 M)
set_option maxHeartbeats 4000000 in
set_option maxRecDepth 100000 in
theorem wk_X9_in_L18 {p : Program} {l : Launch} {e : Env} {s : State} {m : MethodId} {args : Array Value} {below : List Frame} {meth : Method} {c : Code} {D : zD} {post : Int32 → zM → Prop} (hG : zGx p l s m args meth c cX9_in 6 "PluralBranchesModel" D (some .boolean) "in" []) : ∀ {H : Heap} {locs : List Loc} {cells slots : Nat} {ls : Array Slot} (y0 : Int32) (M : zM), cells ≤ 0 → slots ≤ 0 → zS D M H locs → lv_has ls 6 [] → wp_X9_in_L18 D post y0 M → W p l e rm_X9_in s m args below meth c H locs cells slots (vx_MQ below (zQ D zI post) (zX D (fun _ _ => False)) args s 0 0 (zA D)) (F0 m 18 ls [.int y0]) := by
  have hC := hG.1
  have hx := hC.x
  have hb := hC.b
  have hown := hC.o
  have hts := hC.ts
  have hlt := hG.2.2.2.2.2
  intro H locs cells slots ls y0 M hk hn hZ hl hw
  exact z_zret hG hZ hk hn hw.1 hw.2 dX9_in_18
def wp_X9_in_L17 (D : zD) (post : Int32 → zM → Prop) (M : zM) : Prop :=
    wp_X9_in_L18 D post (0 : Int32) M
set_option maxHeartbeats 4000000 in
set_option maxRecDepth 100000 in
theorem wk_X9_in_L17 {p : Program} {l : Launch} {e : Env} {s : State} {m : MethodId} {args : Array Value} {below : List Frame} {meth : Method} {c : Code} {D : zD} {post : Int32 → zM → Prop} (hG : zGx p l s m args meth c cX9_in 6 "PluralBranchesModel" D (some .boolean) "in" []) : ∀ {H : Heap} {locs : List Loc} {cells slots : Nat} {ls : Array Slot} (M : zM), cells ≤ 0 → slots ≤ 0 → zS D M H locs → lv_has ls 6 [] → wp_X9_in_L17 D post M → W p l e rm_X9_in s m args below meth c H locs cells slots (vx_MQ below (zQ D zI post) (zX D (fun _ _ => False)) args s 0 0 (zA D)) (F0 m 17 ls []) := by
  have hC := hG.1
  have hx := hC.x
  have hb := hC.b
  have hown := hC.o
  have hts := hC.ts
  have hlt := hG.2.2.2.2.2
  intro H locs cells slots ls M hk hn hZ hl hw
  refine lv_iconst (v := 0) hx hb dX9_in_17 (by decide) ?_
  exact wk_X9_in_L18 hG _ _ hk hn hZ (lv_sub hl [] rfl) hw
def wp_X9_in (D : zD) (post : Int32 → zM → Prop) (a0 : Int64) (a1 : Int64) (a2 : Int64) (M : zM) : Prop :=
    (((lg_cmp a0 a1) < 0 → wp_X9_in_L17 D post M) ∧ (¬ (lg_cmp a0 a1) < 0 → ((0 < (lg_cmp a0 a2) → wp_X9_in_L17 D post M) ∧ (¬ 0 < (lg_cmp a0 a2) → wp_X9_in_L18 D post (1 : Int32) M))))
set_option maxHeartbeats 4000000 in
set_option maxRecDepth 100000 in
theorem w_X9_in {l : Launch} {D : zD} {post : Int32 → zM → Prop} (hlt : l.stackTraces = false) {a0 : Int64} {a1 : Int64} {a2 : Int64} {M : zM} (hw : wp_X9_in D post a0 a1 a2 M) : zMet l D yX9_in (ws_ yX9_in cX9_in 6 (some .boolean)) rm_X9_in 0 0 [.long a0, .long a1, .long a2] M zI post (fun _ _ => False) := by
  unfold wp_X9_in at hw
  have hlv : lv_args 0 [.long a0, .long a1, .long a2] = [(0, .long a0), (2, .long a1), (4, .long a2)] := (zargs2 rfl (zargs2 rfl (zargs2 rfl rfl)))
  refine z_ofW hlt (by decide) (Nat.le_trans (zsl2 rfl (zsl2 rfl (zsl2 rfl (Nat.le_refl 0 : (lg_sl []).length ≤ 0)))) (Nat.le_of_ble_eq_true rfl)) hlv ?_
  intro p e s m args below meth c ls hG hZ hl
  have hC := hG.1
  have hx := hC.x
  have hb := hC.b
  have hown := hC.o
  have hts := hC.ts
  have hlt := hG.2.2.2.2.2
  obtain ⟨cells, hce⟩ : ∃ z : Nat, z = 0 := ⟨0, rfl⟩
  obtain ⟨slots, hsl⟩ : ∃ z : Nat, z = 0 := ⟨0, rfl⟩
  refine W.cs (cells' := cells) (slots' := slots) hce.symm hsl.symm ?_
  have hk : cells ≤ 0 := Nat.le_of_eq hce
  have hn : slots ≤ 0 := Nat.le_of_eq hsl
  clear hce hsl
  refine lv_lload_n hx hb dX9_in_0 rfl (lv_at hl 0 rfl) ?_
  refine lv_lload_n hx hb dX9_in_1 rfl (lv_at hl 1 rfl) ?_
  refine W.lcmp hx hb dX9_in_2 ?_
  refine lv_if_lt (tgt := 17) hx hb dX9_in_3 (by decide) (fun c4 => ?_) (fun c4 => ?_)
  · replace hw := hw.1 c4
    exact wk_X9_in_L17 hG _ hk hn hZ (lv_sub hl [] rfl) hw
  · replace hw := hw.2 c4
    refine lv_lload_n hx hb dX9_in_6 rfl (lv_at hl 0 rfl) ?_
    refine lv_lload hx hb dX9_in_7 (lv_at hl 2 rfl) ?_
    refine W.lcmp hx hb dX9_in_9 ?_
    refine lv_if_gt (tgt := 17) hx hb dX9_in_10 (by decide) (fun c3 => ?_) (fun c3 => ?_)
    · replace hw := hw.1 c3
      exact wk_X9_in_L17 hG _ hk hn hZ (lv_sub hl [] rfl) hw
    · replace hw := hw.2 c3
      refine lv_iconst (v := 1) hx hb dX9_in_13 (by decide) ?_
      refine lv_goto (tgt := 18) hx hb dX9_in_14 (by decide) ?_
      exact wk_X9_in_L18 hG _ _ hk hn hZ (lv_sub hl [] rfl) hw
abbrev rm_X9_isArgument : Room := { frames := 2, cells := 0, slots := 0, locals := 89 }
def wp_X9_isArgument (D : zD) (post : Int32 → zM → Prop) (a0 : Int32) (M : zM) : Prop :=
    (wp_X9_in D (fun r1 M => (narrow .boolean (.int r1) = .int r1 ∧ post r1 M)) (a0.toInt64) (0 : Int64) (4 : Int64) M)
set_option maxHeartbeats 4000000 in
set_option maxRecDepth 100000 in
theorem w_X9_isArgument {l : Launch} {D : zD} {post : Int32 → zM → Prop} (hlt : l.stackTraces = false) {a0 : Int32} {M : zM} (hw : wp_X9_isArgument D post a0 M) : zMet l D yX9_isArgument (ws_ yX9_isArgument cX9_isArgument 1 (some .boolean)) rm_X9_isArgument 0 0 [.int a0] M zI post (fun _ _ => False) := by
  unfold wp_X9_isArgument at hw
  have hlv : lv_args 0 [.int a0] = [(0, .int a0)] := (zargs1 rfl rfl)
  refine z_ofW hlt (by decide) (Nat.le_trans (zsl1 rfl (Nat.le_refl 0 : (lg_sl []).length ≤ 0)) (Nat.le_of_ble_eq_true rfl)) hlv ?_
  intro p e s m args below meth c ls hG hZ hl
  have hC := hG.1
  have hx := hC.x
  have hb := hC.b
  have hown := hC.o
  have hts := hC.ts
  have hlt := hG.2.2.2.2.2
  obtain ⟨cells, hce⟩ : ∃ z : Nat, z = 0 := ⟨0, rfl⟩
  obtain ⟨slots, hsl⟩ : ∃ z : Nat, z = 0 := ⟨0, rfl⟩
  refine W.cs (cells' := cells) (slots' := slots) hce.symm hsl.symm ?_
  have hk : cells ≤ 0 := Nat.le_of_eq hce
  have hn : slots ≤ 0 := Nat.le_of_eq hsl
  clear hce hsl
  refine lv_iload_n hx hb dX9_isArgument_0 rfl (lv_at hl 0 rfl) ?_
  refine lv_i2l hx hb dX9_isArgument_1 rfl ?_
  refine lv_lconst (v := 0) hx hb dX9_isArgument_2 (by decide) ?_
  refine lv_ldc2 hx hb hown (hts _ q1897) dX9_isArgument_3 ?_
  refine z_callI hZ (vx_runS (As := [.long (a0.toInt64), .long (0 : Int64), .long (4 : Int64)]) (rest := []) hC.fix (w_X9_in hlt hw) (va_cwS 3 hts (lw_S q1894 q1895 q83 q1896) rfl rfl rfl dd_X9_in ⟨Nat.le_of_ble_eq_true rfl, Nat.le_of_ble_eq_true rfl⟩) (z_preS hC hZ) rfl rfl hl.1 rfl (lv_room (Nat.zero_le _)) dX9_isArgument_6 ⟨hk, hn⟩) (fun r4 M H locs hw1 hZ => ?_) (fun q M H locs ci fs E T9 N9 hw hZ hc1 hM1 hb1 => False.elim hw)
  replace hw := hw1
  clear hw1
  refine W.cs (cells' := cells) (slots' := slots) rfl rfl ?_
  exact z_zret hG hZ hk hn hw.1 hw.2 dX9_isArgument_9
abbrev rm_X9_tens : Room := { frames := 1, cells := 0, slots := 0, locals := 64 }
def wp_X9_tens_L4 (D : zD) (post : Int64 → zM → Prop) : Nat → Int32 → Int64 → Int32 → zM → Prop
  | 0 => fun _ _ _ _ => False
  | f + 1 => fun x0 x1 x3 M =>
    ((x0 ≤ x3 → post x1 M) ∧ (¬ x0 ≤ x3 → wp_X9_tens_L4 D post f x0 (x1 * (10 : Int64)) (x3 + 1) M))
set_option maxHeartbeats 4000000 in
set_option maxRecDepth 100000 in
theorem wk_X9_tens_L4 {p : Program} {l : Launch} {e : Env} {s : State} {m : MethodId} {args : Array Value} {below : List Frame} {meth : Method} {c : Code} {D : zD} {post : Int64 → zM → Prop} (hG : zGx p l s m args meth c cX9_tens 4 "PluralBranchesModel" D (some .long) "tens" []) : ∀ (f : Nat), ∀ {H : Heap} {locs : List Loc} {cells slots : Nat} {ls : Array Slot} (x0 : Int32) (x1 : Int64) (x3 : Int32) (M : zM), cells ≤ 0 → slots ≤ 0 → zS D M H locs → lv_has ls 4 [(0, .int x0), (1, .long x1), (3, .int x3)] → wp_X9_tens_L4 D post f x0 x1 x3 M → W p l e rm_X9_tens s m args below meth c H locs cells slots (vx_MQ below (zQ D zL post) (zX D (fun _ _ => False)) args s 0 0 (zA D)) (F0 m 4 ls []) := by
  have hC := hG.1
  have hx := hC.x
  have hb := hC.b
  have hown := hC.o
  have hts := hC.ts
  have hlt := hG.2.2.2.2.2
  intro f
  induction f with
  | zero =>
    intro H locs cells slots ls x0 x1 x3 M hk hn hZ hl hw
    exact absurd hw (fun h => h)
  | succ f ih =>
    intro H locs cells slots ls x0 x1 x3 M hk hn hZ hl hw
    refine lv_iload_n hx hb dX9_tens_4 rfl (lv_at hl 2 rfl) ?_
    refine lv_iload_n hx hb dX9_tens_5 rfl (lv_at hl 0 rfl) ?_
    refine lv_icmp_ge (tgt := 21) hx hb dX9_tens_6 (by decide) (fun c2 => ?_) (fun c2 => ?_)
    · replace hw := hw.1 c2
      refine lv_lload_n hx hb dX9_tens_21 rfl (lv_at hl 1 rfl) ?_
      exact z_lret hG hZ hk hn hw dX9_tens_22
    · replace hw := hw.2 c2
      refine lv_lload_n hx hb dX9_tens_9 rfl (lv_at hl 1 rfl) ?_
      refine lv_ldc2 hx hb hown (hts _ q1904) dX9_tens_10 ?_
      refine lv_lmul hx hb dX9_tens_13 ?_
      refine lv_lstore_n (i := 1) (lv' := [(1, .long (x1 * (10 : Int64))), (0, .int x0), (3, .int x3)]) hx hb dX9_tens_14 rfl hl (by decide) rfl (fun ls hl1 => ?_)
      replace hl := hl1
      clear hl1
      refine lv_iinc (v := (x3 + 1)) (lv' := [(3, .int (x3 + 1)), (1, .long (x1 * (10 : Int64))), (0, .int x0)]) hx hb dX9_tens_15 hl (k := 2) rfl rfl (by decide) rfl (fun ls hl1 => ?_)
      replace hl := hl1
      clear hl1
      refine lv_goto (tgt := 4) hx hb dX9_tens_18 (by decide) ?_
      exact ih _ _ _ _ hk hn hZ (lv_sub hl [2, 1, 0] rfl) hw
def wp_X9_tens (D : zD) (post : Int64 → zM → Prop) (a0 : Int32) (M : zM) : Prop :=
    (∃ f, wp_X9_tens_L4 D post f a0 (1 : Int64) (0 : Int32) M)
set_option maxHeartbeats 4000000 in
set_option maxRecDepth 100000 in
theorem w_X9_tens {l : Launch} {D : zD} {post : Int64 → zM → Prop} (hlt : l.stackTraces = false) {a0 : Int32} {M : zM} (hw : wp_X9_tens D post a0 M) : zMet l D yX9_tens (ws_ yX9_tens cX9_tens 4 (some .long)) rm_X9_tens 0 0 [.int a0] M zL post (fun _ _ => False) := by
  unfold wp_X9_tens at hw
  have hlv : lv_args 0 [.int a0] = [(0, .int a0)] := (zargs1 rfl rfl)
  refine z_ofW hlt (by decide) (Nat.le_trans (zsl1 rfl (Nat.le_refl 0 : (lg_sl []).length ≤ 0)) (Nat.le_of_ble_eq_true rfl)) hlv ?_
  intro p e s m args below meth c ls hG hZ hl
  have hC := hG.1
  have hx := hC.x
  have hb := hC.b
  have hown := hC.o
  have hts := hC.ts
  have hlt := hG.2.2.2.2.2
  obtain ⟨cells, hce⟩ : ∃ z : Nat, z = 0 := ⟨0, rfl⟩
  obtain ⟨slots, hsl⟩ : ∃ z : Nat, z = 0 := ⟨0, rfl⟩
  refine W.cs (cells' := cells) (slots' := slots) hce.symm hsl.symm ?_
  have hk : cells ≤ 0 := Nat.le_of_eq hce
  have hn : slots ≤ 0 := Nat.le_of_eq hsl
  clear hce hsl
  refine lv_lconst (v := 1) hx hb dX9_tens_0 (by decide) ?_
  refine lv_lstore_n (i := 1) (lv' := [(1, .long (1 : Int64)), (0, .int a0)]) hx hb dX9_tens_1 rfl hl (by decide) rfl (fun ls hl1 => ?_)
  replace hl := hl1
  clear hl1
  refine lv_iconst (v := 0) hx hb dX9_tens_2 (by decide) ?_
  refine lv_istore_n (i := 3) (lv' := [(3, .int (0 : Int32)), (1, .long (1 : Int64)), (0, .int a0)]) hx hb dX9_tens_3 rfl hl (by decide) rfl (fun ls hl1 => ?_)
  replace hl := hl1
  clear hl1
  obtain ⟨f1, hw⟩ := hw
  exact wk_X9_tens_L4 hG f1 _ _ _ _ hk hn hZ (lv_sub hl [2, 1, 0] rfl) hw
abbrev rm_X9_isInt : Room := { frames := 1, cells := 0, slots := 0, locals := 64 }
def wp_X9_isInt_L13 (D : zD) (post : Int32 → zM → Prop) (y0 : Int32) (M : zM) : Prop :=
    (narrow .boolean (.int y0) = .int y0 ∧ post y0 M)
set_option maxHeartbeats 4000000 in
set_option maxRecDepth 100000 in
theorem wk_X9_isInt_L13 {p : Program} {l : Launch} {e : Env} {s : State} {m : MethodId} {args : Array Value} {below : List Frame} {meth : Method} {c : Code} {D : zD} {post : Int32 → zM → Prop} (hG : zGx p l s m args meth c cX9_isInt 2 "PluralBranchesModel" D (some .boolean) "isInt" []) : ∀ {H : Heap} {locs : List Loc} {cells slots : Nat} {ls : Array Slot} (y0 : Int32) (M : zM), cells ≤ 0 → slots ≤ 0 → zS D M H locs → lv_has ls 2 [] → wp_X9_isInt_L13 D post y0 M → W p l e rm_X9_isInt s m args below meth c H locs cells slots (vx_MQ below (zQ D zI post) (zX D (fun _ _ => False)) args s 0 0 (zA D)) (F0 m 13 ls [.int y0]) := by
  have hC := hG.1
  have hx := hC.x
  have hb := hC.b
  have hown := hC.o
  have hts := hC.ts
  have hlt := hG.2.2.2.2.2
  intro H locs cells slots ls y0 M hk hn hZ hl hw
  exact z_zret hG hZ hk hn hw.1 hw.2 dX9_isInt_13
def wp_X9_isInt (D : zD) (post : Int32 → zM → Prop) (a0 : Int64) (M : zM) : Prop :=
    ((¬ (lg_cmp a0 ((a0.toInt32).toInt64)) = 0 → wp_X9_isInt_L13 D post (0 : Int32) M) ∧ ((lg_cmp a0 ((a0.toInt32).toInt64)) = 0 → wp_X9_isInt_L13 D post (1 : Int32) M))
set_option maxHeartbeats 4000000 in
set_option maxRecDepth 100000 in
theorem w_X9_isInt {l : Launch} {D : zD} {post : Int32 → zM → Prop} (hlt : l.stackTraces = false) {a0 : Int64} {M : zM} (hw : wp_X9_isInt D post a0 M) : zMet l D yX9_isInt (ws_ yX9_isInt cX9_isInt 2 (some .boolean)) rm_X9_isInt 0 0 [.long a0] M zI post (fun _ _ => False) := by
  unfold wp_X9_isInt at hw
  have hlv : lv_args 0 [.long a0] = [(0, .long a0)] := (zargs2 rfl rfl)
  refine z_ofW hlt (by decide) (Nat.le_trans (zsl2 rfl (Nat.le_refl 0 : (lg_sl []).length ≤ 0)) (Nat.le_of_ble_eq_true rfl)) hlv ?_
  intro p e s m args below meth c ls hG hZ hl
  have hC := hG.1
  have hx := hC.x
  have hb := hC.b
  have hown := hC.o
  have hts := hC.ts
  have hlt := hG.2.2.2.2.2
  obtain ⟨cells, hce⟩ : ∃ z : Nat, z = 0 := ⟨0, rfl⟩
  obtain ⟨slots, hsl⟩ : ∃ z : Nat, z = 0 := ⟨0, rfl⟩
  refine W.cs (cells' := cells) (slots' := slots) hce.symm hsl.symm ?_
  have hk : cells ≤ 0 := Nat.le_of_eq hce
  have hn : slots ≤ 0 := Nat.le_of_eq hsl
  clear hce hsl
  refine lv_lload_n hx hb dX9_isInt_0 rfl (lv_at hl 0 rfl) ?_
  refine lv_lload_n hx hb dX9_isInt_1 rfl (lv_at hl 0 rfl) ?_
  refine lv_l2i hx hb dX9_isInt_2 rfl ?_
  refine lv_i2l hx hb dX9_isInt_3 rfl ?_
  refine W.lcmp hx hb dX9_isInt_4 ?_
  refine lv_if_ne (tgt := 12) hx hb dX9_isInt_5 (by decide) (fun c2 => ?_) (fun c2 => ?_)
  · replace hw := hw.1 c2
    refine lv_iconst (v := 0) hx hb dX9_isInt_12 (by decide) ?_
    exact wk_X9_isInt_L13 hG _ _ hk hn hZ (lv_sub hl [] rfl) hw
  · replace hw := hw.2 c2
    refine lv_iconst (v := 1) hx hb dX9_isInt_8 (by decide) ?_
    refine lv_goto (tgt := 13) hx hb dX9_isInt_9 (by decide) ?_
    exact wk_X9_isInt_L13 hG _ _ hk hn hZ (lv_sub hl [] rfl) hw
abbrev rm_X9_holdsNow : Room := { frames := 1, cells := 0, slots := 0, locals := 64 }
def wp_X9_holdsNow (D : zD) (post : Unit → zM → Prop) (o : Nat) (a0 : Int32) (a1 : Int32) (a2 : Int32) (a3 : Int32) (M : zM) : Prop :=
    (zgR M o 8 41 fun g1 => ((zd g1 fun b2 => zsI D M b2 a0 a1 fun M => (zgR M o 8 42 fun g3 => ((zd g3 fun b4 => zsI D M b4 a0 a2 fun M => (zgR M o 8 43 fun g5 => ((zd g5 fun b6 => zsI D M b6 a0 a3 fun M => post () M)))))))))
set_option maxHeartbeats 4000000 in
set_option maxRecDepth 100000 in
theorem w_X9_holdsNow {l : Launch} {D : zD} {post : Unit → zM → Prop} (hlt : l.stackTraces = false) {o : Nat} {a0 : Int32} {a1 : Int32} {a2 : Int32} {a3 : Int32} {M : zM} (hw : wp_X9_holdsNow D post o a0 a1 a2 a3 M) : zMet l D yX9_holdsNow (ws_ yX9_holdsNow cX9_holdsNow 5 (none)) rm_X9_holdsNow 0 0 [.ref o, .int a0, .int a1, .int a2, .int a3] M zU post (fun _ _ => False) := by
  unfold wp_X9_holdsNow at hw
  have hlv : lv_args 0 [.ref o, .int a0, .int a1, .int a2, .int a3] = [(0, .ref o), (1, .int a0), (2, .int a1), (3, .int a2), (4, .int a3)] := (zargs1 rfl (zargs1 rfl (zargs1 rfl (zargs1 rfl (zargs1 rfl rfl)))))
  refine z_ofW hlt (by decide) (Nat.le_trans (zsl1 rfl (zsl1 rfl (zsl1 rfl (zsl1 rfl (zsl1 rfl (Nat.le_refl 0 : (lg_sl []).length ≤ 0)))))) (Nat.le_of_ble_eq_true rfl)) hlv ?_
  intro p e s m args below meth c ls hG hZ hl
  have hC := hG.1
  have hx := hC.x
  have hb := hC.b
  have hown := hC.o
  have hts := hC.ts
  have hlt := hG.2.2.2.2.2
  obtain ⟨cells, hce⟩ : ∃ z : Nat, z = 0 := ⟨0, rfl⟩
  obtain ⟨slots, hsl⟩ : ∃ z : Nat, z = 0 := ⟨0, rfl⟩
  refine W.cs (cells' := cells) (slots' := slots) hce.symm hsl.symm ?_
  have hk : cells ≤ 0 := Nat.le_of_eq hce
  have hn : slots ≤ 0 := Nat.le_of_eq hsl
  clear hce hsl
  refine lv_aload_n hx hb dX9_holdsNow_0 rfl (lv_at hl 0 rfl) ?_
  obtain ⟨fs0, g7, hM0, hx0, hw⟩ := hw
  refine z_get hC hZ hM0 zc8 41 (by decide) q1761 (fun _ h9 => h9) hx0 dX9_holdsNow_1 ?_
  refine lv_iload_n hx hb dX9_holdsNow_4 rfl (lv_at hl 1 rfl) ?_
  refine lv_iload_n hx hb dX9_holdsNow_5 rfl (lv_at hl 2 rfl) ?_
  obtain ⟨b8, hr0, hw⟩ := hw
  subst hr0
  obtain ⟨n0, f0, hM0, hb0, hi0, hw⟩ := hw
  refine z_iast hC hZ hM0 hb0 hi0 dX9_holdsNow_6 (fun H locs hZ => ?_)
  generalize zu M _ _ = M at hw hZ
  refine lv_aload_n hx hb dX9_holdsNow_7 rfl (lv_at hl 0 rfl) ?_
  obtain ⟨fs0, g9, hM0, hx0, hw⟩ := hw
  refine z_get hC hZ hM0 zc8 42 (by decide) q1762 (fun _ h9 => h9) hx0 dX9_holdsNow_8 ?_
  refine lv_iload_n hx hb dX9_holdsNow_11 rfl (lv_at hl 1 rfl) ?_
  refine lv_iload_n hx hb dX9_holdsNow_12 rfl (lv_at hl 3 rfl) ?_
  obtain ⟨b10, hr0, hw⟩ := hw
  subst hr0
  obtain ⟨n0, f0, hM0, hb0, hi0, hw⟩ := hw
  refine z_iast hC hZ hM0 hb0 hi0 dX9_holdsNow_13 (fun H locs hZ => ?_)
  generalize zu M _ _ = M at hw hZ
  refine lv_aload_n hx hb dX9_holdsNow_14 rfl (lv_at hl 0 rfl) ?_
  obtain ⟨fs0, g11, hM0, hx0, hw⟩ := hw
  refine z_get hC hZ hM0 zc8 43 (by decide) q1763 (fun _ h9 => h9) hx0 dX9_holdsNow_15 ?_
  refine lv_iload_n hx hb dX9_holdsNow_18 rfl (lv_at hl 1 rfl) ?_
  refine lv_iload hx hb dX9_holdsNow_19 (lv_at hl 4 rfl) ?_
  obtain ⟨b12, hr0, hw⟩ := hw
  subst hr0
  obtain ⟨n0, f0, hM0, hb0, hi0, hw⟩ := hw
  refine z_iast hC hZ hM0 hb0 hi0 dX9_holdsNow_21 (fun H locs hZ => ?_)
  generalize zu M _ _ = M at hw hZ
  exact z_vret hG hZ hk hn hw dX9_holdsNow_22
abbrev rm_X9_add : Room := { frames := 3, cells := 0, slots := 0, locals := 109 }
def wp_X9_add_L41 (D : zD) (post : Int64 → zM → Prop) (o : Nat) (M : zM) : Prop :=
    post (-9223372036854775808 : Int64) M
set_option maxHeartbeats 4000000 in
set_option maxRecDepth 100000 in
theorem wk_X9_add_L41 {p : Program} {l : Launch} {e : Env} {s : State} {m : MethodId} {args : Array Value} {below : List Frame} {meth : Method} {c : Code} {D : zD} {post : Int64 → zM → Prop} {o : Nat} (hG : zGx p l s m args meth c cX9_add 9 "PluralBranchesModel" D (some .long) "add" []) : ∀ {H : Heap} {locs : List Loc} {cells slots : Nat} {ls : Array Slot} (M : zM), cells ≤ 0 → slots ≤ 0 → zS D M H locs → lv_has ls 9 [] → wp_X9_add_L41 D post o M → W p l e rm_X9_add s m args below meth c H locs cells slots (vx_MQ below (zQ D zL post) (zX D (fun _ _ => False)) args s 0 0 (zA D)) (F0 m 41 ls []) := by
  have hC := hG.1
  have hx := hC.x
  have hb := hC.b
  have hown := hC.o
  have hts := hC.ts
  have hlt := hG.2.2.2.2.2
  intro H locs cells slots ls M hk hn hZ hl hw
  refine lv_ldc2 hx hb hown (hts _ q1905) dX9_add_41 ?_
  exact z_lret hG hZ hk hn hw dX9_add_44
def wp_X9_add_L148 (D : zD) (post : Int64 → zM → Prop) (o : Nat) (M : zM) : Prop :=
    post (-9223372036854775808 : Int64) M
set_option maxHeartbeats 4000000 in
set_option maxRecDepth 100000 in
theorem wk_X9_add_L148 {p : Program} {l : Launch} {e : Env} {s : State} {m : MethodId} {args : Array Value} {below : List Frame} {meth : Method} {c : Code} {D : zD} {post : Int64 → zM → Prop} {o : Nat} (hG : zGx p l s m args meth c cX9_add 9 "PluralBranchesModel" D (some .long) "add" []) : ∀ {H : Heap} {locs : List Loc} {cells slots : Nat} {ls : Array Slot} (M : zM), cells ≤ 0 → slots ≤ 0 → zS D M H locs → lv_has ls 9 [] → wp_X9_add_L148 D post o M → W p l e rm_X9_add s m args below meth c H locs cells slots (vx_MQ below (zQ D zL post) (zX D (fun _ _ => False)) args s 0 0 (zA D)) (F0 m 148 ls []) := by
  have hC := hG.1
  have hx := hC.x
  have hb := hC.b
  have hown := hC.o
  have hts := hC.ts
  have hlt := hG.2.2.2.2.2
  intro H locs cells slots ls M hk hn hZ hl hw
  refine lv_ldc2 hx hb hown (hts _ q1905) dX9_add_148 ?_
  exact z_lret hG hZ hk hn hw dX9_add_151
def wp_X9_add_L75 (D : zD) (post : Int64 → zM → Prop) (o : Nat) (x1 : Int32) (x2 : Int32) (x3 : Int32) (y0 : Int32) (M : zM) : Prop :=
    (zgR M o 8 42 fun g1 => ((zd g1 fun b2 => zaI M b2 0 x1 fun v3 => (zgR M o 8 43 fun g4 => ((zd g4 fun b5 => zaI M b5 0 x1 fun v6 => (wp_X9_tens D (fun r7 M => (zgR M o 8 42 fun g10 => ((zd g10 fun b11 => zaI M b11 0 x2 fun v12 => (zgR M o 8 43 fun g13 => ((zd g13 fun b14 => zaI M b14 0 x2 fun v15 => (wp_X9_tens D (fun r16 M => (wp_X9_isInt D (fun r19 M => ((r19 = 0 → wp_X9_add_L148 D post o M) ∧ (¬ r19 = 0 → (wp_X9_isInt D (fun r22 M => ((r22 = 0 → wp_X9_add_L148 D post o M) ∧ (¬ r22 = 0 → (wp_X9_isInt D (fun r25 M => ((¬ r25 = 0 → ((zis M o [8] ∧ wp_X9_holdsNow D (fun _ M => post (((v3.toInt64) * r7) + ((v12.toInt64) * r16)) M) o x3 (1 : Int32) ((((v3.toInt64) * r7) + ((v12.toInt64) * r16)).toInt32) y0 M))) ∧ (r25 = 0 → wp_X9_add_L148 D post o M))) (((v3.toInt64) * r7) + ((v12.toInt64) * r16)) M)))) ((v12.toInt64) * r16) M)))) ((v3.toInt64) * r7) M)) (y0 - v15) M)))))))) (y0 - v6) M)))))))
set_option maxHeartbeats 4000000 in
set_option maxRecDepth 100000 in
theorem wk_X9_add_L75 {p : Program} {l : Launch} {e : Env} {s : State} {m : MethodId} {args : Array Value} {below : List Frame} {meth : Method} {c : Code} {D : zD} {post : Int64 → zM → Prop} {o : Nat} (hG : zGx p l s m args meth c cX9_add 9 "PluralBranchesModel" D (some .long) "add" []) : ∀ {H : Heap} {locs : List Loc} {cells slots : Nat} {ls : Array Slot} (x1 : Int32) (x2 : Int32) (x3 : Int32) (y0 : Int32) (M : zM), cells ≤ 0 → slots ≤ 0 → zS D M H locs → lv_has ls 9 [(0, .ref o), (1, .int x1), (2, .int x2), (3, .int x3)] → wp_X9_add_L75 D post o x1 x2 x3 y0 M → W p l e rm_X9_add s m args below meth c H locs cells slots (vx_MQ below (zQ D zL post) (zX D (fun _ _ => False)) args s 0 0 (zA D)) (F0 m 75 ls [.int y0]) := by
  have hC := hG.1
  have hx := hC.x
  have hb := hC.b
  have hown := hC.o
  have hts := hC.ts
  have hlt := hG.2.2.2.2.2
  intro H locs cells slots ls x1 x2 x3 y0 M hk hn hZ hl hw
  refine lv_istore (i := 4) (lv' := [(4, .int y0), (0, .ref o), (1, .int x1), (2, .int x2), (3, .int x3)]) hx hb dX9_add_75 hl (by decide) rfl (fun ls hl1 => ?_)
  replace hl := hl1
  clear hl1
  refine lv_aload_n hx hb dX9_add_77 rfl (lv_at hl 1 rfl) ?_
  obtain ⟨fs0, g34, hM0, hx0, hw⟩ := hw
  refine z_get hC hZ hM0 zc8 42 (by decide) q1762 (fun _ h9 => h9) hx0 dX9_add_78 ?_
  refine lv_iload_n hx hb dX9_add_81 rfl (lv_at hl 2 rfl) ?_
  obtain ⟨b35, hr0, hw⟩ := hw
  subst hr0
  obtain ⟨n0, f0, hM0, hi0, hw⟩ := hw
  refine z_iald hC hZ hM0 hi0 dX9_add_82 ?_
  generalize f0 _ = v36 at hw ⊢
  refine lv_i2l hx hb dX9_add_83 rfl ?_
  refine lv_iload hx hb dX9_add_84 (lv_at hl 0 rfl) ?_
  refine lv_aload_n hx hb dX9_add_86 rfl (lv_at hl 1 rfl) ?_
  obtain ⟨fs0, g37, hM0, hx0, hw⟩ := hw
  refine z_get hC hZ hM0 zc8 43 (by decide) q1763 (fun _ h9 => h9) hx0 dX9_add_87 ?_
  refine lv_iload_n hx hb dX9_add_90 rfl (lv_at hl 2 rfl) ?_
  obtain ⟨b38, hr0, hw⟩ := hw
  subst hr0
  obtain ⟨n0, f0, hM0, hi0, hw⟩ := hw
  refine z_iald hC hZ hM0 hi0 dX9_add_91 ?_
  generalize f0 _ = v39 at hw ⊢
  refine lv_isub hx hb dX9_add_92 ?_
  refine z_callL hZ (vx_runS (As := [.int (y0 - v39)]) (rest := [.long (v36.toInt64)]) hC.fix (w_X9_tens hlt hw) (va_cwS 1 hts (lw_S q1901 q1902 q83 q1903) rfl rfl rfl dd_X9_tens ⟨Nat.le_of_ble_eq_true rfl, Nat.le_of_ble_eq_true rfl⟩) (z_preS hC hZ) rfl rfl hl.1 rfl (lv_room (Nat.le_trans (zrm2 rfl zrm0) (Nat.le_of_ble_eq_true rfl))) dX9_add_93 ⟨hk, hn⟩) (fun r40 M H locs hw1 hZ => ?_) (fun q M H locs ci fs E T9 N9 hw hZ hc1 hM1 hb1 => False.elim hw)
  replace hw := hw1
  clear hw1
  refine W.cs (cells' := cells) (slots' := slots) rfl rfl ?_
  refine lv_lmul hx hb dX9_add_96 ?_
  refine lv_lstore (i := 5) (lv' := [(5, .long ((v36.toInt64) * r40)), (4, .int y0), (0, .ref o), (1, .int x1), (2, .int x2), (3, .int x3)]) hx hb dX9_add_97 hl (by decide) rfl (fun ls hl1 => ?_)
  replace hl := hl1
  clear hl1
  refine lv_aload_n hx hb dX9_add_99 rfl (lv_at hl 2 rfl) ?_
  obtain ⟨fs0, g43, hM0, hx0, hw⟩ := hw
  refine z_get hC hZ hM0 zc8 42 (by decide) q1762 (fun _ h9 => h9) hx0 dX9_add_100 ?_
  refine lv_iload_n hx hb dX9_add_103 rfl (lv_at hl 4 rfl) ?_
  obtain ⟨b44, hr0, hw⟩ := hw
  subst hr0
  obtain ⟨n0, f0, hM0, hi0, hw⟩ := hw
  refine z_iald hC hZ hM0 hi0 dX9_add_104 ?_
  generalize f0 _ = v45 at hw ⊢
  refine lv_i2l hx hb dX9_add_105 rfl ?_
  refine lv_iload hx hb dX9_add_106 (lv_at hl 1 rfl) ?_
  refine lv_aload_n hx hb dX9_add_108 rfl (lv_at hl 2 rfl) ?_
  obtain ⟨fs0, g46, hM0, hx0, hw⟩ := hw
  refine z_get hC hZ hM0 zc8 43 (by decide) q1763 (fun _ h9 => h9) hx0 dX9_add_109 ?_
  refine lv_iload_n hx hb dX9_add_112 rfl (lv_at hl 4 rfl) ?_
  obtain ⟨b47, hr0, hw⟩ := hw
  subst hr0
  obtain ⟨n0, f0, hM0, hi0, hw⟩ := hw
  refine z_iald hC hZ hM0 hi0 dX9_add_113 ?_
  generalize f0 _ = v48 at hw ⊢
  refine lv_isub hx hb dX9_add_114 ?_
  refine z_callL hZ (vx_runS (As := [.int (y0 - v48)]) (rest := [.long (v45.toInt64)]) hC.fix (w_X9_tens hlt hw) (va_cwS 1 hts (lw_S q1901 q1902 q83 q1903) rfl rfl rfl dd_X9_tens ⟨Nat.le_of_ble_eq_true rfl, Nat.le_of_ble_eq_true rfl⟩) (z_preS hC hZ) rfl rfl hl.1 rfl (lv_room (Nat.le_trans (zrm2 rfl zrm0) (Nat.le_of_ble_eq_true rfl))) dX9_add_115 ⟨hk, hn⟩) (fun r49 M H locs hw1 hZ => ?_) (fun q M H locs ci fs E T9 N9 hw hZ hc1 hM1 hb1 => False.elim hw)
  replace hw := hw1
  clear hw1
  refine W.cs (cells' := cells) (slots' := slots) rfl rfl ?_
  refine lv_lmul hx hb dX9_add_118 ?_
  refine lv_lstore (i := 7) (lv' := [(7, .long ((v45.toInt64) * r49)), (5, .long ((v36.toInt64) * r40)), (4, .int y0), (0, .ref o), (1, .int x1), (2, .int x2), (3, .int x3)]) hx hb dX9_add_119 hl (by decide) rfl (fun ls hl1 => ?_)
  replace hl := hl1
  clear hl1
  refine lv_lload hx hb dX9_add_121 (lv_at hl 1 rfl) ?_
  refine z_callI hZ (vx_runS (As := [.long ((v36.toInt64) * r40)]) (rest := []) hC.fix (w_X9_isInt hlt hw) (va_cwS 1 hts (lw_S q2110 q2111 q83 q2112) rfl rfl rfl dd_X9_isInt ⟨Nat.le_of_ble_eq_true rfl, Nat.le_of_ble_eq_true rfl⟩) (z_preS hC hZ) rfl rfl hl.1 rfl (lv_room (Nat.zero_le _)) dX9_add_123 ⟨hk, hn⟩) (fun r52 M H locs hw1 hZ => ?_) (fun q M H locs ci fs E T9 N9 hw hZ hc1 hM1 hb1 => False.elim hw)
  replace hw := hw1
  clear hw1
  refine W.cs (cells' := cells) (slots' := slots) rfl rfl ?_
  refine lv_if_eq (tgt := 148) hx hb dX9_add_126 (by decide) (fun c66 => ?_) (fun c66 => ?_)
  · replace hw := hw.1 c66
    exact wk_X9_add_L148 hG _ hk hn hZ (lv_sub hl [] rfl) hw
  · replace hw := hw.2 c66
    refine lv_lload hx hb dX9_add_129 (lv_at hl 0 rfl) ?_
    refine z_callI hZ (vx_runS (As := [.long ((v45.toInt64) * r49)]) (rest := []) hC.fix (w_X9_isInt hlt hw) (va_cwS 1 hts (lw_S q2110 q2111 q83 q2112) rfl rfl rfl dd_X9_isInt ⟨Nat.le_of_ble_eq_true rfl, Nat.le_of_ble_eq_true rfl⟩) (z_preS hC hZ) rfl rfl hl.1 rfl (lv_room (Nat.zero_le _)) dX9_add_131 ⟨hk, hn⟩) (fun r55 M H locs hw1 hZ => ?_) (fun q M H locs ci fs E T9 N9 hw hZ hc1 hM1 hb1 => False.elim hw)
    replace hw := hw1
    clear hw1
    refine W.cs (cells' := cells) (slots' := slots) rfl rfl ?_
    refine lv_if_eq (tgt := 148) hx hb dX9_add_134 (by decide) (fun c65 => ?_) (fun c65 => ?_)
    · replace hw := hw.1 c65
      exact wk_X9_add_L148 hG _ hk hn hZ (lv_sub hl [] rfl) hw
    · replace hw := hw.2 c65
      refine lv_lload hx hb dX9_add_137 (lv_at hl 1 rfl) ?_
      refine lv_lload hx hb dX9_add_139 (lv_at hl 0 rfl) ?_
      refine lv_ladd hx hb dX9_add_141 ?_
      refine z_callI hZ (vx_runS (As := [.long (((v36.toInt64) * r40) + ((v45.toInt64) * r49))]) (rest := []) hC.fix (w_X9_isInt hlt hw) (va_cwS 1 hts (lw_S q2110 q2111 q83 q2112) rfl rfl rfl dd_X9_isInt ⟨Nat.le_of_ble_eq_true rfl, Nat.le_of_ble_eq_true rfl⟩) (z_preS hC hZ) rfl rfl hl.1 rfl (lv_room (Nat.zero_le _)) dX9_add_142 ⟨hk, hn⟩) (fun r58 M H locs hw1 hZ => ?_) (fun q M H locs ci fs E T9 N9 hw hZ hc1 hM1 hb1 => False.elim hw)
      replace hw := hw1
      clear hw1
      refine W.cs (cells' := cells) (slots' := slots) rfl rfl ?_
      refine lv_if_ne (tgt := 152) hx hb dX9_add_145 (by decide) (fun c64 => ?_) (fun c64 => ?_)
      · replace hw := hw.1 c64
        refine lv_aload_n hx hb dX9_add_152 rfl (lv_at hl 3 rfl) ?_
        refine lv_iload_n hx hb dX9_add_153 rfl (lv_at hl 6 rfl) ?_
        refine lv_iconst (v := 1) hx hb dX9_add_154 (by decide) ?_
        refine lv_lload hx hb dX9_add_155 (lv_at hl 1 rfl) ?_
        refine lv_lload hx hb dX9_add_157 (lv_at hl 0 rfl) ?_
        refine lv_ladd hx hb dX9_add_159 ?_
        refine lv_l2i hx hb dX9_add_160 rfl ?_
        refine lv_iload hx hb dX9_add_161 (lv_at hl 2 rfl) ?_
        obtain ⟨⟨ci0, fs0, hci0, hM0⟩, hw⟩ := hw
        obtain rfl : ci0 = 8 := List.mem_singleton.mp hci0
        refine z_callU hZ (vx_runV (As := [.int x3, .int (1 : Int32), .int ((((v36.toInt64) * r40) + ((v45.toInt64) * r49)).toInt32), .int y0]) (rest := []) hC.fix (w_X9_holdsNow hlt hw) (cwV 4 hts (lw_V q2081 q2083 qs48 q83 q2084) rfl rfl rfl ⟨rfl, dd_X9_holdsNow⟩ ⟨Nat.le_of_ble_eq_true rfl, Nat.le_of_ble_eq_true rfl⟩) (z_preV hC hZ hM0 zc8) rfl rfl hl.1 rfl (lv_room (Nat.zero_le _)) dX9_add_163 ⟨hk, hn⟩) (fun r61 M H locs hw1 hZ => ?_) (fun q M H locs ci fs E T9 N9 hw hZ hc1 hM1 hb1 => False.elim hw)
        replace hw := hw1
        clear hw1
        refine W.cs (cells' := cells) (slots' := slots) rfl rfl ?_
        refine lv_lload hx hb dX9_add_166 (lv_at hl 1 rfl) ?_
        refine lv_lload hx hb dX9_add_168 (lv_at hl 0 rfl) ?_
        refine lv_ladd hx hb dX9_add_170 ?_
        exact z_lret hG hZ hk hn hw dX9_add_171
      · replace hw := hw.2 c64
        exact wk_X9_add_L148 hG _ hk hn hZ (lv_sub hl [] rfl) hw
def wp_X9_add (D : zD) (post : Int64 → zM → Prop) (o : Nat) (a0 : Int32) (a1 : Int32) (a2 : Int32) (M : zM) : Prop :=
    (wp_X9_isArgument D (fun r67 M => ((r67 = 0 → wp_X9_add_L41 D post o M) ∧ (¬ r67 = 0 → (wp_X9_isArgument D (fun r70 M => ((r70 = 0 → wp_X9_add_L41 D post o M) ∧ (¬ r70 = 0 → (wp_X9_isArgument D (fun r73 M => ((r73 = 0 → wp_X9_add_L41 D post o M) ∧ (¬ r73 = 0 → (zgR M o 8 41 fun g76 => ((zd g76 fun b77 => zaI M b77 0 a0 fun v78 => ((¬ v78 = (1 : Int32) → wp_X9_add_L41 D post o M) ∧ (v78 = (1 : Int32) → (zgR M o 8 41 fun g79 => ((zd g79 fun b80 => zaI M b80 0 a1 fun v81 => ((v81 = (1 : Int32) → (zgR M o 8 43 fun g82 => ((zd g82 fun b83 => zaI M b83 0 a0 fun v84 => (zgR M o 8 43 fun g85 => ((zd g85 fun b86 => zaI M b86 0 a1 fun v87 => ((v84 ≤ v87 → (zgR M o 8 43 fun g88 => ((zd g88 fun b89 => zaI M b89 0 a1 fun v90 => wp_X9_add_L75 D post o a0 a1 a2 v90 M)))) ∧ (¬ v84 ≤ v87 → (zgR M o 8 43 fun g91 => ((zd g91 fun b92 => zaI M b92 0 a0 fun v93 => wp_X9_add_L75 D post o a0 a1 a2 v93 M)))))))))))) ∧ (¬ v81 = (1 : Int32) → wp_X9_add_L41 D post o M))))))))))))) a2 M)))) a1 M)))) a0 M)
set_option maxHeartbeats 4000000 in
set_option maxRecDepth 100000 in
theorem w_X9_add {l : Launch} {D : zD} {post : Int64 → zM → Prop} (hlt : l.stackTraces = false) {o : Nat} {a0 : Int32} {a1 : Int32} {a2 : Int32} {M : zM} (hw : wp_X9_add D post o a0 a1 a2 M) : zMet l D yX9_add (ws_ yX9_add cX9_add 9 (some .long)) rm_X9_add 0 0 [.ref o, .int a0, .int a1, .int a2] M zL post (fun _ _ => False) := by
  unfold wp_X9_add at hw
  have hlv : lv_args 0 [.ref o, .int a0, .int a1, .int a2] = [(0, .ref o), (1, .int a0), (2, .int a1), (3, .int a2)] := (zargs1 rfl (zargs1 rfl (zargs1 rfl (zargs1 rfl rfl))))
  refine z_ofW hlt (by decide) (Nat.le_trans (zsl1 rfl (zsl1 rfl (zsl1 rfl (zsl1 rfl (Nat.le_refl 0 : (lg_sl []).length ≤ 0))))) (Nat.le_of_ble_eq_true rfl)) hlv ?_
  intro p e s m args below meth c ls hG hZ hl
  have hC := hG.1
  have hx := hC.x
  have hb := hC.b
  have hown := hC.o
  have hts := hC.ts
  have hlt := hG.2.2.2.2.2
  obtain ⟨cells, hce⟩ : ∃ z : Nat, z = 0 := ⟨0, rfl⟩
  obtain ⟨slots, hsl⟩ : ∃ z : Nat, z = 0 := ⟨0, rfl⟩
  refine W.cs (cells' := cells) (slots' := slots) hce.symm hsl.symm ?_
  have hk : cells ≤ 0 := Nat.le_of_eq hce
  have hn : slots ≤ 0 := Nat.le_of_eq hsl
  clear hce hsl
  refine lv_iload_n hx hb dX9_add_0 rfl (lv_at hl 1 rfl) ?_
  refine z_callI hZ (vx_runS (As := [.int a0]) (rest := []) hC.fix (w_X9_isArgument hlt hw) (va_cwS 1 hts (lw_S q2030 q2031 q83 q2032) rfl rfl rfl dd_X9_isArgument ⟨Nat.le_of_ble_eq_true rfl, Nat.le_of_ble_eq_true rfl⟩) (z_preS hC hZ) rfl rfl hl.1 rfl (lv_room (Nat.zero_le _)) dX9_add_1 ⟨hk, hn⟩) (fun r100 M H locs hw1 hZ => ?_) (fun q M H locs ci fs E T9 N9 hw hZ hc1 hM1 hb1 => False.elim hw)
  replace hw := hw1
  clear hw1
  refine W.cs (cells' := cells) (slots' := slots) rfl rfl ?_
  refine lv_if_eq (tgt := 41) hx hb dX9_add_4 (by decide) (fun c132 => ?_) (fun c132 => ?_)
  · replace hw := hw.1 c132
    exact wk_X9_add_L41 hG _ hk hn hZ (lv_sub hl [] rfl) hw
  · replace hw := hw.2 c132
    refine lv_iload_n hx hb dX9_add_7 rfl (lv_at hl 2 rfl) ?_
    refine z_callI hZ (vx_runS (As := [.int a1]) (rest := []) hC.fix (w_X9_isArgument hlt hw) (va_cwS 1 hts (lw_S q2030 q2031 q83 q2032) rfl rfl rfl dd_X9_isArgument ⟨Nat.le_of_ble_eq_true rfl, Nat.le_of_ble_eq_true rfl⟩) (z_preS hC hZ) rfl rfl hl.1 rfl (lv_room (Nat.zero_le _)) dX9_add_8 ⟨hk, hn⟩) (fun r103 M H locs hw1 hZ => ?_) (fun q M H locs ci fs E T9 N9 hw hZ hc1 hM1 hb1 => False.elim hw)
    replace hw := hw1
    clear hw1
    refine W.cs (cells' := cells) (slots' := slots) rfl rfl ?_
    refine lv_if_eq (tgt := 41) hx hb dX9_add_11 (by decide) (fun c131 => ?_) (fun c131 => ?_)
    · replace hw := hw.1 c131
      exact wk_X9_add_L41 hG _ hk hn hZ (lv_sub hl [] rfl) hw
    · replace hw := hw.2 c131
      refine lv_iload_n hx hb dX9_add_14 rfl (lv_at hl 3 rfl) ?_
      refine z_callI hZ (vx_runS (As := [.int a2]) (rest := []) hC.fix (w_X9_isArgument hlt hw) (va_cwS 1 hts (lw_S q2030 q2031 q83 q2032) rfl rfl rfl dd_X9_isArgument ⟨Nat.le_of_ble_eq_true rfl, Nat.le_of_ble_eq_true rfl⟩) (z_preS hC hZ) rfl rfl hl.1 rfl (lv_room (Nat.zero_le _)) dX9_add_15 ⟨hk, hn⟩) (fun r106 M H locs hw1 hZ => ?_) (fun q M H locs ci fs E T9 N9 hw hZ hc1 hM1 hb1 => False.elim hw)
      replace hw := hw1
      clear hw1
      refine W.cs (cells' := cells) (slots' := slots) rfl rfl ?_
      refine lv_if_eq (tgt := 41) hx hb dX9_add_18 (by decide) (fun c130 => ?_) (fun c130 => ?_)
      · replace hw := hw.1 c130
        exact wk_X9_add_L41 hG _ hk hn hZ (lv_sub hl [] rfl) hw
      · replace hw := hw.2 c130
        refine lv_aload_n hx hb dX9_add_21 rfl (lv_at hl 0 rfl) ?_
        obtain ⟨fs0, g109, hM0, hx0, hw⟩ := hw
        refine z_get hC hZ hM0 zc8 41 (by decide) q1761 (fun _ h9 => h9) hx0 dX9_add_22 ?_
        refine lv_iload_n hx hb dX9_add_25 rfl (lv_at hl 1 rfl) ?_
        obtain ⟨b110, hr0, hw⟩ := hw
        subst hr0
        obtain ⟨n0, f0, hM0, hi0, hw⟩ := hw
        refine z_iald hC hZ hM0 hi0 dX9_add_26 ?_
        generalize f0 _ = v111 at hw ⊢
        refine lv_iconst (v := 1) hx hb dX9_add_27 (by decide) ?_
        refine lv_icmp_ne (tgt := 41) hx hb dX9_add_28 (by decide) (fun c129 => ?_) (fun c129 => ?_)
        · replace hw := hw.1 c129
          exact wk_X9_add_L41 hG _ hk hn hZ (lv_sub hl [] rfl) hw
        · replace hw := hw.2 c129
          refine lv_aload_n hx hb dX9_add_31 rfl (lv_at hl 0 rfl) ?_
          obtain ⟨fs0, g112, hM0, hx0, hw⟩ := hw
          refine z_get hC hZ hM0 zc8 41 (by decide) q1761 (fun _ h9 => h9) hx0 dX9_add_32 ?_
          refine lv_iload_n hx hb dX9_add_35 rfl (lv_at hl 2 rfl) ?_
          obtain ⟨b113, hr0, hw⟩ := hw
          subst hr0
          obtain ⟨n0, f0, hM0, hi0, hw⟩ := hw
          refine z_iald hC hZ hM0 hi0 dX9_add_36 ?_
          generalize f0 _ = v114 at hw ⊢
          refine lv_iconst (v := 1) hx hb dX9_add_37 (by decide) ?_
          refine lv_icmp_eq (tgt := 45) hx hb dX9_add_38 (by decide) (fun c128 => ?_) (fun c128 => ?_)
          · replace hw := hw.1 c128
            refine lv_aload_n hx hb dX9_add_45 rfl (lv_at hl 0 rfl) ?_
            obtain ⟨fs0, g115, hM0, hx0, hw⟩ := hw
            refine z_get hC hZ hM0 zc8 43 (by decide) q1763 (fun _ h9 => h9) hx0 dX9_add_46 ?_
            refine lv_iload_n hx hb dX9_add_49 rfl (lv_at hl 1 rfl) ?_
            obtain ⟨b116, hr0, hw⟩ := hw
            subst hr0
            obtain ⟨n0, f0, hM0, hi0, hw⟩ := hw
            refine z_iald hC hZ hM0 hi0 dX9_add_50 ?_
            generalize f0 _ = v117 at hw ⊢
            refine lv_aload_n hx hb dX9_add_51 rfl (lv_at hl 0 rfl) ?_
            obtain ⟨fs0, g118, hM0, hx0, hw⟩ := hw
            refine z_get hC hZ hM0 zc8 43 (by decide) q1763 (fun _ h9 => h9) hx0 dX9_add_52 ?_
            refine lv_iload_n hx hb dX9_add_55 rfl (lv_at hl 2 rfl) ?_
            obtain ⟨b119, hr0, hw⟩ := hw
            subst hr0
            obtain ⟨n0, f0, hM0, hi0, hw⟩ := hw
            refine z_iald hC hZ hM0 hi0 dX9_add_56 ?_
            generalize f0 _ = v120 at hw ⊢
            refine lv_icmp_le (tgt := 69) hx hb dX9_add_57 (by decide) (fun c127 => ?_) (fun c127 => ?_)
            · replace hw := hw.1 c127
              refine lv_aload_n hx hb dX9_add_69 rfl (lv_at hl 0 rfl) ?_
              obtain ⟨fs0, g121, hM0, hx0, hw⟩ := hw
              refine z_get hC hZ hM0 zc8 43 (by decide) q1763 (fun _ h9 => h9) hx0 dX9_add_70 ?_
              refine lv_iload_n hx hb dX9_add_73 rfl (lv_at hl 2 rfl) ?_
              obtain ⟨b122, hr0, hw⟩ := hw
              subst hr0
              obtain ⟨n0, f0, hM0, hi0, hw⟩ := hw
              refine z_iald hC hZ hM0 hi0 dX9_add_74 ?_
              generalize f0 _ = v123 at hw ⊢
              exact wk_X9_add_L75 hG _ _ _ _ _ hk hn hZ (lv_sub hl [0, 1, 2, 3] rfl) hw
            · replace hw := hw.2 c127
              refine lv_aload_n hx hb dX9_add_60 rfl (lv_at hl 0 rfl) ?_
              obtain ⟨fs0, g124, hM0, hx0, hw⟩ := hw
              refine z_get hC hZ hM0 zc8 43 (by decide) q1763 (fun _ h9 => h9) hx0 dX9_add_61 ?_
              refine lv_iload_n hx hb dX9_add_64 rfl (lv_at hl 1 rfl) ?_
              obtain ⟨b125, hr0, hw⟩ := hw
              subst hr0
              obtain ⟨n0, f0, hM0, hi0, hw⟩ := hw
              refine z_iald hC hZ hM0 hi0 dX9_add_65 ?_
              generalize f0 _ = v126 at hw ⊢
              refine lv_goto (tgt := 75) hx hb dX9_add_66 (by decide) ?_
              exact wk_X9_add_L75 hG _ _ _ _ _ hk hn hZ (lv_sub hl [0, 1, 2, 3] rfl) hw
          · replace hw := hw.2 c128
            exact wk_X9_add_L41 hG _ hk hn hZ (lv_sub hl [] rfl) hw
abbrev rm_X9_behindBrace : Room := { frames := 1, cells := 0, slots := 0, locals := 64 }
def wp_X9_behindBrace_L43 (D : zD) (post : Int32 → zM → Prop) (o : Nat) (k5 : Int32 → Int32 → Int32 → zM → Prop) (x1 : Int32) (x4 : Int32) (y0 : Int32) (y1 : Int32) (M : zM) : Prop :=
    ((¬ (y0 + y1) = 0 → k5 x1 (y0 + y1) (x4 + 1) M) ∧ ((y0 + y1) = 0 → post (x4 + 1) M))
set_option maxHeartbeats 4000000 in
set_option maxRecDepth 100000 in
theorem wk_X9_behindBrace_L43 {p : Program} {l : Launch} {e : Env} {s : State} {m : MethodId} {args : Array Value} {below : List Frame} {meth : Method} {c : Code} {D : zD} {post : Int32 → zM → Prop} {o : Nat} (hG : zGx p l s m args meth c cX9_behindBrace 6 "PluralBranchesModel" D (some .int) "behindBrace" []) (k5 : Int32 → Int32 → Int32 → zM → Prop) (hk5 : ∀ {H : Heap} {locs : List Loc} {cells slots : Nat} {ls : Array Slot} (x1 : Int32) (x3 : Int32) (x4 : Int32) (M : zM), cells ≤ 0 → slots ≤ 0 → zS D M H locs → lv_has ls 6 [(0, .ref o), (1, .int x1), (3, .int x3), (4, .int x4)] → k5 x1 x3 x4 M → W p l e rm_X9_behindBrace s m args below meth c H locs cells slots (vx_MQ below (zQ D zI post) (zX D (fun _ _ => False)) args s 0 0 (zA D)) (F0 m 5 ls [])) : ∀ {H : Heap} {locs : List Loc} {cells slots : Nat} {ls : Array Slot} (x1 : Int32) (x4 : Int32) (y0 : Int32) (y1 : Int32) (M : zM), cells ≤ 0 → slots ≤ 0 → zS D M H locs → lv_has ls 6 [(0, .ref o), (1, .int x1), (4, .int x4)] → wp_X9_behindBrace_L43 D post o k5 x1 x4 y0 y1 M → W p l e rm_X9_behindBrace s m args below meth c H locs cells slots (vx_MQ below (zQ D zI post) (zX D (fun _ _ => False)) args s 0 0 (zA D)) (F0 m 43 ls [.int y1, .int y0]) := by
  have hC := hG.1
  have hx := hC.x
  have hb := hC.b
  have hown := hC.o
  have hts := hC.ts
  have hlt := hG.2.2.2.2.2
  intro H locs cells slots ls x1 x4 y0 y1 M hk hn hZ hl hw
  refine lv_iadd hx hb dX9_behindBrace_43 ?_
  refine lv_istore_n (i := 3) (lv' := [(3, .int (y0 + y1)), (0, .ref o), (1, .int x1), (4, .int x4)]) hx hb dX9_behindBrace_44 rfl hl (by decide) rfl (fun ls hl1 => ?_)
  replace hl := hl1
  clear hl1
  refine lv_iinc (v := (x4 + 1)) (lv' := [(4, .int (x4 + 1)), (3, .int (y0 + y1)), (0, .ref o), (1, .int x1)]) hx hb dX9_behindBrace_45 hl (k := 3) rfl rfl (by decide) rfl (fun ls hl1 => ?_)
  replace hl := hl1
  clear hl1
  refine lv_iload_n hx hb dX9_behindBrace_48 rfl (lv_at hl 1 rfl) ?_
  refine lv_if_ne (tgt := 55) hx hb dX9_behindBrace_49 (by decide) (fun c2 => ?_) (fun c2 => ?_)
  · replace hw := hw.1 c2
    refine lv_goto (tgt := 5) hx hb dX9_behindBrace_55 (by decide) ?_
    exact hk5 _ _ _ _ hk hn hZ (lv_sub hl [2, 3, 1, 0] rfl) hw
  · replace hw := hw.2 c2
    refine lv_iload hx hb dX9_behindBrace_52 (lv_at hl 0 rfl) ?_
    exact z_iret hG hZ hk hn hw dX9_behindBrace_54
def wp_X9_behindBrace_L5 (D : zD) (post : Int32 → zM → Prop) (o : Nat) : Nat → Int32 → Int32 → Int32 → zM → Prop
  | 0 => fun _ _ _ _ => False
  | f + 1 => fun x1 x3 x4 M =>
    (zgR M o 8 10 fun g3 => ((zd g3 fun b4 => zaI M b4 0 (((120 : Int32) * x1) + x4) fun v5 => ((¬ v5 = (123 : Int32) → ((¬ v5 = (125 : Int32) → wp_X9_behindBrace_L43 D post o (wp_X9_behindBrace_L5 D post o f) x1 x4 x3 (0 : Int32) M) ∧ (v5 = (125 : Int32) → wp_X9_behindBrace_L43 D post o (wp_X9_behindBrace_L5 D post o f) x1 x4 x3 (-1 : Int32) M))) ∧ (v5 = (123 : Int32) → wp_X9_behindBrace_L43 D post o (wp_X9_behindBrace_L5 D post o f) x1 x4 x3 (1 : Int32) M)))))
set_option maxHeartbeats 4000000 in
set_option maxRecDepth 100000 in
theorem wk_X9_behindBrace_L5 {p : Program} {l : Launch} {e : Env} {s : State} {m : MethodId} {args : Array Value} {below : List Frame} {meth : Method} {c : Code} {D : zD} {post : Int32 → zM → Prop} {o : Nat} (hG : zGx p l s m args meth c cX9_behindBrace 6 "PluralBranchesModel" D (some .int) "behindBrace" []) : ∀ (f : Nat), ∀ {H : Heap} {locs : List Loc} {cells slots : Nat} {ls : Array Slot} (x1 : Int32) (x3 : Int32) (x4 : Int32) (M : zM), cells ≤ 0 → slots ≤ 0 → zS D M H locs → lv_has ls 6 [(0, .ref o), (1, .int x1), (3, .int x3), (4, .int x4)] → wp_X9_behindBrace_L5 D post o f x1 x3 x4 M → W p l e rm_X9_behindBrace s m args below meth c H locs cells slots (vx_MQ below (zQ D zI post) (zX D (fun _ _ => False)) args s 0 0 (zA D)) (F0 m 5 ls []) := by
  have hC := hG.1
  have hx := hC.x
  have hb := hC.b
  have hown := hC.o
  have hts := hC.ts
  have hlt := hG.2.2.2.2.2
  intro f
  induction f with
  | zero =>
    intro H locs cells slots ls x1 x3 x4 M hk hn hZ hl hw
    exact absurd hw (fun h => h)
  | succ f ih =>
    intro H locs cells slots ls x1 x3 x4 M hk hn hZ hl hw
    refine lv_aload_n hx hb dX9_behindBrace_5 rfl (lv_at hl 0 rfl) ?_
    obtain ⟨fs0, g8, hM0, hx0, hw⟩ := hw
    refine z_get hC hZ hM0 zc8 10 (by decide) q1730 (fun _ h9 => h9) hx0 dX9_behindBrace_6 ?_
    refine lv_bipush (v := 120) hx hb dX9_behindBrace_9 (by decide) ?_
    refine lv_iload_n hx hb dX9_behindBrace_11 rfl (lv_at hl 1 rfl) ?_
    refine lv_imul hx hb dX9_behindBrace_12 ?_
    refine lv_iload hx hb dX9_behindBrace_13 (lv_at hl 3 rfl) ?_
    refine lv_iadd hx hb dX9_behindBrace_15 ?_
    obtain ⟨b9, hr0, hw⟩ := hw
    subst hr0
    obtain ⟨n0, f0, hM0, hi0, hw⟩ := hw
    refine z_iald hC hZ hM0 hi0 dX9_behindBrace_16 ?_
    generalize f0 _ = v10 at hw ⊢
    refine lv_istore (i := 5) (lv' := [(5, .int v10), (0, .ref o), (1, .int x1), (3, .int x3), (4, .int x4)]) hx hb dX9_behindBrace_17 hl (by decide) rfl (fun ls hl1 => ?_)
    replace hl := hl1
    clear hl1
    refine lv_iload_n hx hb dX9_behindBrace_19 rfl (lv_at hl 3 rfl) ?_
    refine lv_iload hx hb dX9_behindBrace_20 (lv_at hl 0 rfl) ?_
    refine lv_bipush (v := 123) hx hb dX9_behindBrace_22 (by decide) ?_
    refine lv_icmp_ne (tgt := 31) hx hb dX9_behindBrace_24 (by decide) (fun c12 => ?_) (fun c12 => ?_)
    · replace hw := hw.1 c12
      refine lv_iload hx hb dX9_behindBrace_31 (lv_at hl 0 rfl) ?_
      refine lv_bipush (v := 125) hx hb dX9_behindBrace_33 (by decide) ?_
      refine lv_icmp_ne (tgt := 42) hx hb dX9_behindBrace_35 (by decide) (fun c11 => ?_) (fun c11 => ?_)
      · replace hw := hw.1 c11
        refine lv_iconst (v := 0) hx hb dX9_behindBrace_42 (by decide) ?_
        exact wk_X9_behindBrace_L43 hG _ (fun {_ _ _ _ _} _z0 _z1 _z2 _z3 h1 h2 h3 h4 h5 => ih _z0 _z1 _z2 _z3 h1 h2 h3 h4 h5) _ _ _ _ _ hk hn hZ (lv_sub hl [1, 2, 4] rfl) hw
      · replace hw := hw.2 c11
        refine lv_iconst (v := (-1)) hx hb dX9_behindBrace_38 (by decide) ?_
        refine lv_goto (tgt := 43) hx hb dX9_behindBrace_39 (by decide) ?_
        exact wk_X9_behindBrace_L43 hG _ (fun {_ _ _ _ _} _z0 _z1 _z2 _z3 h1 h2 h3 h4 h5 => ih _z0 _z1 _z2 _z3 h1 h2 h3 h4 h5) _ _ _ _ _ hk hn hZ (lv_sub hl [1, 2, 4] rfl) hw
    · replace hw := hw.2 c12
      refine lv_iconst (v := 1) hx hb dX9_behindBrace_27 (by decide) ?_
      refine lv_goto (tgt := 43) hx hb dX9_behindBrace_28 (by decide) ?_
      exact wk_X9_behindBrace_L43 hG _ (fun {_ _ _ _ _} _z0 _z1 _z2 _z3 h1 h2 h3 h4 h5 => ih _z0 _z1 _z2 _z3 h1 h2 h3 h4 h5) _ _ _ _ _ hk hn hZ (lv_sub hl [1, 2, 4] rfl) hw
def wp_X9_behindBrace (D : zD) (post : Int32 → zM → Prop) (o : Nat) (a0 : Int32) (a1 : Int32) (M : zM) : Prop :=
    (∃ f, wp_X9_behindBrace_L5 D post o f a0 (0 : Int32) a1 M)
set_option maxHeartbeats 4000000 in
set_option maxRecDepth 100000 in
theorem w_X9_behindBrace {l : Launch} {D : zD} {post : Int32 → zM → Prop} (hlt : l.stackTraces = false) {o : Nat} {a0 : Int32} {a1 : Int32} {M : zM} (hw : wp_X9_behindBrace D post o a0 a1 M) : zMet l D yX9_behindBrace (ws_ yX9_behindBrace cX9_behindBrace 6 (some .int)) rm_X9_behindBrace 0 0 [.ref o, .int a0, .int a1] M zI post (fun _ _ => False) := by
  unfold wp_X9_behindBrace at hw
  have hlv : lv_args 0 [.ref o, .int a0, .int a1] = [(0, .ref o), (1, .int a0), (2, .int a1)] := (zargs1 rfl (zargs1 rfl (zargs1 rfl rfl)))
  refine z_ofW hlt (by decide) (Nat.le_trans (zsl1 rfl (zsl1 rfl (zsl1 rfl (Nat.le_refl 0 : (lg_sl []).length ≤ 0)))) (Nat.le_of_ble_eq_true rfl)) hlv ?_
  intro p e s m args below meth c ls hG hZ hl
  have hC := hG.1
  have hx := hC.x
  have hb := hC.b
  have hown := hC.o
  have hts := hC.ts
  have hlt := hG.2.2.2.2.2
  obtain ⟨cells, hce⟩ : ∃ z : Nat, z = 0 := ⟨0, rfl⟩
  obtain ⟨slots, hsl⟩ : ∃ z : Nat, z = 0 := ⟨0, rfl⟩
  refine W.cs (cells' := cells) (slots' := slots) hce.symm hsl.symm ?_
  have hk : cells ≤ 0 := Nat.le_of_eq hce
  have hn : slots ≤ 0 := Nat.le_of_eq hsl
  clear hce hsl
  refine lv_iconst (v := 0) hx hb dX9_behindBrace_0 (by decide) ?_
  refine lv_istore_n (i := 3) (lv' := [(3, .int (0 : Int32)), (0, .ref o), (1, .int a0), (2, .int a1)]) hx hb dX9_behindBrace_1 rfl hl (by decide) rfl (fun ls hl1 => ?_)
  replace hl := hl1
  clear hl1
  refine lv_iload_n hx hb dX9_behindBrace_2 rfl (lv_at hl 3 rfl) ?_
  refine lv_istore (i := 4) (lv' := [(4, .int a1), (3, .int (0 : Int32)), (0, .ref o), (1, .int a0), (2, .int a1)]) hx hb dX9_behindBrace_3 hl (by decide) rfl (fun ls hl1 => ?_)
  replace hl := hl1
  clear hl1
  obtain ⟨f1, hw⟩ := hw
  exact wk_X9_behindBrace_L5 hG f1 _ _ _ _ hk hn hZ (lv_sub hl [2, 3, 1, 0] rfl) hw
abbrev rm_X9_isSlot : Room := { frames := 2, cells := 0, slots := 0, locals := 89 }
def wp_X9_isSlot (D : zD) (post : Int32 → zM → Prop) (a0 : Int32) (M : zM) : Prop :=
    (wp_X9_in D (fun r1 M => (narrow .boolean (.int r1) = .int r1 ∧ post r1 M)) (a0.toInt64) (0 : Int64) (3 : Int64) M)
set_option maxHeartbeats 4000000 in
set_option maxRecDepth 100000 in
theorem w_X9_isSlot {l : Launch} {D : zD} {post : Int32 → zM → Prop} (hlt : l.stackTraces = false) {a0 : Int32} {M : zM} (hw : wp_X9_isSlot D post a0 M) : zMet l D yX9_isSlot (ws_ yX9_isSlot cX9_isSlot 1 (some .boolean)) rm_X9_isSlot 0 0 [.int a0] M zI post (fun _ _ => False) := by
  unfold wp_X9_isSlot at hw
  have hlv : lv_args 0 [.int a0] = [(0, .int a0)] := (zargs1 rfl rfl)
  refine z_ofW hlt (by decide) (Nat.le_trans (zsl1 rfl (Nat.le_refl 0 : (lg_sl []).length ≤ 0)) (Nat.le_of_ble_eq_true rfl)) hlv ?_
  intro p e s m args below meth c ls hG hZ hl
  have hC := hG.1
  have hx := hC.x
  have hb := hC.b
  have hown := hC.o
  have hts := hC.ts
  have hlt := hG.2.2.2.2.2
  obtain ⟨cells, hce⟩ : ∃ z : Nat, z = 0 := ⟨0, rfl⟩
  obtain ⟨slots, hsl⟩ : ∃ z : Nat, z = 0 := ⟨0, rfl⟩
  refine W.cs (cells' := cells) (slots' := slots) hce.symm hsl.symm ?_
  have hk : cells ≤ 0 := Nat.le_of_eq hce
  have hn : slots ≤ 0 := Nat.le_of_eq hsl
  clear hce hsl
  refine lv_iload_n hx hb dX9_isSlot_0 rfl (lv_at hl 0 rfl) ?_
  refine lv_i2l hx hb dX9_isSlot_1 rfl ?_
  refine lv_lconst (v := 0) hx hb dX9_isSlot_2 (by decide) ?_
  refine lv_ldc2 hx hb hown (hts _ q1936) dX9_isSlot_3 ?_
  refine z_callI hZ (vx_runS (As := [.long (a0.toInt64), .long (0 : Int64), .long (3 : Int64)]) (rest := []) hC.fix (w_X9_in hlt hw) (va_cwS 3 hts (lw_S q1894 q1895 q83 q1896) rfl rfl rfl dd_X9_in ⟨Nat.le_of_ble_eq_true rfl, Nat.le_of_ble_eq_true rfl⟩) (z_preS hC hZ) rfl rfl hl.1 rfl (lv_room (Nat.zero_le _)) dX9_isSlot_6 ⟨hk, hn⟩) (fun r4 M H locs hw1 hZ => ?_) (fun q M H locs ci fs E T9 N9 hw hZ hc1 hM1 hb1 => False.elim hw)
  replace hw := hw1
  clear hw1
  refine W.cs (cells' := cells) (slots' := slots) rfl rfl ?_
  exact z_zret hG hZ hk hn hw.1 hw.2 dX9_isSlot_9
abbrev rm_X9_isLanguage : Room := { frames := 2, cells := 0, slots := 0, locals := 89 }
def wp_X9_isLanguage (D : zD) (post : Int32 → zM → Prop) (a0 : Int32) (M : zM) : Prop :=
    (wp_X9_in D (fun r1 M => (narrow .boolean (.int r1) = .int r1 ∧ post r1 M)) (a0.toInt64) (0 : Int64) (6 : Int64) M)
set_option maxHeartbeats 4000000 in
set_option maxRecDepth 100000 in
theorem w_X9_isLanguage {l : Launch} {D : zD} {post : Int32 → zM → Prop} (hlt : l.stackTraces = false) {a0 : Int32} {M : zM} (hw : wp_X9_isLanguage D post a0 M) : zMet l D yX9_isLanguage (ws_ yX9_isLanguage cX9_isLanguage 1 (some .boolean)) rm_X9_isLanguage 0 0 [.int a0] M zI post (fun _ _ => False) := by
  unfold wp_X9_isLanguage at hw
  have hlv : lv_args 0 [.int a0] = [(0, .int a0)] := (zargs1 rfl rfl)
  refine z_ofW hlt (by decide) (Nat.le_trans (zsl1 rfl (Nat.le_refl 0 : (lg_sl []).length ≤ 0)) (Nat.le_of_ble_eq_true rfl)) hlv ?_
  intro p e s m args below meth c ls hG hZ hl
  have hC := hG.1
  have hx := hC.x
  have hb := hC.b
  have hown := hC.o
  have hts := hC.ts
  have hlt := hG.2.2.2.2.2
  obtain ⟨cells, hce⟩ : ∃ z : Nat, z = 0 := ⟨0, rfl⟩
  obtain ⟨slots, hsl⟩ : ∃ z : Nat, z = 0 := ⟨0, rfl⟩
  refine W.cs (cells' := cells) (slots' := slots) hce.symm hsl.symm ?_
  have hk : cells ≤ 0 := Nat.le_of_eq hce
  have hn : slots ≤ 0 := Nat.le_of_eq hsl
  clear hce hsl
  refine lv_iload_n hx hb dX9_isLanguage_0 rfl (lv_at hl 0 rfl) ?_
  refine lv_i2l hx hb dX9_isLanguage_1 rfl ?_
  refine lv_lconst (v := 0) hx hb dX9_isLanguage_2 (by decide) ?_
  refine lv_ldc2 hx hb hown (hts _ q1893) dX9_isLanguage_3 ?_
  refine z_callI hZ (vx_runS (As := [.long (a0.toInt64), .long (0 : Int64), .long (6 : Int64)]) (rest := []) hC.fix (w_X9_in hlt hw) (va_cwS 3 hts (lw_S q1894 q1895 q83 q1896) rfl rfl rfl dd_X9_in ⟨Nat.le_of_ble_eq_true rfl, Nat.le_of_ble_eq_true rfl⟩) (z_preS hC hZ) rfl rfl hl.1 rfl (lv_room (Nat.zero_le _)) dX9_isLanguage_6 ⟨hk, hn⟩) (fun r4 M H locs hw1 hZ => ?_) (fun q M H locs ci fs E T9 N9 hw hZ hc1 hM1 hb1 => False.elim hw)
  replace hw := hw1
  clear hw1
  refine W.cs (cells' := cells) (slots' := slots) rfl rfl ?_
  exact z_zret hG hZ hk hn hw.1 hw.2 dX9_isLanguage_9
abbrev rm_X9_isChoice : Room := { frames := 2, cells := 0, slots := 0, locals := 89 }
def wp_X9_isChoice_L32 (D : zD) (post : Int32 → zM → Prop) (o : Nat) (y0 : Int32) (M : zM) : Prop :=
    (narrow .boolean (.int y0) = .int y0 ∧ post y0 M)
set_option maxHeartbeats 4000000 in
set_option maxRecDepth 100000 in
theorem wk_X9_isChoice_L32 {p : Program} {l : Launch} {e : Env} {s : State} {m : MethodId} {args : Array Value} {below : List Frame} {meth : Method} {c : Code} {D : zD} {post : Int32 → zM → Prop} {o : Nat} (hG : zGx p l s m args meth c cX9_isChoice 3 "PluralBranchesModel" D (some .boolean) "isChoice" []) : ∀ {H : Heap} {locs : List Loc} {cells slots : Nat} {ls : Array Slot} (y0 : Int32) (M : zM), cells ≤ 0 → slots ≤ 0 → zS D M H locs → lv_has ls 3 [] → wp_X9_isChoice_L32 D post o y0 M → W p l e rm_X9_isChoice s m args below meth c H locs cells slots (vx_MQ below (zQ D zI post) (zX D (fun _ _ => False)) args s 0 0 (zA D)) (F0 m 32 ls [.int y0]) := by
  have hC := hG.1
  have hx := hC.x
  have hb := hC.b
  have hown := hC.o
  have hts := hC.ts
  have hlt := hG.2.2.2.2.2
  intro H locs cells slots ls y0 M hk hn hZ hl hw
  exact z_zret hG hZ hk hn hw.1 hw.2 dX9_isChoice_32
def wp_X9_isChoice_L31 (D : zD) (post : Int32 → zM → Prop) (o : Nat) (M : zM) : Prop :=
    wp_X9_isChoice_L32 D post o (0 : Int32) M
set_option maxHeartbeats 4000000 in
set_option maxRecDepth 100000 in
theorem wk_X9_isChoice_L31 {p : Program} {l : Launch} {e : Env} {s : State} {m : MethodId} {args : Array Value} {below : List Frame} {meth : Method} {c : Code} {D : zD} {post : Int32 → zM → Prop} {o : Nat} (hG : zGx p l s m args meth c cX9_isChoice 3 "PluralBranchesModel" D (some .boolean) "isChoice" []) : ∀ {H : Heap} {locs : List Loc} {cells slots : Nat} {ls : Array Slot} (M : zM), cells ≤ 0 → slots ≤ 0 → zS D M H locs → lv_has ls 3 [] → wp_X9_isChoice_L31 D post o M → W p l e rm_X9_isChoice s m args below meth c H locs cells slots (vx_MQ below (zQ D zI post) (zX D (fun _ _ => False)) args s 0 0 (zA D)) (F0 m 31 ls []) := by
  have hC := hG.1
  have hx := hC.x
  have hb := hC.b
  have hown := hC.o
  have hts := hC.ts
  have hlt := hG.2.2.2.2.2
  intro H locs cells slots ls M hk hn hZ hl hw
  refine lv_iconst (v := 0) hx hb dX9_isChoice_31 (by decide) ?_
  exact wk_X9_isChoice_L32 hG _ _ hk hn hZ (lv_sub hl [] rfl) hw
def wp_X9_isChoice (D : zD) (post : Int32 → zM → Prop) (o : Nat) (a0 : Int32) (a1 : Int32) (M : zM) : Prop :=
    (zgR M o 8 9 fun g1 => ((zd g1 fun b2 => zaI M b2 0 a0 fun v3 => ((v3 < 0 → wp_X9_isChoice_L31 D post o M) ∧ (¬ v3 < 0 → (zgR M o 8 12 fun g4 => ((zd g4 fun b5 => zaI M b5 0 a0 fun v6 => (wp_X9_in D (fun r7 M => ((r7 = 0 → wp_X9_isChoice_L31 D post o M) ∧ (¬ r7 = 0 → wp_X9_isChoice_L32 D post o (1 : Int32) M))) (a1.toInt64) (0 : Int64) ((v6 - (1 : Int32)).toInt64) M)))))))))
set_option maxHeartbeats 4000000 in
set_option maxRecDepth 100000 in
theorem w_X9_isChoice {l : Launch} {D : zD} {post : Int32 → zM → Prop} (hlt : l.stackTraces = false) {o : Nat} {a0 : Int32} {a1 : Int32} {M : zM} (hw : wp_X9_isChoice D post o a0 a1 M) : zMet l D yX9_isChoice (ws_ yX9_isChoice cX9_isChoice 3 (some .boolean)) rm_X9_isChoice 0 0 [.ref o, .int a0, .int a1] M zI post (fun _ _ => False) := by
  unfold wp_X9_isChoice at hw
  have hlv : lv_args 0 [.ref o, .int a0, .int a1] = [(0, .ref o), (1, .int a0), (2, .int a1)] := (zargs1 rfl (zargs1 rfl (zargs1 rfl rfl)))
  refine z_ofW hlt (by decide) (Nat.le_trans (zsl1 rfl (zsl1 rfl (zsl1 rfl (Nat.le_refl 0 : (lg_sl []).length ≤ 0)))) (Nat.le_of_ble_eq_true rfl)) hlv ?_
  intro p e s m args below meth c ls hG hZ hl
  have hC := hG.1
  have hx := hC.x
  have hb := hC.b
  have hown := hC.o
  have hts := hC.ts
  have hlt := hG.2.2.2.2.2
  obtain ⟨cells, hce⟩ : ∃ z : Nat, z = 0 := ⟨0, rfl⟩
  obtain ⟨slots, hsl⟩ : ∃ z : Nat, z = 0 := ⟨0, rfl⟩
  refine W.cs (cells' := cells) (slots' := slots) hce.symm hsl.symm ?_
  have hk : cells ≤ 0 := Nat.le_of_eq hce
  have hn : slots ≤ 0 := Nat.le_of_eq hsl
  clear hce hsl
  refine lv_aload_n hx hb dX9_isChoice_0 rfl (lv_at hl 0 rfl) ?_
  obtain ⟨fs0, g12, hM0, hx0, hw⟩ := hw
  refine z_get hC hZ hM0 zc8 9 (by decide) q1729 (fun _ h9 => h9) hx0 dX9_isChoice_1 ?_
  refine lv_iload_n hx hb dX9_isChoice_4 rfl (lv_at hl 1 rfl) ?_
  obtain ⟨b13, hr0, hw⟩ := hw
  subst hr0
  obtain ⟨n0, f0, hM0, hi0, hw⟩ := hw
  refine z_iald hC hZ hM0 hi0 dX9_isChoice_5 ?_
  generalize f0 _ = v14 at hw ⊢
  refine lv_if_lt (tgt := 31) hx hb dX9_isChoice_6 (by decide) (fun c22 => ?_) (fun c22 => ?_)
  · replace hw := hw.1 c22
    exact wk_X9_isChoice_L31 hG _ hk hn hZ (lv_sub hl [] rfl) hw
  · replace hw := hw.2 c22
    refine lv_iload_n hx hb dX9_isChoice_9 rfl (lv_at hl 2 rfl) ?_
    refine lv_i2l hx hb dX9_isChoice_10 rfl ?_
    refine lv_lconst (v := 0) hx hb dX9_isChoice_11 (by decide) ?_
    refine lv_aload_n hx hb dX9_isChoice_12 rfl (lv_at hl 0 rfl) ?_
    obtain ⟨fs0, g15, hM0, hx0, hw⟩ := hw
    refine z_get hC hZ hM0 zc8 12 (by decide) q1732 (fun _ h9 => h9) hx0 dX9_isChoice_13 ?_
    refine lv_iload_n hx hb dX9_isChoice_16 rfl (lv_at hl 1 rfl) ?_
    obtain ⟨b16, hr0, hw⟩ := hw
    subst hr0
    obtain ⟨n0, f0, hM0, hi0, hw⟩ := hw
    refine z_iald hC hZ hM0 hi0 dX9_isChoice_17 ?_
    generalize f0 _ = v17 at hw ⊢
    refine lv_iconst (v := 1) hx hb dX9_isChoice_18 (by decide) ?_
    refine lv_isub hx hb dX9_isChoice_19 ?_
    refine lv_i2l hx hb dX9_isChoice_20 rfl ?_
    refine z_callI hZ (vx_runS (As := [.long (a1.toInt64), .long (0 : Int64), .long ((v17 - (1 : Int32)).toInt64)]) (rest := []) hC.fix (w_X9_in hlt hw) (va_cwS 3 hts (lw_S q1894 q1895 q83 q1896) rfl rfl rfl dd_X9_in ⟨Nat.le_of_ble_eq_true rfl, Nat.le_of_ble_eq_true rfl⟩) (z_preS hC hZ) rfl rfl hl.1 rfl (lv_room (Nat.zero_le _)) dX9_isChoice_21 ⟨hk, hn⟩) (fun r18 M H locs hw1 hZ => ?_) (fun q M H locs ci fs E T9 N9 hw hZ hc1 hM1 hb1 => False.elim hw)
    replace hw := hw1
    clear hw1
    refine W.cs (cells' := cells) (slots' := slots) rfl rfl ?_
    refine lv_if_eq (tgt := 31) hx hb dX9_isChoice_24 (by decide) (fun c21 => ?_) (fun c21 => ?_)
    · replace hw := hw.1 c21
      exact wk_X9_isChoice_L31 hG _ hk hn hZ (lv_sub hl [] rfl) hw
    · replace hw := hw.2 c21
      refine lv_iconst (v := 1) hx hb dX9_isChoice_27 (by decide) ?_
      refine lv_goto (tgt := 32) hx hb dX9_isChoice_28 (by decide) ?_
      exact wk_X9_isChoice_L32 hG _ _ hk hn hZ (lv_sub hl [] rfl) hw
abbrev rm_X9_keyAt : Room := { frames := 1, cells := 0, slots := 0, locals := 64 }
def wp_X9_keyAt (D : zD) (post : Int32 → zM → Prop) (o : Nat) (a0 : Int32) (a1 : Int32) (a2 : Int32) (M : zM) : Prop :=
    (zgR M o 8 20 fun g1 => ((zd g1 fun b2 => zaI M b2 0 (((10 : Int32) * (((8 : Int32) * a0) + a1)) + a2) fun v3 => post v3 M)))
set_option maxHeartbeats 4000000 in
set_option maxRecDepth 100000 in
theorem w_X9_keyAt {l : Launch} {D : zD} {post : Int32 → zM → Prop} (hlt : l.stackTraces = false) {o : Nat} {a0 : Int32} {a1 : Int32} {a2 : Int32} {M : zM} (hw : wp_X9_keyAt D post o a0 a1 a2 M) : zMet l D yX9_keyAt (ws_ yX9_keyAt cX9_keyAt 4 (some .int)) rm_X9_keyAt 0 0 [.ref o, .int a0, .int a1, .int a2] M zI post (fun _ _ => False) := by
  unfold wp_X9_keyAt at hw
  have hlv : lv_args 0 [.ref o, .int a0, .int a1, .int a2] = [(0, .ref o), (1, .int a0), (2, .int a1), (3, .int a2)] := (zargs1 rfl (zargs1 rfl (zargs1 rfl (zargs1 rfl rfl))))
  refine z_ofW hlt (by decide) (Nat.le_trans (zsl1 rfl (zsl1 rfl (zsl1 rfl (zsl1 rfl (Nat.le_refl 0 : (lg_sl []).length ≤ 0))))) (Nat.le_of_ble_eq_true rfl)) hlv ?_
  intro p e s m args below meth c ls hG hZ hl
  have hC := hG.1
  have hx := hC.x
  have hb := hC.b
  have hown := hC.o
  have hts := hC.ts
  have hlt := hG.2.2.2.2.2
  obtain ⟨cells, hce⟩ : ∃ z : Nat, z = 0 := ⟨0, rfl⟩
  obtain ⟨slots, hsl⟩ : ∃ z : Nat, z = 0 := ⟨0, rfl⟩
  refine W.cs (cells' := cells) (slots' := slots) hce.symm hsl.symm ?_
  have hk : cells ≤ 0 := Nat.le_of_eq hce
  have hn : slots ≤ 0 := Nat.le_of_eq hsl
  clear hce hsl
  refine lv_aload_n hx hb dX9_keyAt_0 rfl (lv_at hl 0 rfl) ?_
  obtain ⟨fs0, g4, hM0, hx0, hw⟩ := hw
  refine z_get hC hZ hM0 zc8 20 (by decide) q1740 (fun _ h9 => h9) hx0 dX9_keyAt_1 ?_
  refine lv_bipush (v := 10) hx hb dX9_keyAt_4 (by decide) ?_
  refine lv_bipush (v := 8) hx hb dX9_keyAt_6 (by decide) ?_
  refine lv_iload_n hx hb dX9_keyAt_8 rfl (lv_at hl 1 rfl) ?_
  refine lv_imul hx hb dX9_keyAt_9 ?_
  refine lv_iload_n hx hb dX9_keyAt_10 rfl (lv_at hl 2 rfl) ?_
  refine lv_iadd hx hb dX9_keyAt_11 ?_
  refine lv_imul hx hb dX9_keyAt_12 ?_
  refine lv_iload_n hx hb dX9_keyAt_13 rfl (lv_at hl 3 rfl) ?_
  refine lv_iadd hx hb dX9_keyAt_14 ?_
  obtain ⟨b5, hr0, hw⟩ := hw
  subst hr0
  obtain ⟨n0, f0, hM0, hi0, hw⟩ := hw
  refine z_iald hC hZ hM0 hi0 dX9_keyAt_15 ?_
  generalize f0 _ = v6 at hw ⊢
  exact z_iret hG hZ hk hn hw dX9_keyAt_16
abbrev rm_X9_operandOf : Room := { frames := 2, cells := 0, slots := 0, locals := 87 }
def wp_X9_operandOf_L117 (D : zD) (post : Int64 → zM → Prop) (y0 : Int64) (M : zM) : Prop :=
    post y0 M
set_option maxHeartbeats 4000000 in
set_option maxRecDepth 100000 in
theorem wk_X9_operandOf_L117 {p : Program} {l : Launch} {e : Env} {s : State} {m : MethodId} {args : Array Value} {below : List Frame} {meth : Method} {c : Code} {D : zD} {post : Int64 → zM → Prop} (hG : zGx p l s m args meth c cX9_operandOf 10 "PluralBranchesModel" D (some .long) "operandOf" []) : ∀ {H : Heap} {locs : List Loc} {cells slots : Nat} {ls : Array Slot} (y0 : Int64) (M : zM), cells ≤ 0 → slots ≤ 0 → zS D M H locs → lv_has ls 10 [] → wp_X9_operandOf_L117 D post y0 M → W p l e rm_X9_operandOf s m args below meth c H locs cells slots (vx_MQ below (zQ D zL post) (zX D (fun _ _ => False)) args s 0 0 (zA D)) (F0 m 117 ls [.long y0]) := by
  have hC := hG.1
  have hx := hC.x
  have hb := hC.b
  have hown := hC.o
  have hts := hC.ts
  have hlt := hG.2.2.2.2.2
  intro H locs cells slots ls y0 M hk hn hZ hl hw
  exact z_lret hG hZ hk hn hw dX9_operandOf_117
def wp_X9_operandOf_L71 (D : zD) (post : Int64 → zM → Prop) (x1 : Int32) (x2 : Int32) (x3 : Int64) (x5 : Int64) (x7 : Int32) (x8 : Int64) (M : zM) : Prop :=
    ((¬ x2 = 0 → ((¬ x2 = (1 : Int32) → ((¬ x2 = (2 : Int32) → ((¬ x2 = (3 : Int32) → wp_X9_operandOf_L117 D post x8 M) ∧ (x2 = (3 : Int32) → wp_X9_operandOf_L117 D post (x7.toInt64) M))) ∧ (x2 = (2 : Int32) → wp_X9_operandOf_L117 D post x5 M))) ∧ (x2 = (1 : Int32) → wp_X9_operandOf_L117 D post (x1.toInt64) M))) ∧ (x2 = 0 → (wp_X9_tens D (fun r4 M => (¬ r4 = 0 ∧ wp_X9_operandOf_L117 D post (x3 / r4) M)) x1 M)))
set_option maxHeartbeats 4000000 in
set_option maxRecDepth 100000 in
theorem wk_X9_operandOf_L71 {p : Program} {l : Launch} {e : Env} {s : State} {m : MethodId} {args : Array Value} {below : List Frame} {meth : Method} {c : Code} {D : zD} {post : Int64 → zM → Prop} (hG : zGx p l s m args meth c cX9_operandOf 10 "PluralBranchesModel" D (some .long) "operandOf" []) : ∀ {H : Heap} {locs : List Loc} {cells slots : Nat} {ls : Array Slot} (x1 : Int32) (x2 : Int32) (x3 : Int64) (x5 : Int64) (x7 : Int32) (x8 : Int64) (M : zM), cells ≤ 0 → slots ≤ 0 → zS D M H locs → lv_has ls 10 [(1, .int x1), (2, .int x2), (3, .long x3), (5, .long x5), (7, .int x7), (8, .long x8)] → wp_X9_operandOf_L71 D post x1 x2 x3 x5 x7 x8 M → W p l e rm_X9_operandOf s m args below meth c H locs cells slots (vx_MQ below (zQ D zL post) (zX D (fun _ _ => False)) args s 0 0 (zA D)) (F0 m 71 ls []) := by
  have hC := hG.1
  have hx := hC.x
  have hb := hC.b
  have hown := hC.o
  have hts := hC.ts
  have hlt := hG.2.2.2.2.2
  intro H locs cells slots ls x1 x2 x3 x5 x7 x8 M hk hn hZ hl hw
  refine lv_iload_n hx hb dX9_operandOf_71 rfl (lv_at hl 1 rfl) ?_
  refine lv_if_ne (tgt := 84) hx hb dX9_operandOf_72 (by decide) (fun c14 => ?_) (fun c14 => ?_)
  · replace hw := hw.1 c14
    refine lv_iload_n hx hb dX9_operandOf_84 rfl (lv_at hl 1 rfl) ?_
    refine lv_iconst (v := 1) hx hb dX9_operandOf_85 (by decide) ?_
    refine lv_icmp_ne (tgt := 94) hx hb dX9_operandOf_86 (by decide) (fun c10 => ?_) (fun c10 => ?_)
    · replace hw := hw.1 c10
      refine lv_iload_n hx hb dX9_operandOf_94 rfl (lv_at hl 1 rfl) ?_
      refine lv_iconst (v := 2) hx hb dX9_operandOf_95 (by decide) ?_
      refine lv_icmp_ne (tgt := 104) hx hb dX9_operandOf_96 (by decide) (fun c9 => ?_) (fun c9 => ?_)
      · replace hw := hw.1 c9
        refine lv_iload_n hx hb dX9_operandOf_104 rfl (lv_at hl 1 rfl) ?_
        refine lv_iconst (v := 3) hx hb dX9_operandOf_105 (by decide) ?_
        refine lv_icmp_ne (tgt := 115) hx hb dX9_operandOf_106 (by decide) (fun c8 => ?_) (fun c8 => ?_)
        · replace hw := hw.1 c8
          refine lv_lload hx hb dX9_operandOf_115 (lv_at hl 5 rfl) ?_
          exact wk_X9_operandOf_L117 hG _ _ hk hn hZ (lv_sub hl [] rfl) hw
        · replace hw := hw.2 c8
          refine lv_iload hx hb dX9_operandOf_109 (lv_at hl 4 rfl) ?_
          refine lv_i2l hx hb dX9_operandOf_111 rfl ?_
          refine lv_goto (tgt := 117) hx hb dX9_operandOf_112 (by decide) ?_
          exact wk_X9_operandOf_L117 hG _ _ hk hn hZ (lv_sub hl [] rfl) hw
      · replace hw := hw.2 c9
        refine lv_lload hx hb dX9_operandOf_99 (lv_at hl 3 rfl) ?_
        refine lv_goto (tgt := 117) hx hb dX9_operandOf_101 (by decide) ?_
        exact wk_X9_operandOf_L117 hG _ _ hk hn hZ (lv_sub hl [] rfl) hw
    · replace hw := hw.2 c10
      refine lv_iload_n hx hb dX9_operandOf_89 rfl (lv_at hl 0 rfl) ?_
      refine lv_i2l hx hb dX9_operandOf_90 rfl ?_
      refine lv_goto (tgt := 117) hx hb dX9_operandOf_91 (by decide) ?_
      exact wk_X9_operandOf_L117 hG _ _ hk hn hZ (lv_sub hl [] rfl) hw
  · replace hw := hw.2 c14
    refine lv_lload_n hx hb dX9_operandOf_75 rfl (lv_at hl 2 rfl) ?_
    refine lv_iload_n hx hb dX9_operandOf_76 rfl (lv_at hl 0 rfl) ?_
    refine z_callL hZ (vx_runS (As := [.int x1]) (rest := [.long x3]) hC.fix (w_X9_tens hlt hw) (va_cwS 1 hts (lw_S q1901 q1902 q83 q1903) rfl rfl rfl dd_X9_tens ⟨Nat.le_of_ble_eq_true rfl, Nat.le_of_ble_eq_true rfl⟩) (z_preS hC hZ) rfl rfl hl.1 rfl (lv_room (Nat.le_trans (zrm2 rfl zrm0) (Nat.le_of_ble_eq_true rfl))) dX9_operandOf_77 ⟨hk, hn⟩) (fun r11 M H locs hw1 hZ => ?_) (fun q M H locs ci fs E T9 N9 hw hZ hc1 hM1 hb1 => False.elim hw)
    replace hw := hw1
    clear hw1
    refine W.cs (cells' := cells) (slots' := slots) rfl rfl ?_
    obtain ⟨hz0, hw⟩ := hw
    refine lv_ldiv hx hb dX9_operandOf_80 hz0 ?_
    refine lv_goto (tgt := 117) hx hb dX9_operandOf_81 (by decide) ?_
    exact wk_X9_operandOf_L117 hG _ _ hk hn hZ (lv_sub hl [] rfl) hw
def wp_X9_operandOf_L39 (D : zD) (post : Int64 → zM → Prop) : Nat → Int32 → Int32 → Int64 → Int64 → Int32 → Int64 → zM → Prop
  | 0 => fun _ _ _ _ _ _ _ => False
  | f + 1 => fun x1 x2 x3 x5 x7 x8 M =>
    (((lg_cmp x8 (0 : Int64)) = 0 → wp_X9_operandOf_L71 D post x1 x2 x3 x5 x7 x8 M) ∧ (¬ (lg_cmp x8 (0 : Int64)) = 0 → ((¬ (lg_cmp (x8 - x8 / (10 : Int64) * (10 : Int64)) (0 : Int64)) = 0 → wp_X9_operandOf_L71 D post x1 x2 x3 x5 x7 x8 M) ∧ ((lg_cmp (x8 - x8 / (10 : Int64) * (10 : Int64)) (0 : Int64)) = 0 → wp_X9_operandOf_L39 D post f x1 x2 x3 x5 (x7 + (-1)) (x8 / (10 : Int64)) M))))
set_option maxHeartbeats 4000000 in
set_option maxRecDepth 100000 in
theorem wk_X9_operandOf_L39 {p : Program} {l : Launch} {e : Env} {s : State} {m : MethodId} {args : Array Value} {below : List Frame} {meth : Method} {c : Code} {D : zD} {post : Int64 → zM → Prop} (hG : zGx p l s m args meth c cX9_operandOf 10 "PluralBranchesModel" D (some .long) "operandOf" []) : ∀ (f : Nat), ∀ {H : Heap} {locs : List Loc} {cells slots : Nat} {ls : Array Slot} (x1 : Int32) (x2 : Int32) (x3 : Int64) (x5 : Int64) (x7 : Int32) (x8 : Int64) (M : zM), cells ≤ 0 → slots ≤ 0 → zS D M H locs → lv_has ls 10 [(1, .int x1), (2, .int x2), (3, .long x3), (5, .long x5), (7, .int x7), (8, .long x8)] → wp_X9_operandOf_L39 D post f x1 x2 x3 x5 x7 x8 M → W p l e rm_X9_operandOf s m args below meth c H locs cells slots (vx_MQ below (zQ D zL post) (zX D (fun _ _ => False)) args s 0 0 (zA D)) (F0 m 39 ls []) := by
  have hC := hG.1
  have hx := hC.x
  have hb := hC.b
  have hown := hC.o
  have hts := hC.ts
  have hlt := hG.2.2.2.2.2
  intro f
  induction f with
  | zero =>
    intro H locs cells slots ls x1 x2 x3 x5 x7 x8 M hk hn hZ hl hw
    exact absurd hw (fun h => h)
  | succ f ih =>
    intro H locs cells slots ls x1 x2 x3 x5 x7 x8 M hk hn hZ hl hw
    refine lv_lload hx hb dX9_operandOf_39 (lv_at hl 5 rfl) ?_
    refine lv_lconst (v := 0) hx hb dX9_operandOf_41 (by decide) ?_
    refine W.lcmp hx hb dX9_operandOf_42 ?_
    refine lv_if_eq (tgt := 71) hx hb dX9_operandOf_43 (by decide) (fun c18 => ?_) (fun c18 => ?_)
    · replace hw := hw.1 c18
      exact wk_X9_operandOf_L71 hG _ _ _ _ _ _ _ hk hn hZ (lv_sub hl [0, 1, 2, 3, 4, 5] rfl) hw
    · replace hw := hw.2 c18
      refine lv_lload hx hb dX9_operandOf_46 (lv_at hl 5 rfl) ?_
      refine lv_ldc2 hx hb hown (hts _ q1904) dX9_operandOf_48 ?_
      refine lv_lrem hx hb dX9_operandOf_51 (by decide) ?_
      refine lv_lconst (v := 0) hx hb dX9_operandOf_52 (by decide) ?_
      refine W.lcmp hx hb dX9_operandOf_53 ?_
      refine lv_if_ne (tgt := 71) hx hb dX9_operandOf_54 (by decide) (fun c17 => ?_) (fun c17 => ?_)
      · replace hw := hw.1 c17
        exact wk_X9_operandOf_L71 hG _ _ _ _ _ _ _ hk hn hZ (lv_sub hl [0, 1, 2, 3, 4, 5] rfl) hw
      · replace hw := hw.2 c17
        refine lv_lload hx hb dX9_operandOf_57 (lv_at hl 5 rfl) ?_
        refine lv_ldc2 hx hb hown (hts _ q1904) dX9_operandOf_59 ?_
        refine lv_ldiv hx hb dX9_operandOf_62 (by decide) ?_
        refine lv_lstore (i := 8) (lv' := [(8, .long (x8 / (10 : Int64))), (1, .int x1), (2, .int x2), (3, .long x3), (5, .long x5), (7, .int x7)]) hx hb dX9_operandOf_63 hl (by decide) rfl (fun ls hl1 => ?_)
        replace hl := hl1
        clear hl1
        refine lv_iinc (v := (x7 + (-1))) (lv' := [(7, .int (x7 + (-1))), (8, .long (x8 / (10 : Int64))), (1, .int x1), (2, .int x2), (3, .long x3), (5, .long x5)]) hx hb dX9_operandOf_65 hl (k := 5) rfl rfl (by decide) rfl (fun ls hl1 => ?_)
        replace hl := hl1
        clear hl1
        refine lv_goto (tgt := 39) hx hb dX9_operandOf_68 (by decide) ?_
        exact ih _ _ _ _ _ _ _ hk hn hZ (lv_sub hl [2, 3, 4, 5, 0, 1] rfl) hw
def wp_X9_operandOf_L33 (D : zD) (post : Int64 → zM → Prop) (x1 : Int32) (x2 : Int32) (x3 : Int64) (x5 : Int64) (y0 : Int32) (M : zM) : Prop :=
    (∃ f, wp_X9_operandOf_L39 D post f x1 x2 x3 x5 y0 x5 M)
set_option maxHeartbeats 4000000 in
set_option maxRecDepth 100000 in
theorem wk_X9_operandOf_L33 {p : Program} {l : Launch} {e : Env} {s : State} {m : MethodId} {args : Array Value} {below : List Frame} {meth : Method} {c : Code} {D : zD} {post : Int64 → zM → Prop} (hG : zGx p l s m args meth c cX9_operandOf 10 "PluralBranchesModel" D (some .long) "operandOf" []) : ∀ {H : Heap} {locs : List Loc} {cells slots : Nat} {ls : Array Slot} (x1 : Int32) (x2 : Int32) (x3 : Int64) (x5 : Int64) (y0 : Int32) (M : zM), cells ≤ 0 → slots ≤ 0 → zS D M H locs → lv_has ls 10 [(1, .int x1), (2, .int x2), (3, .long x3), (5, .long x5)] → wp_X9_operandOf_L33 D post x1 x2 x3 x5 y0 M → W p l e rm_X9_operandOf s m args below meth c H locs cells slots (vx_MQ below (zQ D zL post) (zX D (fun _ _ => False)) args s 0 0 (zA D)) (F0 m 33 ls [.int y0]) := by
  have hC := hG.1
  have hx := hC.x
  have hb := hC.b
  have hown := hC.o
  have hts := hC.ts
  have hlt := hG.2.2.2.2.2
  intro H locs cells slots ls x1 x2 x3 x5 y0 M hk hn hZ hl hw
  refine lv_istore (i := 7) (lv' := [(7, .int y0), (1, .int x1), (2, .int x2), (3, .long x3), (5, .long x5)]) hx hb dX9_operandOf_33 hl (by decide) rfl (fun ls hl1 => ?_)
  replace hl := hl1
  clear hl1
  refine lv_lload hx hb dX9_operandOf_35 (lv_at hl 4 rfl) ?_
  refine lv_lstore (i := 8) (lv' := [(8, .long x5), (7, .int y0), (1, .int x1), (2, .int x2), (3, .long x3), (5, .long x5)]) hx hb dX9_operandOf_37 hl (by decide) rfl (fun ls hl1 => ?_)
  replace hl := hl1
  clear hl1
  obtain ⟨f1, hw⟩ := hw
  exact wk_X9_operandOf_L39 hG f1 _ _ _ _ _ _ _ hk hn hZ (lv_sub hl [2, 3, 4, 5, 1, 0] rfl) hw
def wp_X9_operandOf_L12 (D : zD) (post : Int64 → zM → Prop) (x1 : Int32) (x2 : Int32) (y0 : Int64) (M : zM) : Prop :=
    (wp_X9_tens D (fun r19 M => (¬ r19 = 0 ∧ ((¬ (lg_cmp (y0 - y0 / r19 * r19) (0 : Int64)) = 0 → wp_X9_operandOf_L33 D post x1 x2 y0 (y0 - y0 / r19 * r19) x1 M) ∧ ((lg_cmp (y0 - y0 / r19 * r19) (0 : Int64)) = 0 → wp_X9_operandOf_L33 D post x1 x2 y0 (y0 - y0 / r19 * r19) (0 : Int32) M)))) x1 M)
set_option maxHeartbeats 4000000 in
set_option maxRecDepth 100000 in
theorem wk_X9_operandOf_L12 {p : Program} {l : Launch} {e : Env} {s : State} {m : MethodId} {args : Array Value} {below : List Frame} {meth : Method} {c : Code} {D : zD} {post : Int64 → zM → Prop} (hG : zGx p l s m args meth c cX9_operandOf 10 "PluralBranchesModel" D (some .long) "operandOf" []) : ∀ {H : Heap} {locs : List Loc} {cells slots : Nat} {ls : Array Slot} (x1 : Int32) (x2 : Int32) (y0 : Int64) (M : zM), cells ≤ 0 → slots ≤ 0 → zS D M H locs → lv_has ls 10 [(1, .int x1), (2, .int x2)] → wp_X9_operandOf_L12 D post x1 x2 y0 M → W p l e rm_X9_operandOf s m args below meth c H locs cells slots (vx_MQ below (zQ D zL post) (zX D (fun _ _ => False)) args s 0 0 (zA D)) (F0 m 12 ls [.long y0]) := by
  have hC := hG.1
  have hx := hC.x
  have hb := hC.b
  have hown := hC.o
  have hts := hC.ts
  have hlt := hG.2.2.2.2.2
  intro H locs cells slots ls x1 x2 y0 M hk hn hZ hl hw
  refine lv_lstore_n (i := 3) (lv' := [(3, .long y0), (1, .int x1), (2, .int x2)]) hx hb dX9_operandOf_12 rfl hl (by decide) rfl (fun ls hl1 => ?_)
  replace hl := hl1
  clear hl1
  refine lv_lload_n hx hb dX9_operandOf_13 rfl (lv_at hl 0 rfl) ?_
  refine lv_iload_n hx hb dX9_operandOf_14 rfl (lv_at hl 1 rfl) ?_
  refine z_callL hZ (vx_runS (As := [.int x1]) (rest := [.long y0]) hC.fix (w_X9_tens hlt hw) (va_cwS 1 hts (lw_S q1901 q1902 q83 q1903) rfl rfl rfl dd_X9_tens ⟨Nat.le_of_ble_eq_true rfl, Nat.le_of_ble_eq_true rfl⟩) (z_preS hC hZ) rfl rfl hl.1 rfl (lv_room (Nat.le_trans (zrm2 rfl zrm0) (Nat.le_of_ble_eq_true rfl))) dX9_operandOf_15 ⟨hk, hn⟩) (fun r23 M H locs hw1 hZ => ?_) (fun q M H locs ci fs E T9 N9 hw hZ hc1 hM1 hb1 => False.elim hw)
  replace hw := hw1
  clear hw1
  refine W.cs (cells' := cells) (slots' := slots) rfl rfl ?_
  obtain ⟨hz0, hw⟩ := hw
  refine lv_lrem hx hb dX9_operandOf_18 hz0 ?_
  refine lv_lstore (i := 5) (lv' := [(5, .long (y0 - y0 / r23 * r23)), (3, .long y0), (1, .int x1), (2, .int x2)]) hx hb dX9_operandOf_19 hl (by decide) rfl (fun ls hl1 => ?_)
  replace hl := hl1
  clear hl1
  refine lv_lload hx hb dX9_operandOf_21 (lv_at hl 0 rfl) ?_
  refine lv_lconst (v := 0) hx hb dX9_operandOf_23 (by decide) ?_
  refine W.lcmp hx hb dX9_operandOf_24 ?_
  refine lv_if_ne (tgt := 32) hx hb dX9_operandOf_25 (by decide) (fun c26 => ?_) (fun c26 => ?_)
  · replace hw := hw.1 c26
    refine lv_iload_n hx hb dX9_operandOf_32 rfl (lv_at hl 2 rfl) ?_
    exact wk_X9_operandOf_L33 hG _ _ _ _ _ _ hk hn hZ (lv_sub hl [2, 3, 1, 0] rfl) hw
  · replace hw := hw.2 c26
    refine lv_iconst (v := 0) hx hb dX9_operandOf_28 (by decide) ?_
    refine lv_goto (tgt := 33) hx hb dX9_operandOf_29 (by decide) ?_
    exact wk_X9_operandOf_L33 hG _ _ _ _ _ _ hk hn hZ (lv_sub hl [2, 3, 1, 0] rfl) hw
def wp_X9_operandOf (D : zD) (post : Int64 → zM → Prop) (a0 : Int32) (a1 : Int32) (a2 : Int32) (M : zM) : Prop :=
    ((0 ≤ a0 → wp_X9_operandOf_L12 D post a1 a2 (a0.toInt64) M) ∧ (¬ 0 ≤ a0 → wp_X9_operandOf_L12 D post a1 a2 (-(a0.toInt64)) M))
set_option maxHeartbeats 4000000 in
set_option maxRecDepth 100000 in
theorem w_X9_operandOf {l : Launch} {D : zD} {post : Int64 → zM → Prop} (hlt : l.stackTraces = false) {a0 : Int32} {a1 : Int32} {a2 : Int32} {M : zM} (hw : wp_X9_operandOf D post a0 a1 a2 M) : zMet l D yX9_operandOf (ws_ yX9_operandOf cX9_operandOf 10 (some .long)) rm_X9_operandOf 0 0 [.int a0, .int a1, .int a2] M zL post (fun _ _ => False) := by
  unfold wp_X9_operandOf at hw
  have hlv : lv_args 0 [.int a0, .int a1, .int a2] = [(0, .int a0), (1, .int a1), (2, .int a2)] := (zargs1 rfl (zargs1 rfl (zargs1 rfl rfl)))
  refine z_ofW hlt (by decide) (Nat.le_trans (zsl1 rfl (zsl1 rfl (zsl1 rfl (Nat.le_refl 0 : (lg_sl []).length ≤ 0)))) (Nat.le_of_ble_eq_true rfl)) hlv ?_
  intro p e s m args below meth c ls hG hZ hl
  have hC := hG.1
  have hx := hC.x
  have hb := hC.b
  have hown := hC.o
  have hts := hC.ts
  have hlt := hG.2.2.2.2.2
  obtain ⟨cells, hce⟩ : ∃ z : Nat, z = 0 := ⟨0, rfl⟩
  obtain ⟨slots, hsl⟩ : ∃ z : Nat, z = 0 := ⟨0, rfl⟩
  refine W.cs (cells' := cells) (slots' := slots) hce.symm hsl.symm ?_
  have hk : cells ≤ 0 := Nat.le_of_eq hce
  have hn : slots ≤ 0 := Nat.le_of_eq hsl
  clear hce hsl
  refine lv_iload_n hx hb dX9_operandOf_0 rfl (lv_at hl 0 rfl) ?_
  refine lv_if_ge (tgt := 10) hx hb dX9_operandOf_1 (by decide) (fun c28 => ?_) (fun c28 => ?_)
  · replace hw := hw.1 c28
    refine lv_iload_n hx hb dX9_operandOf_10 rfl (lv_at hl 0 rfl) ?_
    refine lv_i2l hx hb dX9_operandOf_11 rfl ?_
    exact wk_X9_operandOf_L12 hG _ _ _ _ hk hn hZ (lv_sub hl [1, 2] rfl) hw
  · replace hw := hw.2 c28
    refine lv_iload_n hx hb dX9_operandOf_4 rfl (lv_at hl 0 rfl) ?_
    refine lv_i2l hx hb dX9_operandOf_5 rfl ?_
    refine lv_lneg hx hb dX9_operandOf_6 ?_
    refine lv_goto (tgt := 12) hx hb dX9_operandOf_7 (by decide) ?_
    exact wk_X9_operandOf_L12 hG _ _ _ _ hk hn hZ (lv_sub hl [1, 2] rfl) hw
abbrev rm_X9_ownHolds : Room := { frames := 3, cells := 0, slots := 0, locals := 116 }
def wp_X9_ownHolds_L113 (D : zD) (post : Int32 → zM → Prop) (o : Nat) (k6 : Int32 → Int32 → Int32 → Int32 → Int32 → zM → Prop) (x1 : Int32) (x2 : Int32) (x3 : Int32) (x4 : Int32) (x5 : Int32) (M : zM) : Prop :=
    k6 x1 x2 x3 x4 (x5 + 1) M
set_option maxHeartbeats 4000000 in
set_option maxRecDepth 100000 in
theorem wk_X9_ownHolds_L113 {p : Program} {l : Launch} {e : Env} {s : State} {m : MethodId} {args : Array Value} {below : List Frame} {meth : Method} {c : Code} {D : zD} {post : Int32 → zM → Prop} {o : Nat} (hG : zGx p l s m args meth c cX9_ownHolds 8 "PluralBranchesModel" D (some .boolean) "ownHolds" []) (k6 : Int32 → Int32 → Int32 → Int32 → Int32 → zM → Prop) (hk6 : ∀ {H : Heap} {locs : List Loc} {cells slots : Nat} {ls : Array Slot} (x1 : Int32) (x2 : Int32) (x3 : Int32) (x4 : Int32) (x5 : Int32) (M : zM), cells ≤ 0 → slots ≤ 0 → zS D M H locs → lv_has ls 8 [(0, .ref o), (1, .int x1), (2, .int x2), (3, .int x3), (4, .int x4), (5, .int x5)] → k6 x1 x2 x3 x4 x5 M → W p l e rm_X9_ownHolds s m args below meth c H locs cells slots (vx_MQ below (zQ D zI post) (zX D (fun _ _ => False)) args s 0 0 (zA D)) (F0 m 6 ls [])) : ∀ {H : Heap} {locs : List Loc} {cells slots : Nat} {ls : Array Slot} (x1 : Int32) (x2 : Int32) (x3 : Int32) (x4 : Int32) (x5 : Int32) (M : zM), cells ≤ 0 → slots ≤ 0 → zS D M H locs → lv_has ls 8 [(0, .ref o), (1, .int x1), (2, .int x2), (3, .int x3), (4, .int x4), (5, .int x5)] → wp_X9_ownHolds_L113 D post o k6 x1 x2 x3 x4 x5 M → W p l e rm_X9_ownHolds s m args below meth c H locs cells slots (vx_MQ below (zQ D zI post) (zX D (fun _ _ => False)) args s 0 0 (zA D)) (F0 m 113 ls []) := by
  have hC := hG.1
  have hx := hC.x
  have hb := hC.b
  have hown := hC.o
  have hts := hC.ts
  have hlt := hG.2.2.2.2.2
  intro H locs cells slots ls x1 x2 x3 x4 x5 M hk hn hZ hl hw
  refine lv_iinc (v := (x5 + 1)) (lv' := [(5, .int (x5 + 1)), (0, .ref o), (1, .int x1), (2, .int x2), (3, .int x3), (4, .int x4)]) hx hb dX9_ownHolds_113 hl (k := 5) rfl rfl (by decide) rfl (fun ls hl1 => ?_)
  replace hl := hl1
  clear hl1
  refine lv_goto (tgt := 6) hx hb dX9_ownHolds_116 (by decide) ?_
  exact hk6 _ _ _ _ _ _ hk hn hZ (lv_sub hl [1, 2, 3, 4, 5, 0] rfl) hw
def wp_X9_ownHolds_L108 (D : zD) (post : Int32 → zM → Prop) (o : Nat) (k6 : Int32 → Int32 → Int32 → Int32 → Int32 → zM → Prop) (x1 : Int32) (x2 : Int32) (x3 : Int32) (x4 : Int32) (x5 : Int32) (y0 : Int32) (y1 : Int32) (M : zM) : Prop :=
    ((¬ y0 = y1 → wp_X9_ownHolds_L113 D post o k6 x1 x2 x3 x4 x5 M) ∧ (y0 = y1 → (narrow .boolean (.int (0 : Int32)) = .int (0 : Int32) ∧ post (0 : Int32) M)))
set_option maxHeartbeats 4000000 in
set_option maxRecDepth 100000 in
theorem wk_X9_ownHolds_L108 {p : Program} {l : Launch} {e : Env} {s : State} {m : MethodId} {args : Array Value} {below : List Frame} {meth : Method} {c : Code} {D : zD} {post : Int32 → zM → Prop} {o : Nat} (hG : zGx p l s m args meth c cX9_ownHolds 8 "PluralBranchesModel" D (some .boolean) "ownHolds" []) (k6 : Int32 → Int32 → Int32 → Int32 → Int32 → zM → Prop) (hk6 : ∀ {H : Heap} {locs : List Loc} {cells slots : Nat} {ls : Array Slot} (x1 : Int32) (x2 : Int32) (x3 : Int32) (x4 : Int32) (x5 : Int32) (M : zM), cells ≤ 0 → slots ≤ 0 → zS D M H locs → lv_has ls 8 [(0, .ref o), (1, .int x1), (2, .int x2), (3, .int x3), (4, .int x4), (5, .int x5)] → k6 x1 x2 x3 x4 x5 M → W p l e rm_X9_ownHolds s m args below meth c H locs cells slots (vx_MQ below (zQ D zI post) (zX D (fun _ _ => False)) args s 0 0 (zA D)) (F0 m 6 ls [])) : ∀ {H : Heap} {locs : List Loc} {cells slots : Nat} {ls : Array Slot} (x1 : Int32) (x2 : Int32) (x3 : Int32) (x4 : Int32) (x5 : Int32) (y0 : Int32) (y1 : Int32) (M : zM), cells ≤ 0 → slots ≤ 0 → zS D M H locs → lv_has ls 8 [(0, .ref o), (1, .int x1), (2, .int x2), (3, .int x3), (4, .int x4), (5, .int x5)] → wp_X9_ownHolds_L108 D post o k6 x1 x2 x3 x4 x5 y0 y1 M → W p l e rm_X9_ownHolds s m args below meth c H locs cells slots (vx_MQ below (zQ D zI post) (zX D (fun _ _ => False)) args s 0 0 (zA D)) (F0 m 108 ls [.int y1, .int y0]) := by
  have hC := hG.1
  have hx := hC.x
  have hb := hC.b
  have hown := hC.o
  have hts := hC.ts
  have hlt := hG.2.2.2.2.2
  intro H locs cells slots ls x1 x2 x3 x4 x5 y0 y1 M hk hn hZ hl hw
  refine lv_icmp_ne (tgt := 113) hx hb dX9_ownHolds_108 (by decide) (fun c2 => ?_) (fun c2 => ?_)
  · replace hw := hw.1 c2
    exact wk_X9_ownHolds_L113 hG k6 hk6 _ _ _ _ _ _ hk hn hZ (lv_sub hl [0, 1, 2, 3, 4, 5] rfl) hw
  · replace hw := hw.2 c2
    refine lv_iconst (v := 0) hx hb dX9_ownHolds_111 (by decide) ?_
    exact z_zret hG hZ hk hn hw.1 hw.2 dX9_ownHolds_112
def wp_X9_ownHolds_L69 (D : zD) (post : Int32 → zM → Prop) (o : Nat) (k6 : Int32 → Int32 → Int32 → Int32 → Int32 → zM → Prop) (x1 : Int32) (x2 : Int32) (x3 : Int32) (x4 : Int32) (x5 : Int32) (y0 : Int64) (M : zM) : Prop :=
    (zgR M o 8 4 fun g3 => ((zd g3 fun b4 => zaI M b4 0 x5 fun v5 => (zgR M o 8 5 fun g6 => ((zd g6 fun b7 => zaI M b7 0 x5 fun v8 => (wp_X9_in D (fun r9 M => (zgR M o 8 6 fun g12 => ((zd g12 fun b13 => zaI M b13 0 x5 fun v14 => ((¬ v14 = (1 : Int32) → wp_X9_ownHolds_L108 D post o k6 x1 x2 x3 x4 x5 r9 (0 : Int32) M) ∧ (v14 = (1 : Int32) → wp_X9_ownHolds_L108 D post o k6 x1 x2 x3 x4 x5 r9 (1 : Int32) M)))))) y0 (v5.toInt64) (v8.toInt64) M)))))))
set_option maxHeartbeats 4000000 in
set_option maxRecDepth 100000 in
theorem wk_X9_ownHolds_L69 {p : Program} {l : Launch} {e : Env} {s : State} {m : MethodId} {args : Array Value} {below : List Frame} {meth : Method} {c : Code} {D : zD} {post : Int32 → zM → Prop} {o : Nat} (hG : zGx p l s m args meth c cX9_ownHolds 8 "PluralBranchesModel" D (some .boolean) "ownHolds" []) (k6 : Int32 → Int32 → Int32 → Int32 → Int32 → zM → Prop) (hk6 : ∀ {H : Heap} {locs : List Loc} {cells slots : Nat} {ls : Array Slot} (x1 : Int32) (x2 : Int32) (x3 : Int32) (x4 : Int32) (x5 : Int32) (M : zM), cells ≤ 0 → slots ≤ 0 → zS D M H locs → lv_has ls 8 [(0, .ref o), (1, .int x1), (2, .int x2), (3, .int x3), (4, .int x4), (5, .int x5)] → k6 x1 x2 x3 x4 x5 M → W p l e rm_X9_ownHolds s m args below meth c H locs cells slots (vx_MQ below (zQ D zI post) (zX D (fun _ _ => False)) args s 0 0 (zA D)) (F0 m 6 ls [])) : ∀ {H : Heap} {locs : List Loc} {cells slots : Nat} {ls : Array Slot} (x1 : Int32) (x2 : Int32) (x3 : Int32) (x4 : Int32) (x5 : Int32) (y0 : Int64) (M : zM), cells ≤ 0 → slots ≤ 0 → zS D M H locs → lv_has ls 8 [(0, .ref o), (1, .int x1), (2, .int x2), (3, .int x3), (4, .int x4), (5, .int x5)] → wp_X9_ownHolds_L69 D post o k6 x1 x2 x3 x4 x5 y0 M → W p l e rm_X9_ownHolds s m args below meth c H locs cells slots (vx_MQ below (zQ D zI post) (zX D (fun _ _ => False)) args s 0 0 (zA D)) (F0 m 69 ls [.long y0]) := by
  have hC := hG.1
  have hx := hC.x
  have hb := hC.b
  have hown := hC.o
  have hts := hC.ts
  have hlt := hG.2.2.2.2.2
  intro H locs cells slots ls x1 x2 x3 x4 x5 y0 M hk hn hZ hl hw
  refine lv_lstore (i := 6) (lv' := [(6, .long y0), (0, .ref o), (1, .int x1), (2, .int x2), (3, .int x3), (4, .int x4), (5, .int x5)]) hx hb dX9_ownHolds_69 hl (by decide) rfl (fun ls hl1 => ?_)
  replace hl := hl1
  clear hl1
  refine lv_lload hx hb dX9_ownHolds_71 (lv_at hl 0 rfl) ?_
  refine lv_aload_n hx hb dX9_ownHolds_73 rfl (lv_at hl 1 rfl) ?_
  obtain ⟨fs0, g16, hM0, hx0, hw⟩ := hw
  refine z_get hC hZ hM0 zc8 4 (by decide) q1724 (fun _ h9 => h9) hx0 dX9_ownHolds_74 ?_
  refine lv_iload hx hb dX9_ownHolds_77 (lv_at hl 6 rfl) ?_
  obtain ⟨b17, hr0, hw⟩ := hw
  subst hr0
  obtain ⟨n0, f0, hM0, hi0, hw⟩ := hw
  refine z_iald hC hZ hM0 hi0 dX9_ownHolds_79 ?_
  generalize f0 _ = v18 at hw ⊢
  refine lv_i2l hx hb dX9_ownHolds_80 rfl ?_
  refine lv_aload_n hx hb dX9_ownHolds_81 rfl (lv_at hl 1 rfl) ?_
  obtain ⟨fs0, g19, hM0, hx0, hw⟩ := hw
  refine z_get hC hZ hM0 zc8 5 (by decide) q1725 (fun _ h9 => h9) hx0 dX9_ownHolds_82 ?_
  refine lv_iload hx hb dX9_ownHolds_85 (lv_at hl 6 rfl) ?_
  obtain ⟨b20, hr0, hw⟩ := hw
  subst hr0
  obtain ⟨n0, f0, hM0, hi0, hw⟩ := hw
  refine z_iald hC hZ hM0 hi0 dX9_ownHolds_87 ?_
  generalize f0 _ = v21 at hw ⊢
  refine lv_i2l hx hb dX9_ownHolds_88 rfl ?_
  refine z_callI hZ (vx_runS (As := [.long y0, .long (v18.toInt64), .long (v21.toInt64)]) (rest := []) hC.fix (w_X9_in hlt hw) (va_cwS 3 hts (lw_S q1894 q1895 q83 q1896) rfl rfl rfl dd_X9_in ⟨Nat.le_of_ble_eq_true rfl, Nat.le_of_ble_eq_true rfl⟩) (z_preS hC hZ) rfl rfl hl.1 rfl (lv_room (Nat.zero_le _)) dX9_ownHolds_89 ⟨hk, hn⟩) (fun r22 M H locs hw1 hZ => ?_) (fun q M H locs ci fs E T9 N9 hw hZ hc1 hM1 hb1 => False.elim hw)
  replace hw := hw1
  clear hw1
  refine W.cs (cells' := cells) (slots' := slots) rfl rfl ?_
  refine lv_aload_n hx hb dX9_ownHolds_92 rfl (lv_at hl 1 rfl) ?_
  obtain ⟨fs0, g25, hM0, hx0, hw⟩ := hw
  refine z_get hC hZ hM0 zc8 6 (by decide) q1726 (fun _ h9 => h9) hx0 dX9_ownHolds_93 ?_
  refine lv_iload hx hb dX9_ownHolds_96 (lv_at hl 6 rfl) ?_
  obtain ⟨b26, hr0, hw⟩ := hw
  subst hr0
  obtain ⟨n0, f0, hM0, hi0, hw⟩ := hw
  refine z_iald hC hZ hM0 hi0 dX9_ownHolds_98 ?_
  generalize f0 _ = v27 at hw ⊢
  refine lv_iconst (v := 1) hx hb dX9_ownHolds_99 (by decide) ?_
  refine lv_icmp_ne (tgt := 107) hx hb dX9_ownHolds_100 (by decide) (fun c28 => ?_) (fun c28 => ?_)
  · replace hw := hw.1 c28
    refine lv_iconst (v := 0) hx hb dX9_ownHolds_107 (by decide) ?_
    exact wk_X9_ownHolds_L108 hG k6 hk6 _ _ _ _ _ _ _ _ hk hn hZ (lv_sub hl [1, 2, 3, 4, 5, 6] rfl) hw
  · replace hw := hw.2 c28
    refine lv_iconst (v := 1) hx hb dX9_ownHolds_103 (by decide) ?_
    refine lv_goto (tgt := 108) hx hb dX9_ownHolds_104 (by decide) ?_
    exact wk_X9_ownHolds_L108 hG k6 hk6 _ _ _ _ _ _ _ _ hk hn hZ (lv_sub hl [1, 2, 3, 4, 5, 6] rfl) hw
def wp_X9_ownHolds_L6 (D : zD) (post : Int32 → zM → Prop) (o : Nat) : Nat → Int32 → Int32 → Int32 → Int32 → Int32 → zM → Prop
  | 0 => fun _ _ _ _ _ _ => False
  | f + 1 => fun x1 x2 x3 x4 x5 M =>
    (zgI M o 8 0 fun g29 => ((g29 ≤ x5 → (narrow .boolean (.int x4) = .int x4 ∧ post x4 M)) ∧ (¬ g29 ≤ x5 → (zgR M o 8 1 fun g30 => ((zd g30 fun b31 => zaI M b31 0 x5 fun v32 => ((¬ v32 = x1 → wp_X9_ownHolds_L113 D post o (wp_X9_ownHolds_L6 D post o f) x1 x2 x3 x4 x5 M) ∧ (v32 = x1 → (zgR M o 8 2 fun g33 => ((zd g33 fun b34 => zaI M b34 0 x5 fun v35 => (wp_X9_operandOf D (fun r36 M => (zgR M o 8 3 fun g39 => ((zd g39 fun b40 => zaI M b40 0 x5 fun v41 => ((¬ v41 = 0 → (zgR M o 8 3 fun g42 => ((zd g42 fun b43 => zaI M b43 0 x5 fun v44 => (¬ (v44.toInt64) = 0 ∧ wp_X9_ownHolds_L69 D post o (wp_X9_ownHolds_L6 D post o f) x1 x2 x3 (1 : Int32) x5 (r36 - r36 / (v44.toInt64) * (v44.toInt64)) M))))) ∧ (v41 = 0 → wp_X9_ownHolds_L69 D post o (wp_X9_ownHolds_L6 D post o f) x1 x2 x3 (1 : Int32) x5 r36 M)))))) x2 x3 v35 M))))))))))))
set_option maxHeartbeats 4000000 in
set_option maxRecDepth 100000 in
theorem wk_X9_ownHolds_L6 {p : Program} {l : Launch} {e : Env} {s : State} {m : MethodId} {args : Array Value} {below : List Frame} {meth : Method} {c : Code} {D : zD} {post : Int32 → zM → Prop} {o : Nat} (hG : zGx p l s m args meth c cX9_ownHolds 8 "PluralBranchesModel" D (some .boolean) "ownHolds" []) : ∀ (f : Nat), ∀ {H : Heap} {locs : List Loc} {cells slots : Nat} {ls : Array Slot} (x1 : Int32) (x2 : Int32) (x3 : Int32) (x4 : Int32) (x5 : Int32) (M : zM), cells ≤ 0 → slots ≤ 0 → zS D M H locs → lv_has ls 8 [(0, .ref o), (1, .int x1), (2, .int x2), (3, .int x3), (4, .int x4), (5, .int x5)] → wp_X9_ownHolds_L6 D post o f x1 x2 x3 x4 x5 M → W p l e rm_X9_ownHolds s m args below meth c H locs cells slots (vx_MQ below (zQ D zI post) (zX D (fun _ _ => False)) args s 0 0 (zA D)) (F0 m 6 ls []) := by
  have hC := hG.1
  have hx := hC.x
  have hb := hC.b
  have hown := hC.o
  have hts := hC.ts
  have hlt := hG.2.2.2.2.2
  intro f
  induction f with
  | zero =>
    intro H locs cells slots ls x1 x2 x3 x4 x5 M hk hn hZ hl hw
    exact absurd hw (fun h => h)
  | succ f ih =>
    intro H locs cells slots ls x1 x2 x3 x4 x5 M hk hn hZ hl hw
    refine lv_iload hx hb dX9_ownHolds_6 (lv_at hl 5 rfl) ?_
    refine lv_aload_n hx hb dX9_ownHolds_8 rfl (lv_at hl 0 rfl) ?_
    obtain ⟨fs0, g48, hM0, hx0, hw⟩ := hw
    refine z_get hC hZ hM0 zc8 0 (by decide) q1720 (fun _ h9 => h9) hx0 dX9_ownHolds_9 ?_
    refine lv_icmp_ge (tgt := 119) hx hb dX9_ownHolds_12 (by decide) (fun c66 => ?_) (fun c66 => ?_)
    · replace hw := hw.1 c66
      refine lv_iload hx hb dX9_ownHolds_119 (lv_at hl 4 rfl) ?_
      exact z_zret hG hZ hk hn hw.1 hw.2 dX9_ownHolds_121
    · replace hw := hw.2 c66
      refine lv_aload_n hx hb dX9_ownHolds_15 rfl (lv_at hl 0 rfl) ?_
      obtain ⟨fs0, g49, hM0, hx0, hw⟩ := hw
      refine z_get hC hZ hM0 zc8 1 (by decide) q1721 (fun _ h9 => h9) hx0 dX9_ownHolds_16 ?_
      refine lv_iload hx hb dX9_ownHolds_19 (lv_at hl 5 rfl) ?_
      obtain ⟨b50, hr0, hw⟩ := hw
      subst hr0
      obtain ⟨n0, f0, hM0, hi0, hw⟩ := hw
      refine z_iald hC hZ hM0 hi0 dX9_ownHolds_21 ?_
      generalize f0 _ = v51 at hw ⊢
      refine lv_iload_n hx hb dX9_ownHolds_22 rfl (lv_at hl 1 rfl) ?_
      refine lv_icmp_ne (tgt := 113) hx hb dX9_ownHolds_23 (by decide) (fun c65 => ?_) (fun c65 => ?_)
      · replace hw := hw.1 c65
        exact wk_X9_ownHolds_L113 hG _ (fun {_ _ _ _ _} _z0 _z1 _z2 _z3 _z4 _z5 h1 h2 h3 h4 h5 => ih _z0 _z1 _z2 _z3 _z4 _z5 h1 h2 h3 h4 h5) _ _ _ _ _ _ hk hn hZ (lv_sub hl [0, 1, 2, 3, 4, 5] rfl) hw
      · replace hw := hw.2 c65
        refine lv_iconst (v := 1) hx hb dX9_ownHolds_26 (by decide) ?_
        refine lv_istore (i := 4) (lv' := [(4, .int (1 : Int32)), (0, .ref o), (1, .int x1), (2, .int x2), (3, .int x3), (5, .int x5)]) hx hb dX9_ownHolds_27 hl (by decide) rfl (fun ls hl1 => ?_)
        replace hl := hl1
        clear hl1
        refine lv_iload_n hx hb dX9_ownHolds_29 rfl (lv_at hl 3 rfl) ?_
        refine lv_iload_n hx hb dX9_ownHolds_30 rfl (lv_at hl 4 rfl) ?_
        refine lv_aload_n hx hb dX9_ownHolds_31 rfl (lv_at hl 1 rfl) ?_
        obtain ⟨fs0, g52, hM0, hx0, hw⟩ := hw
        refine z_get hC hZ hM0 zc8 2 (by decide) q1722 (fun _ h9 => h9) hx0 dX9_ownHolds_32 ?_
        refine lv_iload hx hb dX9_ownHolds_35 (lv_at hl 5 rfl) ?_
        obtain ⟨b53, hr0, hw⟩ := hw
        subst hr0
        obtain ⟨n0, f0, hM0, hi0, hw⟩ := hw
        refine z_iald hC hZ hM0 hi0 dX9_ownHolds_37 ?_
        generalize f0 _ = v54 at hw ⊢
        refine z_callL hZ (vx_runS (As := [.int x2, .int x3, .int v54]) (rest := []) hC.fix (w_X9_operandOf hlt hw) (va_cwS 3 hts (lw_S q1898 q1899 q83 q1900) rfl rfl rfl dd_X9_operandOf ⟨Nat.le_of_ble_eq_true rfl, Nat.le_of_ble_eq_true rfl⟩) (z_preS hC hZ) rfl rfl hl.1 rfl (lv_room (Nat.zero_le _)) dX9_ownHolds_38 ⟨hk, hn⟩) (fun r55 M H locs hw1 hZ => ?_) (fun q M H locs ci fs E T9 N9 hw hZ hc1 hM1 hb1 => False.elim hw)
        replace hw := hw1
        clear hw1
        refine W.cs (cells' := cells) (slots' := slots) rfl rfl ?_
        refine lv_lstore (i := 6) (lv' := [(6, .long r55), (4, .int (1 : Int32)), (0, .ref o), (1, .int x1), (2, .int x2), (3, .int x3), (5, .int x5)]) hx hb dX9_ownHolds_41 hl (by decide) rfl (fun ls hl1 => ?_)
        replace hl := hl1
        clear hl1
        refine lv_aload_n hx hb dX9_ownHolds_43 rfl (lv_at hl 2 rfl) ?_
        obtain ⟨fs0, g58, hM0, hx0, hw⟩ := hw
        refine z_get hC hZ hM0 zc8 3 (by decide) q1723 (fun _ h9 => h9) hx0 dX9_ownHolds_44 ?_
        refine lv_iload hx hb dX9_ownHolds_47 (lv_at hl 6 rfl) ?_
        obtain ⟨b59, hr0, hw⟩ := hw
        subst hr0
        obtain ⟨n0, f0, hM0, hi0, hw⟩ := hw
        refine z_iald hC hZ hM0 hi0 dX9_ownHolds_49 ?_
        generalize f0 _ = v60 at hw ⊢
        refine lv_if_ne (tgt := 58) hx hb dX9_ownHolds_50 (by decide) (fun c64 => ?_) (fun c64 => ?_)
        · replace hw := hw.1 c64
          refine lv_lload hx hb dX9_ownHolds_58 (lv_at hl 0 rfl) ?_
          refine lv_aload_n hx hb dX9_ownHolds_60 rfl (lv_at hl 2 rfl) ?_
          obtain ⟨fs0, g61, hM0, hx0, hw⟩ := hw
          refine z_get hC hZ hM0 zc8 3 (by decide) q1723 (fun _ h9 => h9) hx0 dX9_ownHolds_61 ?_
          refine lv_iload hx hb dX9_ownHolds_64 (lv_at hl 6 rfl) ?_
          obtain ⟨b62, hr0, hw⟩ := hw
          subst hr0
          obtain ⟨n0, f0, hM0, hi0, hw⟩ := hw
          refine z_iald hC hZ hM0 hi0 dX9_ownHolds_66 ?_
          generalize f0 _ = v63 at hw ⊢
          refine lv_i2l hx hb dX9_ownHolds_67 rfl ?_
          obtain ⟨hz0, hw⟩ := hw
          refine lv_lrem hx hb dX9_ownHolds_68 hz0 ?_
          exact wk_X9_ownHolds_L69 hG _ (fun {_ _ _ _ _} _z0 _z1 _z2 _z3 _z4 _z5 h1 h2 h3 h4 h5 => ih _z0 _z1 _z2 _z3 _z4 _z5 h1 h2 h3 h4 h5) _ _ _ _ _ _ _ hk hn hZ (lv_sub hl [2, 3, 4, 5, 1, 6] rfl) hw
        · replace hw := hw.2 c64
          refine lv_lload hx hb dX9_ownHolds_53 (lv_at hl 0 rfl) ?_
          refine lv_goto (tgt := 69) hx hb dX9_ownHolds_55 (by decide) ?_
          exact wk_X9_ownHolds_L69 hG _ (fun {_ _ _ _ _} _z0 _z1 _z2 _z3 _z4 _z5 h1 h2 h3 h4 h5 => ih _z0 _z1 _z2 _z3 _z4 _z5 h1 h2 h3 h4 h5) _ _ _ _ _ _ _ hk hn hZ (lv_sub hl [2, 3, 4, 5, 1, 6] rfl) hw
def wp_X9_ownHolds (D : zD) (post : Int32 → zM → Prop) (o : Nat) (a0 : Int32) (a1 : Int32) (a2 : Int32) (M : zM) : Prop :=
    (∃ f, wp_X9_ownHolds_L6 D post o f a0 a1 a2 (0 : Int32) (0 : Int32) M)
set_option maxHeartbeats 4000000 in
set_option maxRecDepth 100000 in
theorem w_X9_ownHolds {l : Launch} {D : zD} {post : Int32 → zM → Prop} (hlt : l.stackTraces = false) {o : Nat} {a0 : Int32} {a1 : Int32} {a2 : Int32} {M : zM} (hw : wp_X9_ownHolds D post o a0 a1 a2 M) : zMet l D yX9_ownHolds (ws_ yX9_ownHolds cX9_ownHolds 8 (some .boolean)) rm_X9_ownHolds 0 0 [.ref o, .int a0, .int a1, .int a2] M zI post (fun _ _ => False) := by
  unfold wp_X9_ownHolds at hw
  have hlv : lv_args 0 [.ref o, .int a0, .int a1, .int a2] = [(0, .ref o), (1, .int a0), (2, .int a1), (3, .int a2)] := (zargs1 rfl (zargs1 rfl (zargs1 rfl (zargs1 rfl rfl))))
  refine z_ofW hlt (by decide) (Nat.le_trans (zsl1 rfl (zsl1 rfl (zsl1 rfl (zsl1 rfl (Nat.le_refl 0 : (lg_sl []).length ≤ 0))))) (Nat.le_of_ble_eq_true rfl)) hlv ?_
  intro p e s m args below meth c ls hG hZ hl
  have hC := hG.1
  have hx := hC.x
  have hb := hC.b
  have hown := hC.o
  have hts := hC.ts
  have hlt := hG.2.2.2.2.2
  obtain ⟨cells, hce⟩ : ∃ z : Nat, z = 0 := ⟨0, rfl⟩
  obtain ⟨slots, hsl⟩ : ∃ z : Nat, z = 0 := ⟨0, rfl⟩
  refine W.cs (cells' := cells) (slots' := slots) hce.symm hsl.symm ?_
  have hk : cells ≤ 0 := Nat.le_of_eq hce
  have hn : slots ≤ 0 := Nat.le_of_eq hsl
  clear hce hsl
  refine lv_iconst (v := 0) hx hb dX9_ownHolds_0 (by decide) ?_
  refine lv_istore (i := 4) (lv' := [(4, .int (0 : Int32)), (0, .ref o), (1, .int a0), (2, .int a1), (3, .int a2)]) hx hb dX9_ownHolds_1 hl (by decide) rfl (fun ls hl1 => ?_)
  replace hl := hl1
  clear hl1
  refine lv_iconst (v := 0) hx hb dX9_ownHolds_3 (by decide) ?_
  refine lv_istore (i := 5) (lv' := [(5, .int (0 : Int32)), (4, .int (0 : Int32)), (0, .ref o), (1, .int a0), (2, .int a1), (3, .int a2)]) hx hb dX9_ownHolds_4 hl (by decide) rfl (fun ls hl1 => ?_)
  replace hl := hl1
  clear hl1
  obtain ⟨f1, hw⟩ := hw
  exact wk_X9_ownHolds_L6 hG f1 _ _ _ _ _ _ hk hn hZ (lv_sub hl [2, 3, 4, 5, 1, 0] rfl) hw
abbrev rm_X9_holds : Room := { frames := 4, cells := 0, slots := 0, locals := 143 }
def wp_X9_holds_L496 (D : zD) (post : Int32 → zM → Prop) (o : Nat) (y0 : Int32) (M : zM) : Prop :=
    (narrow .boolean (.int y0) = .int y0 ∧ post y0 M)
set_option maxHeartbeats 4000000 in
set_option maxRecDepth 100000 in
theorem wk_X9_holds_L496 {p : Program} {l : Launch} {e : Env} {s : State} {m : MethodId} {args : Array Value} {below : List Frame} {meth : Method} {c : Code} {D : zD} {post : Int32 → zM → Prop} {o : Nat} (hG : zGx p l s m args meth c cX9_holds 14 "PluralBranchesModel" D (some .boolean) "holds" []) : ∀ {H : Heap} {locs : List Loc} {cells slots : Nat} {ls : Array Slot} (y0 : Int32) (M : zM), cells ≤ 0 → slots ≤ 0 → zS D M H locs → lv_has ls 14 [] → wp_X9_holds_L496 D post o y0 M → W p l e rm_X9_holds s m args below meth c H locs cells slots (vx_MQ below (zQ D zI post) (zX D (fun _ _ => False)) args s 0 0 (zA D)) (F0 m 496 ls [.int y0]) := by
  have hC := hG.1
  have hx := hC.x
  have hb := hC.b
  have hown := hC.o
  have hts := hC.ts
  have hlt := hG.2.2.2.2.2
  intro H locs cells slots ls y0 M hk hn hZ hl hw
  exact z_zret hG hZ hk hn hw.1 hw.2 dX9_holds_496
def wp_X9_holds_L495 (D : zD) (post : Int32 → zM → Prop) (o : Nat) (M : zM) : Prop :=
    wp_X9_holds_L496 D post o (0 : Int32) M
set_option maxHeartbeats 4000000 in
set_option maxRecDepth 100000 in
theorem wk_X9_holds_L495 {p : Program} {l : Launch} {e : Env} {s : State} {m : MethodId} {args : Array Value} {below : List Frame} {meth : Method} {c : Code} {D : zD} {post : Int32 → zM → Prop} {o : Nat} (hG : zGx p l s m args meth c cX9_holds 14 "PluralBranchesModel" D (some .boolean) "holds" []) : ∀ {H : Heap} {locs : List Loc} {cells slots : Nat} {ls : Array Slot} (M : zM), cells ≤ 0 → slots ≤ 0 → zS D M H locs → lv_has ls 14 [] → wp_X9_holds_L495 D post o M → W p l e rm_X9_holds s m args below meth c H locs cells slots (vx_MQ below (zQ D zI post) (zX D (fun _ _ => False)) args s 0 0 (zA D)) (F0 m 495 ls []) := by
  have hC := hG.1
  have hx := hC.x
  have hb := hC.b
  have hown := hC.o
  have hts := hC.ts
  have hlt := hG.2.2.2.2.2
  intro H locs cells slots ls M hk hn hZ hl hw
  refine lv_iconst (v := 0) hx hb dX9_holds_495 (by decide) ?_
  exact wk_X9_holds_L496 hG _ _ hk hn hZ (lv_sub hl [] rfl) hw
def wp_X9_holds_L474 (D : zD) (post : Int32 → zM → Prop) (o : Nat) (x1 : Int32) (x2 : Int32) (x3 : Int32) (x4 : Int32) (M : zM) : Prop :=
    ((¬ x1 = (6 : Int32) → wp_X9_holds_L495 D post o M) ∧ (x1 = (6 : Int32) → ((zis M o [8] ∧ wp_X9_ownHolds D (fun r1 M => ((r1 = 0 → wp_X9_holds_L495 D post o M) ∧ (¬ r1 = 0 → wp_X9_holds_L496 D post o (1 : Int32) M))) o x2 x3 x4 M))))
set_option maxHeartbeats 4000000 in
set_option maxRecDepth 100000 in
theorem wk_X9_holds_L474 {p : Program} {l : Launch} {e : Env} {s : State} {m : MethodId} {args : Array Value} {below : List Frame} {meth : Method} {c : Code} {D : zD} {post : Int32 → zM → Prop} {o : Nat} (hG : zGx p l s m args meth c cX9_holds 14 "PluralBranchesModel" D (some .boolean) "holds" []) : ∀ {H : Heap} {locs : List Loc} {cells slots : Nat} {ls : Array Slot} (x1 : Int32) (x2 : Int32) (x3 : Int32) (x4 : Int32) (M : zM), cells ≤ 0 → slots ≤ 0 → zS D M H locs → lv_has ls 14 [(0, .ref o), (1, .int x1), (2, .int x2), (3, .int x3), (4, .int x4)] → wp_X9_holds_L474 D post o x1 x2 x3 x4 M → W p l e rm_X9_holds s m args below meth c H locs cells slots (vx_MQ below (zQ D zI post) (zX D (fun _ _ => False)) args s 0 0 (zA D)) (F0 m 474 ls []) := by
  have hC := hG.1
  have hx := hC.x
  have hb := hC.b
  have hown := hC.o
  have hts := hC.ts
  have hlt := hG.2.2.2.2.2
  intro H locs cells slots ls x1 x2 x3 x4 M hk hn hZ hl hw
  refine lv_iload_n hx hb dX9_holds_474 rfl (lv_at hl 1 rfl) ?_
  refine lv_bipush (v := 6) hx hb dX9_holds_475 (by decide) ?_
  refine lv_icmp_ne (tgt := 495) hx hb dX9_holds_477 (by decide) (fun c10 => ?_) (fun c10 => ?_)
  · replace hw := hw.1 c10
    exact wk_X9_holds_L495 hG _ hk hn hZ (lv_sub hl [] rfl) hw
  · replace hw := hw.2 c10
    refine lv_aload_n hx hb dX9_holds_480 rfl (lv_at hl 0 rfl) ?_
    refine lv_iload_n hx hb dX9_holds_481 rfl (lv_at hl 2 rfl) ?_
    refine lv_iload_n hx hb dX9_holds_482 rfl (lv_at hl 3 rfl) ?_
    refine lv_iload hx hb dX9_holds_483 (lv_at hl 4 rfl) ?_
    obtain ⟨⟨ci0, fs0, hci0, hM0⟩, hw⟩ := hw
    obtain rfl : ci0 = 8 := List.mem_singleton.mp hci0
    refine z_callI hZ (vx_runV (As := [.int x2, .int x3, .int x4]) (rest := []) hC.fix (w_X9_ownHolds hlt hw) (cwV 3 hts (lw_V q1938 q1940 qs30 q83 q1941) rfl rfl rfl ⟨rfl, dd_X9_ownHolds⟩ ⟨Nat.le_of_ble_eq_true rfl, Nat.le_of_ble_eq_true rfl⟩) (z_preV hC hZ hM0 zc8) rfl rfl hl.1 rfl (lv_room (Nat.zero_le _)) dX9_holds_485 ⟨hk, hn⟩) (fun r6 M H locs hw1 hZ => ?_) (fun q M H locs ci fs E T9 N9 hw hZ hc1 hM1 hb1 => False.elim hw)
    replace hw := hw1
    clear hw1
    refine W.cs (cells' := cells) (slots' := slots) rfl rfl ?_
    refine lv_if_eq (tgt := 495) hx hb dX9_holds_488 (by decide) (fun c9 => ?_) (fun c9 => ?_)
    · replace hw := hw.1 c9
      exact wk_X9_holds_L495 hG _ hk hn hZ (lv_sub hl [] rfl) hw
    · replace hw := hw.2 c9
      refine lv_iconst (v := 1) hx hb dX9_holds_491 (by decide) ?_
      refine lv_goto (tgt := 496) hx hb dX9_holds_492 (by decide) ?_
      exact wk_X9_holds_L496 hG _ _ hk hn hZ (lv_sub hl [] rfl) hw
def wp_X9_holds_L261 (D : zD) (post : Int32 → zM → Prop) (o : Nat) (y0 : Int32) (M : zM) : Prop :=
    (narrow .boolean (.int y0) = .int y0 ∧ post y0 M)
set_option maxHeartbeats 4000000 in
set_option maxRecDepth 100000 in
theorem wk_X9_holds_L261 {p : Program} {l : Launch} {e : Env} {s : State} {m : MethodId} {args : Array Value} {below : List Frame} {meth : Method} {c : Code} {D : zD} {post : Int32 → zM → Prop} {o : Nat} (hG : zGx p l s m args meth c cX9_holds 14 "PluralBranchesModel" D (some .boolean) "holds" []) : ∀ {H : Heap} {locs : List Loc} {cells slots : Nat} {ls : Array Slot} (y0 : Int32) (M : zM), cells ≤ 0 → slots ≤ 0 → zS D M H locs → lv_has ls 14 [] → wp_X9_holds_L261 D post o y0 M → W p l e rm_X9_holds s m args below meth c H locs cells slots (vx_MQ below (zQ D zI post) (zX D (fun _ _ => False)) args s 0 0 (zA D)) (F0 m 261 ls [.int y0]) := by
  have hC := hG.1
  have hx := hC.x
  have hb := hC.b
  have hown := hC.o
  have hts := hC.ts
  have hlt := hG.2.2.2.2.2
  intro H locs cells slots ls y0 M hk hn hZ hl hw
  exact z_zret hG hZ hk hn hw.1 hw.2 dX9_holds_261
def wp_X9_holds_L260 (D : zD) (post : Int32 → zM → Prop) (o : Nat) (M : zM) : Prop :=
    wp_X9_holds_L261 D post o (0 : Int32) M
set_option maxHeartbeats 4000000 in
set_option maxRecDepth 100000 in
theorem wk_X9_holds_L260 {p : Program} {l : Launch} {e : Env} {s : State} {m : MethodId} {args : Array Value} {below : List Frame} {meth : Method} {c : Code} {D : zD} {post : Int32 → zM → Prop} {o : Nat} (hG : zGx p l s m args meth c cX9_holds 14 "PluralBranchesModel" D (some .boolean) "holds" []) : ∀ {H : Heap} {locs : List Loc} {cells slots : Nat} {ls : Array Slot} (M : zM), cells ≤ 0 → slots ≤ 0 → zS D M H locs → lv_has ls 14 [] → wp_X9_holds_L260 D post o M → W p l e rm_X9_holds s m args below meth c H locs cells slots (vx_MQ below (zQ D zI post) (zX D (fun _ _ => False)) args s 0 0 (zA D)) (F0 m 260 ls []) := by
  have hC := hG.1
  have hx := hC.x
  have hb := hC.b
  have hown := hC.o
  have hts := hC.ts
  have hlt := hG.2.2.2.2.2
  intro H locs cells slots ls M hk hn hZ hl hw
  refine lv_iconst (v := 0) hx hb dX9_holds_260 (by decide) ?_
  exact wk_X9_holds_L261 hG _ _ hk hn hZ (lv_sub hl [] rfl) hw
def wp_X9_holds_L244 (D : zD) (post : Int32 → zM → Prop) (o : Nat) (x5 : Int64) (x13 : Int32) (M : zM) : Prop :=
    ((¬ (lg_cmp x5 (1 : Int64)) = 0 → wp_X9_holds_L260 D post o M) ∧ ((lg_cmp x5 (1 : Int64)) = 0 → ((x13 = 0 → wp_X9_holds_L260 D post o M) ∧ (¬ x13 = 0 → wp_X9_holds_L261 D post o (1 : Int32) M))))
set_option maxHeartbeats 4000000 in
set_option maxRecDepth 100000 in
theorem wk_X9_holds_L244 {p : Program} {l : Launch} {e : Env} {s : State} {m : MethodId} {args : Array Value} {below : List Frame} {meth : Method} {c : Code} {D : zD} {post : Int32 → zM → Prop} {o : Nat} (hG : zGx p l s m args meth c cX9_holds 14 "PluralBranchesModel" D (some .boolean) "holds" []) : ∀ {H : Heap} {locs : List Loc} {cells slots : Nat} {ls : Array Slot} (x5 : Int64) (x13 : Int32) (M : zM), cells ≤ 0 → slots ≤ 0 → zS D M H locs → lv_has ls 14 [(5, .long x5), (13, .int x13)] → wp_X9_holds_L244 D post o x5 x13 M → W p l e rm_X9_holds s m args below meth c H locs cells slots (vx_MQ below (zQ D zI post) (zX D (fun _ _ => False)) args s 0 0 (zA D)) (F0 m 244 ls []) := by
  have hC := hG.1
  have hx := hC.x
  have hb := hC.b
  have hown := hC.o
  have hts := hC.ts
  have hlt := hG.2.2.2.2.2
  intro H locs cells slots ls x5 x13 M hk hn hZ hl hw
  refine lv_lload hx hb dX9_holds_244 (lv_at hl 0 rfl) ?_
  refine lv_lconst (v := 1) hx hb dX9_holds_246 (by decide) ?_
  refine W.lcmp hx hb dX9_holds_247 ?_
  refine lv_if_ne (tgt := 260) hx hb dX9_holds_248 (by decide) (fun c14 => ?_) (fun c14 => ?_)
  · replace hw := hw.1 c14
    exact wk_X9_holds_L260 hG _ hk hn hZ (lv_sub hl [] rfl) hw
  · replace hw := hw.2 c14
    refine lv_iload hx hb dX9_holds_251 (lv_at hl 1 rfl) ?_
    refine lv_if_eq (tgt := 260) hx hb dX9_holds_253 (by decide) (fun c13 => ?_) (fun c13 => ?_)
    · replace hw := hw.1 c13
      exact wk_X9_holds_L260 hG _ hk hn hZ (lv_sub hl [] rfl) hw
    · replace hw := hw.2 c13
      refine lv_iconst (v := 1) hx hb dX9_holds_256 (by decide) ?_
      refine lv_goto (tgt := 261) hx hb dX9_holds_257 (by decide) ?_
      exact wk_X9_holds_L261 hG _ _ hk hn hZ (lv_sub hl [] rfl) hw
def wp_X9_holds_L274 (D : zD) (post : Int32 → zM → Prop) (o : Nat) (y0 : Int32) (M : zM) : Prop :=
    (narrow .boolean (.int y0) = .int y0 ∧ post y0 M)
set_option maxHeartbeats 4000000 in
set_option maxRecDepth 100000 in
theorem wk_X9_holds_L274 {p : Program} {l : Launch} {e : Env} {s : State} {m : MethodId} {args : Array Value} {below : List Frame} {meth : Method} {c : Code} {D : zD} {post : Int32 → zM → Prop} {o : Nat} (hG : zGx p l s m args meth c cX9_holds 14 "PluralBranchesModel" D (some .boolean) "holds" []) : ∀ {H : Heap} {locs : List Loc} {cells slots : Nat} {ls : Array Slot} (y0 : Int32) (M : zM), cells ≤ 0 → slots ≤ 0 → zS D M H locs → lv_has ls 14 [] → wp_X9_holds_L274 D post o y0 M → W p l e rm_X9_holds s m args below meth c H locs cells slots (vx_MQ below (zQ D zI post) (zX D (fun _ _ => False)) args s 0 0 (zA D)) (F0 m 274 ls [.int y0]) := by
  have hC := hG.1
  have hx := hC.x
  have hb := hC.b
  have hown := hC.o
  have hts := hC.ts
  have hlt := hG.2.2.2.2.2
  intro H locs cells slots ls y0 M hk hn hZ hl hw
  exact z_zret hG hZ hk hn hw.1 hw.2 dX9_holds_274
def wp_X9_holds_L313 (D : zD) (post : Int32 → zM → Prop) (o : Nat) (y0 : Int32) (M : zM) : Prop :=
    (narrow .boolean (.int y0) = .int y0 ∧ post y0 M)
set_option maxHeartbeats 4000000 in
set_option maxRecDepth 100000 in
theorem wk_X9_holds_L313 {p : Program} {l : Launch} {e : Env} {s : State} {m : MethodId} {args : Array Value} {below : List Frame} {meth : Method} {c : Code} {D : zD} {post : Int32 → zM → Prop} {o : Nat} (hG : zGx p l s m args meth c cX9_holds 14 "PluralBranchesModel" D (some .boolean) "holds" []) : ∀ {H : Heap} {locs : List Loc} {cells slots : Nat} {ls : Array Slot} (y0 : Int32) (M : zM), cells ≤ 0 → slots ≤ 0 → zS D M H locs → lv_has ls 14 [] → wp_X9_holds_L313 D post o y0 M → W p l e rm_X9_holds s m args below meth c H locs cells slots (vx_MQ below (zQ D zI post) (zX D (fun _ _ => False)) args s 0 0 (zA D)) (F0 m 313 ls [.int y0]) := by
  have hC := hG.1
  have hx := hC.x
  have hb := hC.b
  have hown := hC.o
  have hts := hC.ts
  have hlt := hG.2.2.2.2.2
  intro H locs cells slots ls y0 M hk hn hZ hl hw
  exact z_zret hG hZ hk hn hw.1 hw.2 dX9_holds_313
def wp_X9_holds_L312 (D : zD) (post : Int32 → zM → Prop) (o : Nat) (M : zM) : Prop :=
    wp_X9_holds_L313 D post o (0 : Int32) M
set_option maxHeartbeats 4000000 in
set_option maxRecDepth 100000 in
theorem wk_X9_holds_L312 {p : Program} {l : Launch} {e : Env} {s : State} {m : MethodId} {args : Array Value} {below : List Frame} {meth : Method} {c : Code} {D : zD} {post : Int32 → zM → Prop} {o : Nat} (hG : zGx p l s m args meth c cX9_holds 14 "PluralBranchesModel" D (some .boolean) "holds" []) : ∀ {H : Heap} {locs : List Loc} {cells slots : Nat} {ls : Array Slot} (M : zM), cells ≤ 0 → slots ≤ 0 → zS D M H locs → lv_has ls 14 [] → wp_X9_holds_L312 D post o M → W p l e rm_X9_holds s m args below meth c H locs cells slots (vx_MQ below (zQ D zI post) (zX D (fun _ _ => False)) args s 0 0 (zA D)) (F0 m 312 ls []) := by
  have hC := hG.1
  have hx := hC.x
  have hb := hC.b
  have hown := hC.o
  have hts := hC.ts
  have hlt := hG.2.2.2.2.2
  intro H locs cells slots ls M hk hn hZ hl hw
  refine lv_iconst (v := 0) hx hb dX9_holds_312 (by decide) ?_
  exact wk_X9_holds_L313 hG _ _ hk hn hZ (lv_sub hl [] rfl) hw
def wp_X9_holds_L348 (D : zD) (post : Int32 → zM → Prop) (o : Nat) (y0 : Int32) (M : zM) : Prop :=
    (narrow .boolean (.int y0) = .int y0 ∧ post y0 M)
set_option maxHeartbeats 4000000 in
set_option maxRecDepth 100000 in
theorem wk_X9_holds_L348 {p : Program} {l : Launch} {e : Env} {s : State} {m : MethodId} {args : Array Value} {below : List Frame} {meth : Method} {c : Code} {D : zD} {post : Int32 → zM → Prop} {o : Nat} (hG : zGx p l s m args meth c cX9_holds 14 "PluralBranchesModel" D (some .boolean) "holds" []) : ∀ {H : Heap} {locs : List Loc} {cells slots : Nat} {ls : Array Slot} (y0 : Int32) (M : zM), cells ≤ 0 → slots ≤ 0 → zS D M H locs → lv_has ls 14 [] → wp_X9_holds_L348 D post o y0 M → W p l e rm_X9_holds s m args below meth c H locs cells slots (vx_MQ below (zQ D zI post) (zX D (fun _ _ => False)) args s 0 0 (zA D)) (F0 m 348 ls [.int y0]) := by
  have hC := hG.1
  have hx := hC.x
  have hb := hC.b
  have hown := hC.o
  have hts := hC.ts
  have hlt := hG.2.2.2.2.2
  intro H locs cells slots ls y0 M hk hn hZ hl hw
  exact z_zret hG hZ hk hn hw.1 hw.2 dX9_holds_348
def wp_X9_holds_L347 (D : zD) (post : Int32 → zM → Prop) (o : Nat) (M : zM) : Prop :=
    wp_X9_holds_L348 D post o (0 : Int32) M
set_option maxHeartbeats 4000000 in
set_option maxRecDepth 100000 in
theorem wk_X9_holds_L347 {p : Program} {l : Launch} {e : Env} {s : State} {m : MethodId} {args : Array Value} {below : List Frame} {meth : Method} {c : Code} {D : zD} {post : Int32 → zM → Prop} {o : Nat} (hG : zGx p l s m args meth c cX9_holds 14 "PluralBranchesModel" D (some .boolean) "holds" []) : ∀ {H : Heap} {locs : List Loc} {cells slots : Nat} {ls : Array Slot} (M : zM), cells ≤ 0 → slots ≤ 0 → zS D M H locs → lv_has ls 14 [] → wp_X9_holds_L347 D post o M → W p l e rm_X9_holds s m args below meth c H locs cells slots (vx_MQ below (zQ D zI post) (zX D (fun _ _ => False)) args s 0 0 (zA D)) (F0 m 347 ls []) := by
  have hC := hG.1
  have hx := hC.x
  have hb := hC.b
  have hown := hC.o
  have hts := hC.ts
  have hlt := hG.2.2.2.2.2
  intro H locs cells slots ls M hk hn hZ hl hw
  refine lv_iconst (v := 0) hx hb dX9_holds_347 (by decide) ?_
  exact wk_X9_holds_L348 hG _ _ hk hn hZ (lv_sub hl [] rfl) hw
def wp_X9_holds_L343 (D : zD) (post : Int32 → zM → Prop) (o : Nat) (M : zM) : Prop :=
    wp_X9_holds_L348 D post o (1 : Int32) M
set_option maxHeartbeats 4000000 in
set_option maxRecDepth 100000 in
theorem wk_X9_holds_L343 {p : Program} {l : Launch} {e : Env} {s : State} {m : MethodId} {args : Array Value} {below : List Frame} {meth : Method} {c : Code} {D : zD} {post : Int32 → zM → Prop} {o : Nat} (hG : zGx p l s m args meth c cX9_holds 14 "PluralBranchesModel" D (some .boolean) "holds" []) : ∀ {H : Heap} {locs : List Loc} {cells slots : Nat} {ls : Array Slot} (M : zM), cells ≤ 0 → slots ≤ 0 → zS D M H locs → lv_has ls 14 [] → wp_X9_holds_L343 D post o M → W p l e rm_X9_holds s m args below meth c H locs cells slots (vx_MQ below (zQ D zI post) (zX D (fun _ _ => False)) args s 0 0 (zA D)) (F0 m 343 ls []) := by
  have hC := hG.1
  have hx := hC.x
  have hb := hC.b
  have hown := hC.o
  have hts := hC.ts
  have hlt := hG.2.2.2.2.2
  intro H locs cells slots ls M hk hn hZ hl hw
  refine lv_iconst (v := 1) hx hb dX9_holds_343 (by decide) ?_
  refine lv_goto (tgt := 348) hx hb dX9_holds_344 (by decide) ?_
  exact wk_X9_holds_L348 hG _ _ hk hn hZ (lv_sub hl [] rfl) hw
def wp_X9_holds_L385 (D : zD) (post : Int32 → zM → Prop) (o : Nat) (y0 : Int32) (M : zM) : Prop :=
    (narrow .boolean (.int y0) = .int y0 ∧ post y0 M)
set_option maxHeartbeats 4000000 in
set_option maxRecDepth 100000 in
theorem wk_X9_holds_L385 {p : Program} {l : Launch} {e : Env} {s : State} {m : MethodId} {args : Array Value} {below : List Frame} {meth : Method} {c : Code} {D : zD} {post : Int32 → zM → Prop} {o : Nat} (hG : zGx p l s m args meth c cX9_holds 14 "PluralBranchesModel" D (some .boolean) "holds" []) : ∀ {H : Heap} {locs : List Loc} {cells slots : Nat} {ls : Array Slot} (y0 : Int32) (M : zM), cells ≤ 0 → slots ≤ 0 → zS D M H locs → lv_has ls 14 [] → wp_X9_holds_L385 D post o y0 M → W p l e rm_X9_holds s m args below meth c H locs cells slots (vx_MQ below (zQ D zI post) (zX D (fun _ _ => False)) args s 0 0 (zA D)) (F0 m 385 ls [.int y0]) := by
  have hC := hG.1
  have hx := hC.x
  have hb := hC.b
  have hown := hC.o
  have hts := hC.ts
  have hlt := hG.2.2.2.2.2
  intro H locs cells slots ls y0 M hk hn hZ hl hw
  exact z_zret hG hZ hk hn hw.1 hw.2 dX9_holds_385
def wp_X9_holds_L403 (D : zD) (post : Int32 → zM → Prop) (o : Nat) (y0 : Int32) (M : zM) : Prop :=
    (narrow .boolean (.int y0) = .int y0 ∧ post y0 M)
set_option maxHeartbeats 4000000 in
set_option maxRecDepth 100000 in
theorem wk_X9_holds_L403 {p : Program} {l : Launch} {e : Env} {s : State} {m : MethodId} {args : Array Value} {below : List Frame} {meth : Method} {c : Code} {D : zD} {post : Int32 → zM → Prop} {o : Nat} (hG : zGx p l s m args meth c cX9_holds 14 "PluralBranchesModel" D (some .boolean) "holds" []) : ∀ {H : Heap} {locs : List Loc} {cells slots : Nat} {ls : Array Slot} (y0 : Int32) (M : zM), cells ≤ 0 → slots ≤ 0 → zS D M H locs → lv_has ls 14 [] → wp_X9_holds_L403 D post o y0 M → W p l e rm_X9_holds s m args below meth c H locs cells slots (vx_MQ below (zQ D zI post) (zX D (fun _ _ => False)) args s 0 0 (zA D)) (F0 m 403 ls [.int y0]) := by
  have hC := hG.1
  have hx := hC.x
  have hb := hC.b
  have hown := hC.o
  have hts := hC.ts
  have hlt := hG.2.2.2.2.2
  intro H locs cells slots ls y0 M hk hn hZ hl hw
  exact z_zret hG hZ hk hn hw.1 hw.2 dX9_holds_403
def wp_X9_holds_L402 (D : zD) (post : Int32 → zM → Prop) (o : Nat) (M : zM) : Prop :=
    wp_X9_holds_L403 D post o (0 : Int32) M
set_option maxHeartbeats 4000000 in
set_option maxRecDepth 100000 in
theorem wk_X9_holds_L402 {p : Program} {l : Launch} {e : Env} {s : State} {m : MethodId} {args : Array Value} {below : List Frame} {meth : Method} {c : Code} {D : zD} {post : Int32 → zM → Prop} {o : Nat} (hG : zGx p l s m args meth c cX9_holds 14 "PluralBranchesModel" D (some .boolean) "holds" []) : ∀ {H : Heap} {locs : List Loc} {cells slots : Nat} {ls : Array Slot} (M : zM), cells ≤ 0 → slots ≤ 0 → zS D M H locs → lv_has ls 14 [] → wp_X9_holds_L402 D post o M → W p l e rm_X9_holds s m args below meth c H locs cells slots (vx_MQ below (zQ D zI post) (zX D (fun _ _ => False)) args s 0 0 (zA D)) (F0 m 402 ls []) := by
  have hC := hG.1
  have hx := hC.x
  have hb := hC.b
  have hown := hC.o
  have hts := hC.ts
  have hlt := hG.2.2.2.2.2
  intro H locs cells slots ls M hk hn hZ hl hw
  refine lv_iconst (v := 0) hx hb dX9_holds_402 (by decide) ?_
  exact wk_X9_holds_L403 hG _ _ hk hn hZ (lv_sub hl [] rfl) hw
def wp_X9_holds_L423 (D : zD) (post : Int32 → zM → Prop) (o : Nat) (y0 : Int32) (M : zM) : Prop :=
    (narrow .boolean (.int y0) = .int y0 ∧ post y0 M)
set_option maxHeartbeats 4000000 in
set_option maxRecDepth 100000 in
theorem wk_X9_holds_L423 {p : Program} {l : Launch} {e : Env} {s : State} {m : MethodId} {args : Array Value} {below : List Frame} {meth : Method} {c : Code} {D : zD} {post : Int32 → zM → Prop} {o : Nat} (hG : zGx p l s m args meth c cX9_holds 14 "PluralBranchesModel" D (some .boolean) "holds" []) : ∀ {H : Heap} {locs : List Loc} {cells slots : Nat} {ls : Array Slot} (y0 : Int32) (M : zM), cells ≤ 0 → slots ≤ 0 → zS D M H locs → lv_has ls 14 [] → wp_X9_holds_L423 D post o y0 M → W p l e rm_X9_holds s m args below meth c H locs cells slots (vx_MQ below (zQ D zI post) (zX D (fun _ _ => False)) args s 0 0 (zA D)) (F0 m 423 ls [.int y0]) := by
  have hC := hG.1
  have hx := hC.x
  have hb := hC.b
  have hown := hC.o
  have hts := hC.ts
  have hlt := hG.2.2.2.2.2
  intro H locs cells slots ls y0 M hk hn hZ hl hw
  exact z_zret hG hZ hk hn hw.1 hw.2 dX9_holds_423
def wp_X9_holds_L422 (D : zD) (post : Int32 → zM → Prop) (o : Nat) (M : zM) : Prop :=
    wp_X9_holds_L423 D post o (0 : Int32) M
set_option maxHeartbeats 4000000 in
set_option maxRecDepth 100000 in
theorem wk_X9_holds_L422 {p : Program} {l : Launch} {e : Env} {s : State} {m : MethodId} {args : Array Value} {below : List Frame} {meth : Method} {c : Code} {D : zD} {post : Int32 → zM → Prop} {o : Nat} (hG : zGx p l s m args meth c cX9_holds 14 "PluralBranchesModel" D (some .boolean) "holds" []) : ∀ {H : Heap} {locs : List Loc} {cells slots : Nat} {ls : Array Slot} (M : zM), cells ≤ 0 → slots ≤ 0 → zS D M H locs → lv_has ls 14 [] → wp_X9_holds_L422 D post o M → W p l e rm_X9_holds s m args below meth c H locs cells slots (vx_MQ below (zQ D zI post) (zX D (fun _ _ => False)) args s 0 0 (zA D)) (F0 m 422 ls []) := by
  have hC := hG.1
  have hx := hC.x
  have hb := hC.b
  have hown := hC.o
  have hts := hC.ts
  have hlt := hG.2.2.2.2.2
  intro H locs cells slots ls M hk hn hZ hl hw
  refine lv_iconst (v := 0) hx hb dX9_holds_422 (by decide) ?_
  exact wk_X9_holds_L423 hG _ _ hk hn hZ (lv_sub hl [] rfl) hw
def wp_X9_holds_L448 (D : zD) (post : Int32 → zM → Prop) (o : Nat) (y0 : Int32) (M : zM) : Prop :=
    (narrow .boolean (.int y0) = .int y0 ∧ post y0 M)
set_option maxHeartbeats 4000000 in
set_option maxRecDepth 100000 in
theorem wk_X9_holds_L448 {p : Program} {l : Launch} {e : Env} {s : State} {m : MethodId} {args : Array Value} {below : List Frame} {meth : Method} {c : Code} {D : zD} {post : Int32 → zM → Prop} {o : Nat} (hG : zGx p l s m args meth c cX9_holds 14 "PluralBranchesModel" D (some .boolean) "holds" []) : ∀ {H : Heap} {locs : List Loc} {cells slots : Nat} {ls : Array Slot} (y0 : Int32) (M : zM), cells ≤ 0 → slots ≤ 0 → zS D M H locs → lv_has ls 14 [] → wp_X9_holds_L448 D post o y0 M → W p l e rm_X9_holds s m args below meth c H locs cells slots (vx_MQ below (zQ D zI post) (zX D (fun _ _ => False)) args s 0 0 (zA D)) (F0 m 448 ls [.int y0]) := by
  have hC := hG.1
  have hx := hC.x
  have hb := hC.b
  have hown := hC.o
  have hts := hC.ts
  have hlt := hG.2.2.2.2.2
  intro H locs cells slots ls y0 M hk hn hZ hl hw
  exact z_zret hG hZ hk hn hw.1 hw.2 dX9_holds_448
def wp_X9_holds_L447 (D : zD) (post : Int32 → zM → Prop) (o : Nat) (M : zM) : Prop :=
    wp_X9_holds_L448 D post o (0 : Int32) M
set_option maxHeartbeats 4000000 in
set_option maxRecDepth 100000 in
theorem wk_X9_holds_L447 {p : Program} {l : Launch} {e : Env} {s : State} {m : MethodId} {args : Array Value} {below : List Frame} {meth : Method} {c : Code} {D : zD} {post : Int32 → zM → Prop} {o : Nat} (hG : zGx p l s m args meth c cX9_holds 14 "PluralBranchesModel" D (some .boolean) "holds" []) : ∀ {H : Heap} {locs : List Loc} {cells slots : Nat} {ls : Array Slot} (M : zM), cells ≤ 0 → slots ≤ 0 → zS D M H locs → lv_has ls 14 [] → wp_X9_holds_L447 D post o M → W p l e rm_X9_holds s m args below meth c H locs cells slots (vx_MQ below (zQ D zI post) (zX D (fun _ _ => False)) args s 0 0 (zA D)) (F0 m 447 ls []) := by
  have hC := hG.1
  have hx := hC.x
  have hb := hC.b
  have hown := hC.o
  have hts := hC.ts
  have hlt := hG.2.2.2.2.2
  intro H locs cells slots ls M hk hn hZ hl hw
  refine lv_iconst (v := 0) hx hb dX9_holds_447 (by decide) ?_
  exact wk_X9_holds_L448 hG _ _ hk hn hZ (lv_sub hl [] rfl) hw
def wp_X9_holds_L473 (D : zD) (post : Int32 → zM → Prop) (o : Nat) (y0 : Int32) (M : zM) : Prop :=
    (narrow .boolean (.int y0) = .int y0 ∧ post y0 M)
set_option maxHeartbeats 4000000 in
set_option maxRecDepth 100000 in
theorem wk_X9_holds_L473 {p : Program} {l : Launch} {e : Env} {s : State} {m : MethodId} {args : Array Value} {below : List Frame} {meth : Method} {c : Code} {D : zD} {post : Int32 → zM → Prop} {o : Nat} (hG : zGx p l s m args meth c cX9_holds 14 "PluralBranchesModel" D (some .boolean) "holds" []) : ∀ {H : Heap} {locs : List Loc} {cells slots : Nat} {ls : Array Slot} (y0 : Int32) (M : zM), cells ≤ 0 → slots ≤ 0 → zS D M H locs → lv_has ls 14 [] → wp_X9_holds_L473 D post o y0 M → W p l e rm_X9_holds s m args below meth c H locs cells slots (vx_MQ below (zQ D zI post) (zX D (fun _ _ => False)) args s 0 0 (zA D)) (F0 m 473 ls [.int y0]) := by
  have hC := hG.1
  have hx := hC.x
  have hb := hC.b
  have hown := hC.o
  have hts := hC.ts
  have hlt := hG.2.2.2.2.2
  intro H locs cells slots ls y0 M hk hn hZ hl hw
  exact z_zret hG hZ hk hn hw.1 hw.2 dX9_holds_473
def wp_X9_holds_L472 (D : zD) (post : Int32 → zM → Prop) (o : Nat) (M : zM) : Prop :=
    wp_X9_holds_L473 D post o (0 : Int32) M
set_option maxHeartbeats 4000000 in
set_option maxRecDepth 100000 in
theorem wk_X9_holds_L472 {p : Program} {l : Launch} {e : Env} {s : State} {m : MethodId} {args : Array Value} {below : List Frame} {meth : Method} {c : Code} {D : zD} {post : Int32 → zM → Prop} {o : Nat} (hG : zGx p l s m args meth c cX9_holds 14 "PluralBranchesModel" D (some .boolean) "holds" []) : ∀ {H : Heap} {locs : List Loc} {cells slots : Nat} {ls : Array Slot} (M : zM), cells ≤ 0 → slots ≤ 0 → zS D M H locs → lv_has ls 14 [] → wp_X9_holds_L472 D post o M → W p l e rm_X9_holds s m args below meth c H locs cells slots (vx_MQ below (zQ D zI post) (zX D (fun _ _ => False)) args s 0 0 (zA D)) (F0 m 472 ls []) := by
  have hC := hG.1
  have hx := hC.x
  have hb := hC.b
  have hown := hC.o
  have hts := hC.ts
  have hlt := hG.2.2.2.2.2
  intro H locs cells slots ls M hk hn hZ hl hw
  refine lv_iconst (v := 0) hx hb dX9_holds_472 (by decide) ?_
  exact wk_X9_holds_L473 hG _ _ hk hn hZ (lv_sub hl [] rfl) hw
def wp_X9_holds_L44 (D : zD) (post : Int32 → zM → Prop) (o : Nat) (x1 : Int32) (x2 : Int32) (x3 : Int32) (x4 : Int32) (x5 : Int64) (x7 : Int64) (x9 : Int64) (x11 : Int64) (y0 : Int32) (M : zM) : Prop :=
    (((((10 : Int32) * x1) + x2) = 1 → wp_X9_holds_L244 D post o x5 y0 M) ∧ ((((10 : Int32) * x1) + x2) = 11 → ((0 < (lg_cmp x5 (1 : Int64)) → wp_X9_holds_L274 D post o (0 : Int32) M) ∧ (¬ 0 < (lg_cmp x5 (1 : Int64)) → wp_X9_holds_L274 D post o (1 : Int32) M))) ∧ ((((10 : Int32) * x1) + x2) = 21 → wp_X9_holds_L244 D post o x5 y0 M) ∧ ((((10 : Int32) * x1) + x2) = 23 → ((y0 = 0 → wp_X9_holds_L312 D post o M) ∧ (¬ y0 = 0 → (wp_X9_in D (fun r16 M => ((r16 = 0 → wp_X9_holds_L312 D post o M) ∧ (¬ r16 = 0 → (wp_X9_in D (fun r19 M => ((¬ r19 = 0 → wp_X9_holds_L312 D post o M) ∧ (r19 = 0 → wp_X9_holds_L313 D post o (1 : Int32) M))) x11 (12 : Int64) (14 : Int64) M)))) x9 (2 : Int64) (4 : Int64) M)))) ∧ ((((10 : Int32) * x1) + x2) = 24 → (narrow .boolean (.int y0) = .int y0 ∧ post y0 M)) ∧ ((((10 : Int32) * x1) + x2) = 30 → ((y0 = 0 → wp_X9_holds_L347 D post o M) ∧ (¬ y0 = 0 → (((lg_cmp x9 (0 : Int64)) = 0 → wp_X9_holds_L343 D post o M) ∧ (¬ (lg_cmp x9 (0 : Int64)) = 0 → (wp_X9_in D (fun r25 M => ((r25 = 0 → wp_X9_holds_L347 D post o M) ∧ (¬ r25 = 0 → wp_X9_holds_L343 D post o M))) x11 (11 : Int64) (19 : Int64) M)))))) ∧ ((((10 : Int32) * x1) + x2) = 31 → ((y0 = 0 → ((¬ (lg_cmp (x7 - x7 / (10 : Int64) * (10 : Int64)) (1 : Int64)) = 0 → wp_X9_holds_L385 D post o (0 : Int32) M) ∧ ((lg_cmp (x7 - x7 / (10 : Int64) * (10 : Int64)) (1 : Int64)) = 0 → wp_X9_holds_L385 D post o (1 : Int32) M))) ∧ (¬ y0 = 0 → ((¬ (lg_cmp x9 (1 : Int64)) = 0 → wp_X9_holds_L385 D post o (0 : Int32) M) ∧ ((lg_cmp x9 (1 : Int64)) = 0 → wp_X9_holds_L385 D post o (1 : Int32) M))))) ∧ ((((10 : Int32) * x1) + x2) = 40 → ((¬ (lg_cmp x5 (0 : Int64)) = 0 → wp_X9_holds_L402 D post o M) ∧ ((lg_cmp x5 (0 : Int64)) = 0 → ((y0 = 0 → wp_X9_holds_L402 D post o M) ∧ (¬ y0 = 0 → wp_X9_holds_L403 D post o (1 : Int32) M))))) ∧ ((((10 : Int32) * x1) + x2) = 41 → wp_X9_holds_L244 D post o x5 y0 M) ∧ ((((10 : Int32) * x1) + x2) = 42 → ((¬ (lg_cmp x5 (2 : Int64)) = 0 → wp_X9_holds_L422 D post o M) ∧ ((lg_cmp x5 (2 : Int64)) = 0 → ((y0 = 0 → wp_X9_holds_L422 D post o M) ∧ (¬ y0 = 0 → wp_X9_holds_L423 D post o (1 : Int32) M))))) ∧ ((((10 : Int32) * x1) + x2) = 43 → ((y0 = 0 → wp_X9_holds_L447 D post o M) ∧ (¬ y0 = 0 → (wp_X9_in D (fun r38 M => ((r38 = 0 → wp_X9_holds_L447 D post o M) ∧ (¬ r38 = 0 → wp_X9_holds_L448 D post o (1 : Int32) M))) x11 (3 : Int64) (10 : Int64) M)))) ∧ ((((10 : Int32) * x1) + x2) = 44 → ((y0 = 0 → wp_X9_holds_L472 D post o M) ∧ (¬ y0 = 0 → (wp_X9_in D (fun r43 M => ((r43 = 0 → wp_X9_holds_L472 D post o M) ∧ (¬ r43 = 0 → wp_X9_holds_L473 D post o (1 : Int32) M))) x11 (11 : Int64) (99 : Int64) M)))) ∧ (¬ (((10 : Int32) * x1) + x2) = 1 ∧ ¬ (((10 : Int32) * x1) + x2) = 11 ∧ ¬ (((10 : Int32) * x1) + x2) = 21 ∧ ¬ (((10 : Int32) * x1) + x2) = 23 ∧ ¬ (((10 : Int32) * x1) + x2) = 24 ∧ ¬ (((10 : Int32) * x1) + x2) = 30 ∧ ¬ (((10 : Int32) * x1) + x2) = 31 ∧ ¬ (((10 : Int32) * x1) + x2) = 40 ∧ ¬ (((10 : Int32) * x1) + x2) = 41 ∧ ¬ (((10 : Int32) * x1) + x2) = 42 ∧ ¬ (((10 : Int32) * x1) + x2) = 43 ∧ ¬ (((10 : Int32) * x1) + x2) = 44 → wp_X9_holds_L474 D post o x1 x2 x3 x4 M))
set_option maxHeartbeats 4000000 in
set_option maxRecDepth 100000 in
theorem wk_X9_holds_L44 {p : Program} {l : Launch} {e : Env} {s : State} {m : MethodId} {args : Array Value} {below : List Frame} {meth : Method} {c : Code} {D : zD} {post : Int32 → zM → Prop} {o : Nat} (hG : zGx p l s m args meth c cX9_holds 14 "PluralBranchesModel" D (some .boolean) "holds" []) : ∀ {H : Heap} {locs : List Loc} {cells slots : Nat} {ls : Array Slot} (x1 : Int32) (x2 : Int32) (x3 : Int32) (x4 : Int32) (x5 : Int64) (x7 : Int64) (x9 : Int64) (x11 : Int64) (y0 : Int32) (M : zM), cells ≤ 0 → slots ≤ 0 → zS D M H locs → lv_has ls 14 [(0, .ref o), (1, .int x1), (2, .int x2), (3, .int x3), (4, .int x4), (5, .long x5), (7, .long x7), (9, .long x9), (11, .long x11)] → wp_X9_holds_L44 D post o x1 x2 x3 x4 x5 x7 x9 x11 y0 M → W p l e rm_X9_holds s m args below meth c H locs cells slots (vx_MQ below (zQ D zI post) (zX D (fun _ _ => False)) args s 0 0 (zA D)) (F0 m 44 ls [.int y0]) := by
  have hC := hG.1
  have hx := hC.x
  have hb := hC.b
  have hown := hC.o
  have hts := hC.ts
  have hlt := hG.2.2.2.2.2
  intro H locs cells slots ls x1 x2 x3 x4 x5 x7 x9 x11 y0 M hk hn hZ hl hw
  refine lv_istore (i := 13) (lv' := [(13, .int y0), (0, .ref o), (1, .int x1), (2, .int x2), (3, .int x3), (4, .int x4), (5, .long x5), (7, .long x7), (9, .long x9), (11, .long x11)]) hx hb dX9_holds_44 hl (by decide) rfl (fun ls hl1 => ?_)
  replace hl := hl1
  clear hl1
  refine lv_bipush (v := 10) hx hb dX9_holds_46 (by decide) ?_
  refine lv_iload_n hx hb dX9_holds_48 rfl (lv_at hl 2 rfl) ?_
  refine lv_imul hx hb dX9_holds_49 ?_
  refine lv_iload_n hx hb dX9_holds_50 rfl (lv_at hl 3 rfl) ?_
  refine lv_iadd hx hb dX9_holds_51 ?_
  by_cases e93 : (((10 : Int32) * x1) + x2) = 1
  · replace hw := hw.1 e93
    refine lv_tableIn (tgt := 244) (off := 192) hx hb dX9_holds_52 (by rw [e93]; decide) (by rw [e93]; decide) (by rw [e93]; decide) (by decide) ?_
    exact wk_X9_holds_L244 hG _ _ _ hk hn hZ (lv_sub hl [6, 0] rfl) hw
  by_cases e94 : (((10 : Int32) * x1) + x2) = 11
  · replace hw := hw.2.1 e94
    refine lv_tableIn (tgt := 262) (off := 210) hx hb dX9_holds_52 (by rw [e94]; decide) (by rw [e94]; decide) (by rw [e94]; decide) (by decide) ?_
    refine lv_lload hx hb dX9_holds_262 (lv_at hl 6 rfl) ?_
    refine lv_lconst (v := 1) hx hb dX9_holds_264 (by decide) ?_
    refine W.lcmp hx hb dX9_holds_265 ?_
    refine lv_if_gt (tgt := 273) hx hb dX9_holds_266 (by decide) (fun c60 => ?_) (fun c60 => ?_)
    · replace hw := hw.1 c60
      refine lv_iconst (v := 0) hx hb dX9_holds_273 (by decide) ?_
      exact wk_X9_holds_L274 hG _ _ hk hn hZ (lv_sub hl [] rfl) hw
    · replace hw := hw.2 c60
      refine lv_iconst (v := 1) hx hb dX9_holds_269 (by decide) ?_
      refine lv_goto (tgt := 274) hx hb dX9_holds_270 (by decide) ?_
      exact wk_X9_holds_L274 hG _ _ hk hn hZ (lv_sub hl [] rfl) hw
  by_cases e95 : (((10 : Int32) * x1) + x2) = 21
  · replace hw := hw.2.2.1 e95
    refine lv_tableIn (tgt := 244) (off := 192) hx hb dX9_holds_52 (by rw [e95]; decide) (by rw [e95]; decide) (by rw [e95]; decide) (by decide) ?_
    exact wk_X9_holds_L244 hG _ _ _ hk hn hZ (lv_sub hl [6, 0] rfl) hw
  by_cases e96 : (((10 : Int32) * x1) + x2) = 23
  · replace hw := hw.2.2.2.1 e96
    refine lv_tableIn (tgt := 275) (off := 223) hx hb dX9_holds_52 (by rw [e96]; decide) (by rw [e96]; decide) (by rw [e96]; decide) (by decide) ?_
    refine lv_iload hx hb dX9_holds_275 (lv_at hl 0 rfl) ?_
    refine lv_if_eq (tgt := 312) hx hb dX9_holds_277 (by decide) (fun c69 => ?_) (fun c69 => ?_)
    · replace hw := hw.1 c69
      exact wk_X9_holds_L312 hG _ hk hn hZ (lv_sub hl [] rfl) hw
    · replace hw := hw.2 c69
      refine lv_lload hx hb dX9_holds_280 (lv_at hl 8 rfl) ?_
      refine lv_ldc2 hx hb hown (hts _ q1931) dX9_holds_282 ?_
      refine lv_ldc2 hx hb hown (hts _ q1897) dX9_holds_285 ?_
      refine z_callI hZ (vx_runS (As := [.long x9, .long (2 : Int64), .long (4 : Int64)]) (rest := []) hC.fix (w_X9_in hlt hw) (va_cwS 3 hts (lw_S q1894 q1895 q83 q1896) rfl rfl rfl dd_X9_in ⟨Nat.le_of_ble_eq_true rfl, Nat.le_of_ble_eq_true rfl⟩) (z_preS hC hZ) rfl rfl hl.1 rfl (lv_room (Nat.zero_le _)) dX9_holds_288 ⟨hk, hn⟩) (fun r61 M H locs hw1 hZ => ?_) (fun q M H locs ci fs E T9 N9 hw hZ hc1 hM1 hb1 => False.elim hw)
      replace hw := hw1
      clear hw1
      refine W.cs (cells' := cells) (slots' := slots) rfl rfl ?_
      refine lv_if_eq (tgt := 312) hx hb dX9_holds_291 (by decide) (fun c68 => ?_) (fun c68 => ?_)
      · replace hw := hw.1 c68
        exact wk_X9_holds_L312 hG _ hk hn hZ (lv_sub hl [] rfl) hw
      · replace hw := hw.2 c68
        refine lv_lload hx hb dX9_holds_294 (lv_at hl 9 rfl) ?_
        refine lv_ldc2 hx hb hown (hts _ q1932) dX9_holds_296 ?_
        refine lv_ldc2 hx hb hown (hts _ q1933) dX9_holds_299 ?_
        refine z_callI hZ (vx_runS (As := [.long x11, .long (12 : Int64), .long (14 : Int64)]) (rest := []) hC.fix (w_X9_in hlt hw) (va_cwS 3 hts (lw_S q1894 q1895 q83 q1896) rfl rfl rfl dd_X9_in ⟨Nat.le_of_ble_eq_true rfl, Nat.le_of_ble_eq_true rfl⟩) (z_preS hC hZ) rfl rfl hl.1 rfl (lv_room (Nat.zero_le _)) dX9_holds_302 ⟨hk, hn⟩) (fun r64 M H locs hw1 hZ => ?_) (fun q M H locs ci fs E T9 N9 hw hZ hc1 hM1 hb1 => False.elim hw)
        replace hw := hw1
        clear hw1
        refine W.cs (cells' := cells) (slots' := slots) rfl rfl ?_
        refine lv_if_ne (tgt := 312) hx hb dX9_holds_305 (by decide) (fun c67 => ?_) (fun c67 => ?_)
        · replace hw := hw.1 c67
          exact wk_X9_holds_L312 hG _ hk hn hZ (lv_sub hl [] rfl) hw
        · replace hw := hw.2 c67
          refine lv_iconst (v := 1) hx hb dX9_holds_308 (by decide) ?_
          refine lv_goto (tgt := 313) hx hb dX9_holds_309 (by decide) ?_
          exact wk_X9_holds_L313 hG _ _ hk hn hZ (lv_sub hl [] rfl) hw
  by_cases e97 : (((10 : Int32) * x1) + x2) = 24
  · replace hw := hw.2.2.2.2.1 e97
    refine lv_tableIn (tgt := 314) (off := 262) hx hb dX9_holds_52 (by rw [e97]; decide) (by rw [e97]; decide) (by rw [e97]; decide) (by decide) ?_
    refine lv_iload hx hb dX9_holds_314 (lv_at hl 0 rfl) ?_
    exact z_zret hG hZ hk hn hw.1 hw.2 dX9_holds_316
  by_cases e98 : (((10 : Int32) * x1) + x2) = 30
  · replace hw := hw.2.2.2.2.2.1 e98
    refine lv_tableIn (tgt := 317) (off := 265) hx hb dX9_holds_52 (by rw [e98]; decide) (by rw [e98]; decide) (by rw [e98]; decide) (by decide) ?_
    refine lv_iload hx hb dX9_holds_317 (lv_at hl 0 rfl) ?_
    refine lv_if_eq (tgt := 347) hx hb dX9_holds_319 (by decide) (fun c75 => ?_) (fun c75 => ?_)
    · replace hw := hw.1 c75
      exact wk_X9_holds_L347 hG _ hk hn hZ (lv_sub hl [] rfl) hw
    · replace hw := hw.2 c75
      refine lv_lload hx hb dX9_holds_322 (lv_at hl 8 rfl) ?_
      refine lv_lconst (v := 0) hx hb dX9_holds_324 (by decide) ?_
      refine W.lcmp hx hb dX9_holds_325 ?_
      refine lv_if_eq (tgt := 343) hx hb dX9_holds_326 (by decide) (fun c74 => ?_) (fun c74 => ?_)
      · replace hw := hw.1 c74
        exact wk_X9_holds_L343 hG _ hk hn hZ (lv_sub hl [] rfl) hw
      · replace hw := hw.2 c74
        refine lv_lload hx hb dX9_holds_329 (lv_at hl 9 rfl) ?_
        refine lv_ldc2 hx hb hown (hts _ q1934) dX9_holds_331 ?_
        refine lv_ldc2 hx hb hown (hts _ q1935) dX9_holds_334 ?_
        refine z_callI hZ (vx_runS (As := [.long x11, .long (11 : Int64), .long (19 : Int64)]) (rest := []) hC.fix (w_X9_in hlt hw) (va_cwS 3 hts (lw_S q1894 q1895 q83 q1896) rfl rfl rfl dd_X9_in ⟨Nat.le_of_ble_eq_true rfl, Nat.le_of_ble_eq_true rfl⟩) (z_preS hC hZ) rfl rfl hl.1 rfl (lv_room (Nat.zero_le _)) dX9_holds_337 ⟨hk, hn⟩) (fun r70 M H locs hw1 hZ => ?_) (fun q M H locs ci fs E T9 N9 hw hZ hc1 hM1 hb1 => False.elim hw)
        replace hw := hw1
        clear hw1
        refine W.cs (cells' := cells) (slots' := slots) rfl rfl ?_
        refine lv_if_eq (tgt := 347) hx hb dX9_holds_340 (by decide) (fun c73 => ?_) (fun c73 => ?_)
        · replace hw := hw.1 c73
          exact wk_X9_holds_L347 hG _ hk hn hZ (lv_sub hl [] rfl) hw
        · replace hw := hw.2 c73
          exact wk_X9_holds_L343 hG _ hk hn hZ (lv_sub hl [] rfl) hw
  by_cases e99 : (((10 : Int32) * x1) + x2) = 31
  · replace hw := hw.2.2.2.2.2.2.1 e99
    refine lv_tableIn (tgt := 349) (off := 297) hx hb dX9_holds_52 (by rw [e99]; decide) (by rw [e99]; decide) (by rw [e99]; decide) (by decide) ?_
    refine lv_iload hx hb dX9_holds_349 (lv_at hl 0 rfl) ?_
    refine lv_if_eq (tgt := 369) hx hb dX9_holds_351 (by decide) (fun c78 => ?_) (fun c78 => ?_)
    · replace hw := hw.1 c78
      refine lv_lload hx hb dX9_holds_369 (lv_at hl 7 rfl) ?_
      refine lv_ldc2 hx hb hown (hts _ q1904) dX9_holds_371 ?_
      refine lv_lrem hx hb dX9_holds_374 (by decide) ?_
      refine lv_lconst (v := 1) hx hb dX9_holds_375 (by decide) ?_
      refine W.lcmp hx hb dX9_holds_376 ?_
      refine lv_if_ne (tgt := 384) hx hb dX9_holds_377 (by decide) (fun c76 => ?_) (fun c76 => ?_)
      · replace hw := hw.1 c76
        refine lv_iconst (v := 0) hx hb dX9_holds_384 (by decide) ?_
        exact wk_X9_holds_L385 hG _ _ hk hn hZ (lv_sub hl [] rfl) hw
      · replace hw := hw.2 c76
        refine lv_iconst (v := 1) hx hb dX9_holds_380 (by decide) ?_
        refine lv_goto (tgt := 385) hx hb dX9_holds_381 (by decide) ?_
        exact wk_X9_holds_L385 hG _ _ hk hn hZ (lv_sub hl [] rfl) hw
    · replace hw := hw.2 c78
      refine lv_lload hx hb dX9_holds_354 (lv_at hl 8 rfl) ?_
      refine lv_lconst (v := 1) hx hb dX9_holds_356 (by decide) ?_
      refine W.lcmp hx hb dX9_holds_357 ?_
      refine lv_if_ne (tgt := 365) hx hb dX9_holds_358 (by decide) (fun c77 => ?_) (fun c77 => ?_)
      · replace hw := hw.1 c77
        refine lv_iconst (v := 0) hx hb dX9_holds_365 (by decide) ?_
        refine lv_goto (tgt := 385) hx hb dX9_holds_366 (by decide) ?_
        exact wk_X9_holds_L385 hG _ _ hk hn hZ (lv_sub hl [] rfl) hw
      · replace hw := hw.2 c77
        refine lv_iconst (v := 1) hx hb dX9_holds_361 (by decide) ?_
        refine lv_goto (tgt := 385) hx hb dX9_holds_362 (by decide) ?_
        exact wk_X9_holds_L385 hG _ _ hk hn hZ (lv_sub hl [] rfl) hw
  by_cases e100 : (((10 : Int32) * x1) + x2) = 40
  · replace hw := hw.2.2.2.2.2.2.2.1 e100
    refine lv_tableIn (tgt := 386) (off := 334) hx hb dX9_holds_52 (by rw [e100]; decide) (by rw [e100]; decide) (by rw [e100]; decide) (by decide) ?_
    refine lv_lload hx hb dX9_holds_386 (lv_at hl 6 rfl) ?_
    refine lv_lconst (v := 0) hx hb dX9_holds_388 (by decide) ?_
    refine W.lcmp hx hb dX9_holds_389 ?_
    refine lv_if_ne (tgt := 402) hx hb dX9_holds_390 (by decide) (fun c80 => ?_) (fun c80 => ?_)
    · replace hw := hw.1 c80
      exact wk_X9_holds_L402 hG _ hk hn hZ (lv_sub hl [] rfl) hw
    · replace hw := hw.2 c80
      refine lv_iload hx hb dX9_holds_393 (lv_at hl 0 rfl) ?_
      refine lv_if_eq (tgt := 402) hx hb dX9_holds_395 (by decide) (fun c79 => ?_) (fun c79 => ?_)
      · replace hw := hw.1 c79
        exact wk_X9_holds_L402 hG _ hk hn hZ (lv_sub hl [] rfl) hw
      · replace hw := hw.2 c79
        refine lv_iconst (v := 1) hx hb dX9_holds_398 (by decide) ?_
        refine lv_goto (tgt := 403) hx hb dX9_holds_399 (by decide) ?_
        exact wk_X9_holds_L403 hG _ _ hk hn hZ (lv_sub hl [] rfl) hw
  by_cases e101 : (((10 : Int32) * x1) + x2) = 41
  · replace hw := hw.2.2.2.2.2.2.2.2.1 e101
    refine lv_tableIn (tgt := 244) (off := 192) hx hb dX9_holds_52 (by rw [e101]; decide) (by rw [e101]; decide) (by rw [e101]; decide) (by decide) ?_
    exact wk_X9_holds_L244 hG _ _ _ hk hn hZ (lv_sub hl [6, 0] rfl) hw
  by_cases e102 : (((10 : Int32) * x1) + x2) = 42
  · replace hw := hw.2.2.2.2.2.2.2.2.2.1 e102
    refine lv_tableIn (tgt := 404) (off := 352) hx hb dX9_holds_52 (by rw [e102]; decide) (by rw [e102]; decide) (by rw [e102]; decide) (by decide) ?_
    refine lv_lload hx hb dX9_holds_404 (lv_at hl 6 rfl) ?_
    refine lv_ldc2 hx hb hown (hts _ q1931) dX9_holds_406 ?_
    refine W.lcmp hx hb dX9_holds_409 ?_
    refine lv_if_ne (tgt := 422) hx hb dX9_holds_410 (by decide) (fun c82 => ?_) (fun c82 => ?_)
    · replace hw := hw.1 c82
      exact wk_X9_holds_L422 hG _ hk hn hZ (lv_sub hl [] rfl) hw
    · replace hw := hw.2 c82
      refine lv_iload hx hb dX9_holds_413 (lv_at hl 0 rfl) ?_
      refine lv_if_eq (tgt := 422) hx hb dX9_holds_415 (by decide) (fun c81 => ?_) (fun c81 => ?_)
      · replace hw := hw.1 c81
        exact wk_X9_holds_L422 hG _ hk hn hZ (lv_sub hl [] rfl) hw
      · replace hw := hw.2 c81
        refine lv_iconst (v := 1) hx hb dX9_holds_418 (by decide) ?_
        refine lv_goto (tgt := 423) hx hb dX9_holds_419 (by decide) ?_
        exact wk_X9_holds_L423 hG _ _ hk hn hZ (lv_sub hl [] rfl) hw
  by_cases e103 : (((10 : Int32) * x1) + x2) = 43
  · replace hw := hw.2.2.2.2.2.2.2.2.2.2.1 e103
    refine lv_tableIn (tgt := 424) (off := 372) hx hb dX9_holds_52 (by rw [e103]; decide) (by rw [e103]; decide) (by rw [e103]; decide) (by decide) ?_
    refine lv_iload hx hb dX9_holds_424 (lv_at hl 0 rfl) ?_
    refine lv_if_eq (tgt := 447) hx hb dX9_holds_426 (by decide) (fun c87 => ?_) (fun c87 => ?_)
    · replace hw := hw.1 c87
      exact wk_X9_holds_L447 hG _ hk hn hZ (lv_sub hl [] rfl) hw
    · replace hw := hw.2 c87
      refine lv_lload hx hb dX9_holds_429 (lv_at hl 9 rfl) ?_
      refine lv_ldc2 hx hb hown (hts _ q1936) dX9_holds_431 ?_
      refine lv_ldc2 hx hb hown (hts _ q1904) dX9_holds_434 ?_
      refine z_callI hZ (vx_runS (As := [.long x11, .long (3 : Int64), .long (10 : Int64)]) (rest := []) hC.fix (w_X9_in hlt hw) (va_cwS 3 hts (lw_S q1894 q1895 q83 q1896) rfl rfl rfl dd_X9_in ⟨Nat.le_of_ble_eq_true rfl, Nat.le_of_ble_eq_true rfl⟩) (z_preS hC hZ) rfl rfl hl.1 rfl (lv_room (Nat.zero_le _)) dX9_holds_437 ⟨hk, hn⟩) (fun r83 M H locs hw1 hZ => ?_) (fun q M H locs ci fs E T9 N9 hw hZ hc1 hM1 hb1 => False.elim hw)
      replace hw := hw1
      clear hw1
      refine W.cs (cells' := cells) (slots' := slots) rfl rfl ?_
      refine lv_if_eq (tgt := 447) hx hb dX9_holds_440 (by decide) (fun c86 => ?_) (fun c86 => ?_)
      · replace hw := hw.1 c86
        exact wk_X9_holds_L447 hG _ hk hn hZ (lv_sub hl [] rfl) hw
      · replace hw := hw.2 c86
        refine lv_iconst (v := 1) hx hb dX9_holds_443 (by decide) ?_
        refine lv_goto (tgt := 448) hx hb dX9_holds_444 (by decide) ?_
        exact wk_X9_holds_L448 hG _ _ hk hn hZ (lv_sub hl [] rfl) hw
  by_cases e104 : (((10 : Int32) * x1) + x2) = 44
  · replace hw := hw.2.2.2.2.2.2.2.2.2.2.2.1 e104
    refine lv_tableIn (tgt := 449) (off := 397) hx hb dX9_holds_52 (by rw [e104]; decide) (by rw [e104]; decide) (by rw [e104]; decide) (by decide) ?_
    refine lv_iload hx hb dX9_holds_449 (lv_at hl 0 rfl) ?_
    refine lv_if_eq (tgt := 472) hx hb dX9_holds_451 (by decide) (fun c92 => ?_) (fun c92 => ?_)
    · replace hw := hw.1 c92
      exact wk_X9_holds_L472 hG _ hk hn hZ (lv_sub hl [] rfl) hw
    · replace hw := hw.2 c92
      refine lv_lload hx hb dX9_holds_454 (lv_at hl 9 rfl) ?_
      refine lv_ldc2 hx hb hown (hts _ q1934) dX9_holds_456 ?_
      refine lv_ldc2 hx hb hown (hts _ q1937) dX9_holds_459 ?_
      refine z_callI hZ (vx_runS (As := [.long x11, .long (11 : Int64), .long (99 : Int64)]) (rest := []) hC.fix (w_X9_in hlt hw) (va_cwS 3 hts (lw_S q1894 q1895 q83 q1896) rfl rfl rfl dd_X9_in ⟨Nat.le_of_ble_eq_true rfl, Nat.le_of_ble_eq_true rfl⟩) (z_preS hC hZ) rfl rfl hl.1 rfl (lv_room (Nat.zero_le _)) dX9_holds_462 ⟨hk, hn⟩) (fun r88 M H locs hw1 hZ => ?_) (fun q M H locs ci fs E T9 N9 hw hZ hc1 hM1 hb1 => False.elim hw)
      replace hw := hw1
      clear hw1
      refine W.cs (cells' := cells) (slots' := slots) rfl rfl ?_
      refine lv_if_eq (tgt := 472) hx hb dX9_holds_465 (by decide) (fun c91 => ?_) (fun c91 => ?_)
      · replace hw := hw.1 c91
        exact wk_X9_holds_L472 hG _ hk hn hZ (lv_sub hl [] rfl) hw
      · replace hw := hw.2 c91
        refine lv_iconst (v := 1) hx hb dX9_holds_468 (by decide) ?_
        refine lv_goto (tgt := 473) hx hb dX9_holds_469 (by decide) ?_
        exact wk_X9_holds_L473 hG _ _ hk hn hZ (lv_sub hl [] rfl) hw
  replace hw := hw.2.2.2.2.2.2.2.2.2.2.2.2 ⟨e93, e94, e95, e96, e97, e98, e99, e100, e101, e102, e103, e104⟩
  refine z_tableK (tgt := 474) (S := [1, 11, 21, 23, 24, 30, 31, 40, 41, 42, 43, 44]) hx hb dX9_holds_52 (by decide) (by decide) (by decide) (zal (lv_neT e93 (by decide)) (zal (lv_neT e94 (by decide)) (zal (lv_neT e95 (by decide)) (zal (lv_neT e96 (by decide)) (zal (lv_neT e97 (by decide)) (zal (lv_neT e98 (by decide)) (zal (lv_neT e99 (by decide)) (zal (lv_neT e100 (by decide)) (zal (lv_neT e101 (by decide)) (zal (lv_neT e102 (by decide)) (zal (lv_neT e103 (by decide)) (zal (lv_neT e104 (by decide)) (za0))))))))))))) ?_
  exact wk_X9_holds_L474 hG _ _ _ _ _ hk hn hZ (lv_sub hl [1, 2, 3, 4, 5] rfl) hw
def wp_X9_holds (D : zD) (post : Int32 → zM → Prop) (o : Nat) (a0 : Int32) (a1 : Int32) (a2 : Int32) (a3 : Int32) (M : zM) : Prop :=
    (wp_X9_operandOf D (fun r105 M => (wp_X9_operandOf D (fun r108 M => ((¬ a3 = 0 → wp_X9_holds_L44 D post o a0 a1 a2 a3 r105 r108 (r105 - r105 / (10 : Int64) * (10 : Int64)) (r105 - r105 / (100 : Int64) * (100 : Int64)) (0 : Int32) M) ∧ (a3 = 0 → wp_X9_holds_L44 D post o a0 a1 a2 a3 r105 r108 (r105 - r105 / (10 : Int64) * (10 : Int64)) (r105 - r105 / (100 : Int64) * (100 : Int64)) (1 : Int32) M))) a2 a3 (2 : Int32) M)) a2 a3 (0 : Int32) M)
set_option maxHeartbeats 4000000 in
set_option maxRecDepth 100000 in
theorem w_X9_holds {l : Launch} {D : zD} {post : Int32 → zM → Prop} (hlt : l.stackTraces = false) {o : Nat} {a0 : Int32} {a1 : Int32} {a2 : Int32} {a3 : Int32} {M : zM} (hw : wp_X9_holds D post o a0 a1 a2 a3 M) : zMet l D yX9_holds (ws_ yX9_holds cX9_holds 14 (some .boolean)) rm_X9_holds 0 0 [.ref o, .int a0, .int a1, .int a2, .int a3] M zI post (fun _ _ => False) := by
  unfold wp_X9_holds at hw
  have hlv : lv_args 0 [.ref o, .int a0, .int a1, .int a2, .int a3] = [(0, .ref o), (1, .int a0), (2, .int a1), (3, .int a2), (4, .int a3)] := (zargs1 rfl (zargs1 rfl (zargs1 rfl (zargs1 rfl (zargs1 rfl rfl)))))
  refine z_ofW hlt (by decide) (Nat.le_trans (zsl1 rfl (zsl1 rfl (zsl1 rfl (zsl1 rfl (zsl1 rfl (Nat.le_refl 0 : (lg_sl []).length ≤ 0)))))) (Nat.le_of_ble_eq_true rfl)) hlv ?_
  intro p e s m args below meth c ls hG hZ hl
  have hC := hG.1
  have hx := hC.x
  have hb := hC.b
  have hown := hC.o
  have hts := hC.ts
  have hlt := hG.2.2.2.2.2
  obtain ⟨cells, hce⟩ : ∃ z : Nat, z = 0 := ⟨0, rfl⟩
  obtain ⟨slots, hsl⟩ : ∃ z : Nat, z = 0 := ⟨0, rfl⟩
  refine W.cs (cells' := cells) (slots' := slots) hce.symm hsl.symm ?_
  have hk : cells ≤ 0 := Nat.le_of_eq hce
  have hn : slots ≤ 0 := Nat.le_of_eq hsl
  clear hce hsl
  refine lv_iload_n hx hb dX9_holds_0 rfl (lv_at hl 3 rfl) ?_
  refine lv_iload hx hb dX9_holds_1 (lv_at hl 4 rfl) ?_
  refine lv_iconst (v := 0) hx hb dX9_holds_3 (by decide) ?_
  refine z_callL hZ (vx_runS (As := [.int a2, .int a3, .int (0 : Int32)]) (rest := []) hC.fix (w_X9_operandOf hlt hw) (va_cwS 3 hts (lw_S q1898 q1899 q83 q1900) rfl rfl rfl dd_X9_operandOf ⟨Nat.le_of_ble_eq_true rfl, Nat.le_of_ble_eq_true rfl⟩) (z_preS hC hZ) rfl rfl hl.1 rfl (lv_room (Nat.zero_le _)) dX9_holds_4 ⟨hk, hn⟩) (fun r112 M H locs hw1 hZ => ?_) (fun q M H locs ci fs E T9 N9 hw hZ hc1 hM1 hb1 => False.elim hw)
  replace hw := hw1
  clear hw1
  refine W.cs (cells' := cells) (slots' := slots) rfl rfl ?_
  refine lv_lstore (i := 5) (lv' := [(5, .long r112), (0, .ref o), (1, .int a0), (2, .int a1), (3, .int a2), (4, .int a3)]) hx hb dX9_holds_7 hl (by decide) rfl (fun ls hl1 => ?_)
  replace hl := hl1
  clear hl1
  refine lv_iload_n hx hb dX9_holds_9 rfl (lv_at hl 4 rfl) ?_
  refine lv_iload hx hb dX9_holds_10 (lv_at hl 5 rfl) ?_
  refine lv_iconst (v := 2) hx hb dX9_holds_12 (by decide) ?_
  refine z_callL hZ (vx_runS (As := [.int a2, .int a3, .int (2 : Int32)]) (rest := []) hC.fix (w_X9_operandOf hlt hw) (va_cwS 3 hts (lw_S q1898 q1899 q83 q1900) rfl rfl rfl dd_X9_operandOf ⟨Nat.le_of_ble_eq_true rfl, Nat.le_of_ble_eq_true rfl⟩) (z_preS hC hZ) rfl rfl hl.1 rfl (lv_room (Nat.zero_le _)) dX9_holds_13 ⟨hk, hn⟩) (fun r115 M H locs hw1 hZ => ?_) (fun q M H locs ci fs E T9 N9 hw hZ hc1 hM1 hb1 => False.elim hw)
  replace hw := hw1
  clear hw1
  refine W.cs (cells' := cells) (slots' := slots) rfl rfl ?_
  refine lv_lstore (i := 7) (lv' := [(7, .long r115), (5, .long r112), (0, .ref o), (1, .int a0), (2, .int a1), (3, .int a2), (4, .int a3)]) hx hb dX9_holds_16 hl (by decide) rfl (fun ls hl1 => ?_)
  replace hl := hl1
  clear hl1
  refine lv_lload hx hb dX9_holds_18 (lv_at hl 1 rfl) ?_
  refine lv_ldc2 hx hb hown (hts _ q1904) dX9_holds_20 ?_
  refine lv_lrem hx hb dX9_holds_23 (by decide) ?_
  refine lv_lstore (i := 9) (lv' := [(9, .long (r112 - r112 / (10 : Int64) * (10 : Int64))), (7, .long r115), (5, .long r112), (0, .ref o), (1, .int a0), (2, .int a1), (3, .int a2), (4, .int a3)]) hx hb dX9_holds_24 hl (by decide) rfl (fun ls hl1 => ?_)
  replace hl := hl1
  clear hl1
  refine lv_lload hx hb dX9_holds_26 (lv_at hl 2 rfl) ?_
  refine lv_ldc2 hx hb hown (hts _ q1930) dX9_holds_28 ?_
  refine lv_lrem hx hb dX9_holds_31 (by decide) ?_
  refine lv_lstore (i := 11) (lv' := [(11, .long (r112 - r112 / (100 : Int64) * (100 : Int64))), (9, .long (r112 - r112 / (10 : Int64) * (10 : Int64))), (7, .long r115), (5, .long r112), (0, .ref o), (1, .int a0), (2, .int a1), (3, .int a2), (4, .int a3)]) hx hb dX9_holds_32 hl (by decide) rfl (fun ls hl1 => ?_)
  replace hl := hl1
  clear hl1
  refine lv_iload hx hb dX9_holds_34 (lv_at hl 8 rfl) ?_
  refine lv_if_ne (tgt := 43) hx hb dX9_holds_36 (by decide) (fun c118 => ?_) (fun c118 => ?_)
  · replace hw := hw.1 c118
    refine lv_iconst (v := 0) hx hb dX9_holds_43 (by decide) ?_
    exact wk_X9_holds_L44 hG _ _ _ _ _ _ _ _ _ _ hk hn hZ (lv_sub hl [4, 5, 6, 7, 8, 3, 2, 1, 0] rfl) hw
  · replace hw := hw.2 c118
    refine lv_iconst (v := 1) hx hb dX9_holds_39 (by decide) ?_
    refine lv_goto (tgt := 44) hx hb dX9_holds_40 (by decide) ?_
    exact wk_X9_holds_L44 hG _ _ _ _ _ _ _ _ _ _ hk hn hZ (lv_sub hl [4, 5, 6, 7, 8, 3, 2, 1, 0] rfl) hw
abbrev rm_X9_categoryOf : Room := { frames := 5, cells := 0, slots := 0, locals := 176 }
def wp_X9_categoryOf_L27 (D : zD) (post : Int32 → zM → Prop) (o : Nat) (x4 : Int32) (M : zM) : Prop :=
    post x4 M
set_option maxHeartbeats 4000000 in
set_option maxRecDepth 100000 in
theorem wk_X9_categoryOf_L27 {p : Program} {l : Launch} {e : Env} {s : State} {m : MethodId} {args : Array Value} {below : List Frame} {meth : Method} {c : Code} {D : zD} {post : Int32 → zM → Prop} {o : Nat} (hG : zGx p l s m args meth c cX9_categoryOf 5 "PluralBranchesModel" D (some .int) "categoryOf" []) : ∀ {H : Heap} {locs : List Loc} {cells slots : Nat} {ls : Array Slot} (x4 : Int32) (M : zM), cells ≤ 0 → slots ≤ 0 → zS D M H locs → lv_has ls 5 [(4, .int x4)] → wp_X9_categoryOf_L27 D post o x4 M → W p l e rm_X9_categoryOf s m args below meth c H locs cells slots (vx_MQ below (zQ D zI post) (zX D (fun _ _ => False)) args s 0 0 (zA D)) (F0 m 27 ls []) := by
  have hC := hG.1
  have hx := hC.x
  have hb := hC.b
  have hown := hC.o
  have hts := hC.ts
  have hlt := hG.2.2.2.2.2
  intro H locs cells slots ls x4 M hk hn hZ hl hw
  refine lv_iload hx hb dX9_categoryOf_27 (lv_at hl 0 rfl) ?_
  exact z_iret hG hZ hk hn hw dX9_categoryOf_29
def wp_X9_categoryOf_L3 (D : zD) (post : Int32 → zM → Prop) (o : Nat) : Nat → Int32 → Int32 → Int32 → Int32 → zM → Prop
  | 0 => fun _ _ _ _ _ => False
  | f + 1 => fun x1 x2 x3 x4 M =>
    (((5 : Int32) ≤ x4 → wp_X9_categoryOf_L27 D post o x4 M) ∧ (¬ (5 : Int32) ≤ x4 → ((zis M o [8] ∧ wp_X9_holds D (fun r1 M => ((¬ r1 = 0 → wp_X9_categoryOf_L27 D post o x4 M) ∧ (r1 = 0 → wp_X9_categoryOf_L3 D post o f x1 x2 x3 (x4 + 1) M))) o x1 x4 x2 x3 M))))
set_option maxHeartbeats 4000000 in
set_option maxRecDepth 100000 in
theorem wk_X9_categoryOf_L3 {p : Program} {l : Launch} {e : Env} {s : State} {m : MethodId} {args : Array Value} {below : List Frame} {meth : Method} {c : Code} {D : zD} {post : Int32 → zM → Prop} {o : Nat} (hG : zGx p l s m args meth c cX9_categoryOf 5 "PluralBranchesModel" D (some .int) "categoryOf" []) : ∀ (f : Nat), ∀ {H : Heap} {locs : List Loc} {cells slots : Nat} {ls : Array Slot} (x1 : Int32) (x2 : Int32) (x3 : Int32) (x4 : Int32) (M : zM), cells ≤ 0 → slots ≤ 0 → zS D M H locs → lv_has ls 5 [(0, .ref o), (1, .int x1), (2, .int x2), (3, .int x3), (4, .int x4)] → wp_X9_categoryOf_L3 D post o f x1 x2 x3 x4 M → W p l e rm_X9_categoryOf s m args below meth c H locs cells slots (vx_MQ below (zQ D zI post) (zX D (fun _ _ => False)) args s 0 0 (zA D)) (F0 m 3 ls []) := by
  have hC := hG.1
  have hx := hC.x
  have hb := hC.b
  have hown := hC.o
  have hts := hC.ts
  have hlt := hG.2.2.2.2.2
  intro f
  induction f with
  | zero =>
    intro H locs cells slots ls x1 x2 x3 x4 M hk hn hZ hl hw
    exact absurd hw (fun h => h)
  | succ f ih =>
    intro H locs cells slots ls x1 x2 x3 x4 M hk hn hZ hl hw
    refine lv_iload hx hb dX9_categoryOf_3 (lv_at hl 4 rfl) ?_
    refine lv_iconst (v := 5) hx hb dX9_categoryOf_5 (by decide) ?_
    refine lv_icmp_ge (tgt := 27) hx hb dX9_categoryOf_6 (by decide) (fun c10 => ?_) (fun c10 => ?_)
    · replace hw := hw.1 c10
      exact wk_X9_categoryOf_L27 hG _ _ hk hn hZ (lv_sub hl [4] rfl) hw
    · replace hw := hw.2 c10
      refine lv_aload_n hx hb dX9_categoryOf_9 rfl (lv_at hl 0 rfl) ?_
      refine lv_iload_n hx hb dX9_categoryOf_10 rfl (lv_at hl 1 rfl) ?_
      refine lv_iload hx hb dX9_categoryOf_11 (lv_at hl 4 rfl) ?_
      refine lv_iload_n hx hb dX9_categoryOf_13 rfl (lv_at hl 2 rfl) ?_
      refine lv_iload_n hx hb dX9_categoryOf_14 rfl (lv_at hl 3 rfl) ?_
      obtain ⟨⟨ci0, fs0, hci0, hM0⟩, hw⟩ := hw
      obtain rfl : ci0 = 8 := List.mem_singleton.mp hci0
      refine z_callI hZ (vx_runV (As := [.int x1, .int x4, .int x2, .int x3]) (rest := []) hC.fix (w_X9_holds hlt hw) (cwV 4 hts (lw_V q1926 q1928 qs29 q83 q1929) rfl rfl rfl ⟨rfl, dd_X9_holds⟩ ⟨Nat.le_of_ble_eq_true rfl, Nat.le_of_ble_eq_true rfl⟩) (z_preV hC hZ hM0 zc8) rfl rfl hl.1 rfl (lv_room (Nat.zero_le _)) dX9_categoryOf_15 ⟨hk, hn⟩) (fun r6 M H locs hw1 hZ => ?_) (fun q M H locs ci fs E T9 N9 hw hZ hc1 hM1 hb1 => False.elim hw)
      replace hw := hw1
      clear hw1
      refine W.cs (cells' := cells) (slots' := slots) rfl rfl ?_
      refine lv_if_ne (tgt := 27) hx hb dX9_categoryOf_18 (by decide) (fun c9 => ?_) (fun c9 => ?_)
      · replace hw := hw.1 c9
        exact wk_X9_categoryOf_L27 hG _ _ hk hn hZ (lv_sub hl [4] rfl) hw
      · replace hw := hw.2 c9
        refine lv_iinc (v := (x4 + 1)) (lv' := [(4, .int (x4 + 1)), (0, .ref o), (1, .int x1), (2, .int x2), (3, .int x3)]) hx hb dX9_categoryOf_21 hl (k := 4) rfl rfl (by decide) rfl (fun ls hl1 => ?_)
        replace hl := hl1
        clear hl1
        refine lv_goto (tgt := 3) hx hb dX9_categoryOf_24 (by decide) ?_
        exact ih _ _ _ _ _ hk hn hZ (lv_sub hl [1, 2, 3, 4, 0] rfl) hw
def wp_X9_categoryOf (D : zD) (post : Int32 → zM → Prop) (o : Nat) (a0 : Int32) (a1 : Int32) (a2 : Int32) (M : zM) : Prop :=
    (∃ f, wp_X9_categoryOf_L3 D post o f a0 a1 a2 (0 : Int32) M)
set_option maxHeartbeats 4000000 in
set_option maxRecDepth 100000 in
theorem w_X9_categoryOf {l : Launch} {D : zD} {post : Int32 → zM → Prop} (hlt : l.stackTraces = false) {o : Nat} {a0 : Int32} {a1 : Int32} {a2 : Int32} {M : zM} (hw : wp_X9_categoryOf D post o a0 a1 a2 M) : zMet l D yX9_categoryOf (ws_ yX9_categoryOf cX9_categoryOf 5 (some .int)) rm_X9_categoryOf 0 0 [.ref o, .int a0, .int a1, .int a2] M zI post (fun _ _ => False) := by
  unfold wp_X9_categoryOf at hw
  have hlv : lv_args 0 [.ref o, .int a0, .int a1, .int a2] = [(0, .ref o), (1, .int a0), (2, .int a1), (3, .int a2)] := (zargs1 rfl (zargs1 rfl (zargs1 rfl (zargs1 rfl rfl))))
  refine z_ofW hlt (by decide) (Nat.le_trans (zsl1 rfl (zsl1 rfl (zsl1 rfl (zsl1 rfl (Nat.le_refl 0 : (lg_sl []).length ≤ 0))))) (Nat.le_of_ble_eq_true rfl)) hlv ?_
  intro p e s m args below meth c ls hG hZ hl
  have hC := hG.1
  have hx := hC.x
  have hb := hC.b
  have hown := hC.o
  have hts := hC.ts
  have hlt := hG.2.2.2.2.2
  obtain ⟨cells, hce⟩ : ∃ z : Nat, z = 0 := ⟨0, rfl⟩
  obtain ⟨slots, hsl⟩ : ∃ z : Nat, z = 0 := ⟨0, rfl⟩
  refine W.cs (cells' := cells) (slots' := slots) hce.symm hsl.symm ?_
  have hk : cells ≤ 0 := Nat.le_of_eq hce
  have hn : slots ≤ 0 := Nat.le_of_eq hsl
  clear hce hsl
  refine lv_iconst (v := 0) hx hb dX9_categoryOf_0 (by decide) ?_
  refine lv_istore (i := 4) (lv' := [(4, .int (0 : Int32)), (0, .ref o), (1, .int a0), (2, .int a1), (3, .int a2)]) hx hb dX9_categoryOf_1 hl (by decide) rfl (fun ls hl1 => ?_)
  replace hl := hl1
  clear hl1
  obtain ⟨f1, hw⟩ := hw
  exact wk_X9_categoryOf_L3 hG f1 _ _ _ _ _ hk hn hZ (lv_sub hl [1, 2, 3, 4, 0] rfl) hw
abbrev rm_X9_branchWith : Room := { frames := 2, cells := 0, slots := 0, locals := 87 }
def wp_X9_branchWith_L3 (D : zD) (post : Int32 → zM → Prop) (o : Nat) : Nat → Int32 → Int32 → Int32 → Int32 → zM → Prop
  | 0 => fun _ _ _ _ _ => False
  | f + 1 => fun x1 x2 x3 x4 M =>
    (zgR M o 8 19 fun g1 => ((zd g1 fun b2 => zaI M b2 0 (((8 : Int32) * x1) + x2) fun v3 => ((v3 ≤ x4 → post (-1 : Int32) M) ∧ (¬ v3 ≤ x4 → ((zis M o [8] ∧ wp_X9_keyAt D (fun r4 M => ((¬ r4 = x3 → wp_X9_branchWith_L3 D post o f x1 x2 x3 (x4 + 1) M) ∧ (r4 = x3 → post x4 M))) o x1 x2 x4 M)))))))
set_option maxHeartbeats 4000000 in
set_option maxRecDepth 100000 in
theorem wk_X9_branchWith_L3 {p : Program} {l : Launch} {e : Env} {s : State} {m : MethodId} {args : Array Value} {below : List Frame} {meth : Method} {c : Code} {D : zD} {post : Int32 → zM → Prop} {o : Nat} (hG : zGx p l s m args meth c cX9_branchWith 5 "PluralBranchesModel" D (some .int) "branchWith" []) : ∀ (f : Nat), ∀ {H : Heap} {locs : List Loc} {cells slots : Nat} {ls : Array Slot} (x1 : Int32) (x2 : Int32) (x3 : Int32) (x4 : Int32) (M : zM), cells ≤ 0 → slots ≤ 0 → zS D M H locs → lv_has ls 5 [(0, .ref o), (1, .int x1), (2, .int x2), (3, .int x3), (4, .int x4)] → wp_X9_branchWith_L3 D post o f x1 x2 x3 x4 M → W p l e rm_X9_branchWith s m args below meth c H locs cells slots (vx_MQ below (zQ D zI post) (zX D (fun _ _ => False)) args s 0 0 (zA D)) (F0 m 3 ls []) := by
  have hC := hG.1
  have hx := hC.x
  have hb := hC.b
  have hown := hC.o
  have hts := hC.ts
  have hlt := hG.2.2.2.2.2
  intro f
  induction f with
  | zero =>
    intro H locs cells slots ls x1 x2 x3 x4 M hk hn hZ hl hw
    exact absurd hw (fun h => h)
  | succ f ih =>
    intro H locs cells slots ls x1 x2 x3 x4 M hk hn hZ hl hw
    refine lv_iload hx hb dX9_branchWith_3 (lv_at hl 4 rfl) ?_
    refine lv_aload_n hx hb dX9_branchWith_5 rfl (lv_at hl 0 rfl) ?_
    obtain ⟨fs0, g9, hM0, hx0, hw⟩ := hw
    refine z_get hC hZ hM0 zc8 19 (by decide) q1739 (fun _ h9 => h9) hx0 dX9_branchWith_6 ?_
    refine lv_bipush (v := 8) hx hb dX9_branchWith_9 (by decide) ?_
    refine lv_iload_n hx hb dX9_branchWith_11 rfl (lv_at hl 1 rfl) ?_
    refine lv_imul hx hb dX9_branchWith_12 ?_
    refine lv_iload_n hx hb dX9_branchWith_13 rfl (lv_at hl 2 rfl) ?_
    refine lv_iadd hx hb dX9_branchWith_14 ?_
    obtain ⟨b10, hr0, hw⟩ := hw
    subst hr0
    obtain ⟨n0, f0, hM0, hi0, hw⟩ := hw
    refine z_iald hC hZ hM0 hi0 dX9_branchWith_15 ?_
    generalize f0 _ = v11 at hw ⊢
    refine lv_icmp_ge (tgt := 40) hx hb dX9_branchWith_16 (by decide) (fun c16 => ?_) (fun c16 => ?_)
    · replace hw := hw.1 c16
      refine lv_iconst (v := (-1)) hx hb dX9_branchWith_40 (by decide) ?_
      exact z_iret hG hZ hk hn hw dX9_branchWith_41
    · replace hw := hw.2 c16
      refine lv_aload_n hx hb dX9_branchWith_19 rfl (lv_at hl 0 rfl) ?_
      refine lv_iload_n hx hb dX9_branchWith_20 rfl (lv_at hl 1 rfl) ?_
      refine lv_iload_n hx hb dX9_branchWith_21 rfl (lv_at hl 2 rfl) ?_
      refine lv_iload hx hb dX9_branchWith_22 (lv_at hl 4 rfl) ?_
      obtain ⟨⟨ci0, fs0, hci0, hM0⟩, hw⟩ := hw
      obtain rfl : ci0 = 8 := List.mem_singleton.mp hci0
      refine z_callI hZ (vx_runV (As := [.int x1, .int x2, .int x4]) (rest := []) hC.fix (w_X9_keyAt hlt hw) (cwV 3 hts (lw_V q2045 q2047 qs43 q83 q2048) rfl rfl rfl ⟨rfl, dd_X9_keyAt⟩ ⟨Nat.le_of_ble_eq_true rfl, Nat.le_of_ble_eq_true rfl⟩) (z_preV hC hZ hM0 zc8) rfl rfl hl.1 rfl (lv_room (Nat.zero_le _)) dX9_branchWith_24 ⟨hk, hn⟩) (fun r12 M H locs hw1 hZ => ?_) (fun q M H locs ci fs E T9 N9 hw hZ hc1 hM1 hb1 => False.elim hw)
      replace hw := hw1
      clear hw1
      refine W.cs (cells' := cells) (slots' := slots) rfl rfl ?_
      refine lv_iload_n hx hb dX9_branchWith_27 rfl (lv_at hl 3 rfl) ?_
      refine lv_icmp_ne (tgt := 34) hx hb dX9_branchWith_28 (by decide) (fun c15 => ?_) (fun c15 => ?_)
      · replace hw := hw.1 c15
        refine lv_iinc (v := (x4 + 1)) (lv' := [(4, .int (x4 + 1)), (0, .ref o), (1, .int x1), (2, .int x2), (3, .int x3)]) hx hb dX9_branchWith_34 hl (k := 4) rfl rfl (by decide) rfl (fun ls hl1 => ?_)
        replace hl := hl1
        clear hl1
        refine lv_goto (tgt := 3) hx hb dX9_branchWith_37 (by decide) ?_
        exact ih _ _ _ _ _ hk hn hZ (lv_sub hl [1, 2, 3, 4, 0] rfl) hw
      · replace hw := hw.2 c15
        refine lv_iload hx hb dX9_branchWith_31 (lv_at hl 4 rfl) ?_
        exact z_iret hG hZ hk hn hw dX9_branchWith_33
def wp_X9_branchWith (D : zD) (post : Int32 → zM → Prop) (o : Nat) (a0 : Int32) (a1 : Int32) (a2 : Int32) (M : zM) : Prop :=
    (∃ f, wp_X9_branchWith_L3 D post o f a0 a1 a2 (0 : Int32) M)
set_option maxHeartbeats 4000000 in
set_option maxRecDepth 100000 in
theorem w_X9_branchWith {l : Launch} {D : zD} {post : Int32 → zM → Prop} (hlt : l.stackTraces = false) {o : Nat} {a0 : Int32} {a1 : Int32} {a2 : Int32} {M : zM} (hw : wp_X9_branchWith D post o a0 a1 a2 M) : zMet l D yX9_branchWith (ws_ yX9_branchWith cX9_branchWith 5 (some .int)) rm_X9_branchWith 0 0 [.ref o, .int a0, .int a1, .int a2] M zI post (fun _ _ => False) := by
  unfold wp_X9_branchWith at hw
  have hlv : lv_args 0 [.ref o, .int a0, .int a1, .int a2] = [(0, .ref o), (1, .int a0), (2, .int a1), (3, .int a2)] := (zargs1 rfl (zargs1 rfl (zargs1 rfl (zargs1 rfl rfl))))
  refine z_ofW hlt (by decide) (Nat.le_trans (zsl1 rfl (zsl1 rfl (zsl1 rfl (zsl1 rfl (Nat.le_refl 0 : (lg_sl []).length ≤ 0))))) (Nat.le_of_ble_eq_true rfl)) hlv ?_
  intro p e s m args below meth c ls hG hZ hl
  have hC := hG.1
  have hx := hC.x
  have hb := hC.b
  have hown := hC.o
  have hts := hC.ts
  have hlt := hG.2.2.2.2.2
  obtain ⟨cells, hce⟩ : ∃ z : Nat, z = 0 := ⟨0, rfl⟩
  obtain ⟨slots, hsl⟩ : ∃ z : Nat, z = 0 := ⟨0, rfl⟩
  refine W.cs (cells' := cells) (slots' := slots) hce.symm hsl.symm ?_
  have hk : cells ≤ 0 := Nat.le_of_eq hce
  have hn : slots ≤ 0 := Nat.le_of_eq hsl
  clear hce hsl
  refine lv_iconst (v := 0) hx hb dX9_branchWith_0 (by decide) ?_
  refine lv_istore (i := 4) (lv' := [(4, .int (0 : Int32)), (0, .ref o), (1, .int a0), (2, .int a1), (3, .int a2)]) hx hb dX9_branchWith_1 hl (by decide) rfl (fun ls hl1 => ?_)
  replace hl := hl1
  clear hl1
  obtain ⟨f1, hw⟩ := hw
  exact wk_X9_branchWith_L3 hG f1 _ _ _ _ _ hk hn hZ (lv_sub hl [1, 2, 3, 4, 0] rfl) hw
abbrev rm_X9_branchOf : Room := { frames := 6, cells := 0, slots := 0, locals := 200 }
def wp_X9_branchOf_L98 (D : zD) (post : Int32 → zM → Prop) (o : Nat) (y0 : Int32) (M : zM) : Prop :=
    post y0 M
set_option maxHeartbeats 4000000 in
set_option maxRecDepth 100000 in
theorem wk_X9_branchOf_L98 {p : Program} {l : Launch} {e : Env} {s : State} {m : MethodId} {args : Array Value} {below : List Frame} {meth : Method} {c : Code} {D : zD} {post : Int32 → zM → Prop} {o : Nat} (hG : zGx p l s m args meth c cX9_branchOf 8 "PluralBranchesModel" D (some .int) "branchOf" []) : ∀ {H : Heap} {locs : List Loc} {cells slots : Nat} {ls : Array Slot} (y0 : Int32) (M : zM), cells ≤ 0 → slots ≤ 0 → zS D M H locs → lv_has ls 8 [] → wp_X9_branchOf_L98 D post o y0 M → W p l e rm_X9_branchOf s m args below meth c H locs cells slots (vx_MQ below (zQ D zI post) (zX D (fun _ _ => False)) args s 0 0 (zA D)) (F0 m 98 ls [.int y0]) := by
  have hC := hG.1
  have hx := hC.x
  have hb := hC.b
  have hown := hC.o
  have hts := hC.ts
  have hlt := hG.2.2.2.2.2
  intro H locs cells slots ls y0 M hk hn hZ hl hw
  exact z_iret hG hZ hk hn hw dX9_branchOf_98
def wp_X9_branchOf_L58 (D : zD) (post : Int32 → zM → Prop) (o : Nat) (k3 : Int32 → Int32 → Int32 → Int32 → Int32 → Int32 → zM → Prop) (x1 : Int32) (x2 : Int32) (x3 : Int32) (x4 : Int32) (x5 : Int32) (x6 : Int32) (M : zM) : Prop :=
    k3 x1 x2 x3 x4 x5 (x6 + 1) M
set_option maxHeartbeats 4000000 in
set_option maxRecDepth 100000 in
theorem wk_X9_branchOf_L58 {p : Program} {l : Launch} {e : Env} {s : State} {m : MethodId} {args : Array Value} {below : List Frame} {meth : Method} {c : Code} {D : zD} {post : Int32 → zM → Prop} {o : Nat} (hG : zGx p l s m args meth c cX9_branchOf 8 "PluralBranchesModel" D (some .int) "branchOf" []) (k3 : Int32 → Int32 → Int32 → Int32 → Int32 → Int32 → zM → Prop) (hk3 : ∀ {H : Heap} {locs : List Loc} {cells slots : Nat} {ls : Array Slot} (x1 : Int32) (x2 : Int32) (x3 : Int32) (x4 : Int32) (x5 : Int32) (x6 : Int32) (M : zM), cells ≤ 0 → slots ≤ 0 → zS D M H locs → lv_has ls 8 [(0, .ref o), (1, .int x1), (2, .int x2), (3, .int x3), (4, .int x4), (5, .int x5), (6, .int x6)] → k3 x1 x2 x3 x4 x5 x6 M → W p l e rm_X9_branchOf s m args below meth c H locs cells slots (vx_MQ below (zQ D zI post) (zX D (fun _ _ => False)) args s 0 0 (zA D)) (F0 m 3 ls [])) : ∀ {H : Heap} {locs : List Loc} {cells slots : Nat} {ls : Array Slot} (x1 : Int32) (x2 : Int32) (x3 : Int32) (x4 : Int32) (x5 : Int32) (x6 : Int32) (M : zM), cells ≤ 0 → slots ≤ 0 → zS D M H locs → lv_has ls 8 [(0, .ref o), (1, .int x1), (2, .int x2), (3, .int x3), (4, .int x4), (5, .int x5), (6, .int x6)] → wp_X9_branchOf_L58 D post o k3 x1 x2 x3 x4 x5 x6 M → W p l e rm_X9_branchOf s m args below meth c H locs cells slots (vx_MQ below (zQ D zI post) (zX D (fun _ _ => False)) args s 0 0 (zA D)) (F0 m 58 ls []) := by
  have hC := hG.1
  have hx := hC.x
  have hb := hC.b
  have hown := hC.o
  have hts := hC.ts
  have hlt := hG.2.2.2.2.2
  intro H locs cells slots ls x1 x2 x3 x4 x5 x6 M hk hn hZ hl hw
  refine lv_iinc (v := (x6 + 1)) (lv' := [(6, .int (x6 + 1)), (0, .ref o), (1, .int x1), (2, .int x2), (3, .int x3), (4, .int x4), (5, .int x5)]) hx hb dX9_branchOf_58 hl (k := 6) rfl rfl (by decide) rfl (fun ls hl1 => ?_)
  replace hl := hl1
  clear hl1
  refine lv_goto (tgt := 3) hx hb dX9_branchOf_61 (by decide) ?_
  exact hk3 _ _ _ _ _ _ _ hk hn hZ (lv_sub hl [1, 2, 3, 4, 5, 6, 0] rfl) hw
def wp_X9_branchOf_L3 (D : zD) (post : Int32 → zM → Prop) (o : Nat) : Nat → Int32 → Int32 → Int32 → Int32 → Int32 → Int32 → zM → Prop
  | 0 => fun _ _ _ _ _ _ _ => False
  | f + 1 => fun x1 x2 x3 x4 x5 x6 M =>
    (zgR M o 8 19 fun g1 => ((zd g1 fun b2 => zaI M b2 0 (((8 : Int32) * x1) + x3) fun v3 => ((v3 ≤ x6 → ((zis M o [8] ∧ wp_X9_categoryOf D (fun r4 M => ((zis M o [8] ∧ wp_X9_branchWith D (fun r7 M => ((r7 < 0 → ((zis M o [8] ∧ wp_X9_branchWith D (fun r10 M => wp_X9_branchOf_L98 D post o r10 M) o x1 x3 (5 : Int32) M))) ∧ (¬ r7 < 0 → wp_X9_branchOf_L98 D post o r7 M))) o x1 x3 r4 M))) o x2 x4 x5 M))) ∧ (¬ v3 ≤ x6 → ((zis M o [8] ∧ wp_X9_keyAt D (fun r14 M => ((r14 < (10 : Int32) → wp_X9_branchOf_L58 D post o (wp_X9_branchOf_L3 D post o f) x1 x2 x3 x4 x5 x6 M) ∧ (¬ r14 < (10 : Int32) → (wp_X9_tens D (fun r17 M => ((¬ (lg_cmp (x4.toInt64) (((r14 - (10 : Int32)).toInt64) * r17)) = 0 → wp_X9_branchOf_L58 D post o (wp_X9_branchOf_L3 D post o f) x1 x2 x3 x4 x5 x6 M) ∧ ((lg_cmp (x4.toInt64) (((r14 - (10 : Int32)).toInt64) * r17)) = 0 → post x6 M))) x5 M)))) o x1 x3 x6 M)))))))
set_option maxHeartbeats 4000000 in
set_option maxRecDepth 100000 in
theorem wk_X9_branchOf_L3 {p : Program} {l : Launch} {e : Env} {s : State} {m : MethodId} {args : Array Value} {below : List Frame} {meth : Method} {c : Code} {D : zD} {post : Int32 → zM → Prop} {o : Nat} (hG : zGx p l s m args meth c cX9_branchOf 8 "PluralBranchesModel" D (some .int) "branchOf" []) : ∀ (f : Nat), ∀ {H : Heap} {locs : List Loc} {cells slots : Nat} {ls : Array Slot} (x1 : Int32) (x2 : Int32) (x3 : Int32) (x4 : Int32) (x5 : Int32) (x6 : Int32) (M : zM), cells ≤ 0 → slots ≤ 0 → zS D M H locs → lv_has ls 8 [(0, .ref o), (1, .int x1), (2, .int x2), (3, .int x3), (4, .int x4), (5, .int x5), (6, .int x6)] → wp_X9_branchOf_L3 D post o f x1 x2 x3 x4 x5 x6 M → W p l e rm_X9_branchOf s m args below meth c H locs cells slots (vx_MQ below (zQ D zI post) (zX D (fun _ _ => False)) args s 0 0 (zA D)) (F0 m 3 ls []) := by
  have hC := hG.1
  have hx := hC.x
  have hb := hC.b
  have hown := hC.o
  have hts := hC.ts
  have hlt := hG.2.2.2.2.2
  intro f
  induction f with
  | zero =>
    intro H locs cells slots ls x1 x2 x3 x4 x5 x6 M hk hn hZ hl hw
    exact absurd hw (fun h => h)
  | succ f ih =>
    intro H locs cells slots ls x1 x2 x3 x4 x5 x6 M hk hn hZ hl hw
    refine lv_iload hx hb dX9_branchOf_3 (lv_at hl 6 rfl) ?_
    refine lv_aload_n hx hb dX9_branchOf_5 rfl (lv_at hl 0 rfl) ?_
    obtain ⟨fs0, g23, hM0, hx0, hw⟩ := hw
    refine z_get hC hZ hM0 zc8 19 (by decide) q1739 (fun _ h9 => h9) hx0 dX9_branchOf_6 ?_
    refine lv_bipush (v := 8) hx hb dX9_branchOf_9 (by decide) ?_
    refine lv_iload_n hx hb dX9_branchOf_11 rfl (lv_at hl 1 rfl) ?_
    refine lv_imul hx hb dX9_branchOf_12 ?_
    refine lv_iload_n hx hb dX9_branchOf_13 rfl (lv_at hl 3 rfl) ?_
    refine lv_iadd hx hb dX9_branchOf_14 ?_
    obtain ⟨b24, hr0, hw⟩ := hw
    subst hr0
    obtain ⟨n0, f0, hM0, hi0, hw⟩ := hw
    refine z_iald hC hZ hM0 hi0 dX9_branchOf_15 ?_
    generalize f0 _ = v25 at hw ⊢
    refine lv_icmp_ge (tgt := 64) hx hb dX9_branchOf_16 (by decide) (fun c44 => ?_) (fun c44 => ?_)
    · replace hw := hw.1 c44
      refine lv_aload_n hx hb dX9_branchOf_64 rfl (lv_at hl 0 rfl) ?_
      refine lv_iload_n hx hb dX9_branchOf_65 rfl (lv_at hl 1 rfl) ?_
      refine lv_iload_n hx hb dX9_branchOf_66 rfl (lv_at hl 3 rfl) ?_
      refine lv_aload_n hx hb dX9_branchOf_67 rfl (lv_at hl 0 rfl) ?_
      refine lv_iload_n hx hb dX9_branchOf_68 rfl (lv_at hl 2 rfl) ?_
      refine lv_iload hx hb dX9_branchOf_69 (lv_at hl 4 rfl) ?_
      refine lv_iload hx hb dX9_branchOf_71 (lv_at hl 5 rfl) ?_
      obtain ⟨⟨ci0, fs0, hci0, hM0⟩, hw⟩ := hw
      obtain rfl : ci0 = 8 := List.mem_singleton.mp hci0
      refine z_callI hZ (vx_runV (As := [.int x2, .int x4, .int x5]) (rest := [.int x3, .int x1, .ref o]) hC.fix (w_X9_categoryOf hlt hw) (cwV 3 hts (lw_V q1922 q1924 qs28 q83 q1925) rfl rfl rfl ⟨rfl, dd_X9_categoryOf⟩ ⟨Nat.le_of_ble_eq_true rfl, Nat.le_of_ble_eq_true rfl⟩) (z_preV hC hZ hM0 zc8) rfl rfl hl.1 rfl (lv_room (Nat.le_trans (zrm1 rfl (zrm1 rfl (zrm1 rfl zrm0))) (Nat.le_of_ble_eq_true rfl))) dX9_branchOf_73 ⟨hk, hn⟩) (fun r26 M H locs hw1 hZ => ?_) (fun q M H locs ci fs E T9 N9 hw hZ hc1 hM1 hb1 => False.elim hw)
      replace hw := hw1
      clear hw1
      refine W.cs (cells' := cells) (slots' := slots) rfl rfl ?_
      obtain ⟨⟨ci0, fs0, hci0, hM0⟩, hw⟩ := hw
      obtain rfl : ci0 = 8 := List.mem_singleton.mp hci0
      refine z_callI hZ (vx_runV (As := [.int x1, .int x3, .int r26]) (rest := []) hC.fix (w_X9_branchWith hlt hw) (cwV 3 hts (lw_V q2057 q2059 qs45 q83 q2060) rfl rfl rfl ⟨rfl, dd_X9_branchWith⟩ ⟨Nat.le_of_ble_eq_true rfl, Nat.le_of_ble_eq_true rfl⟩) (z_preV hC hZ hM0 zc8) rfl rfl hl.1 rfl (lv_room (Nat.zero_le _)) dX9_branchOf_76 ⟨hk, hn⟩) (fun r29 M H locs hw1 hZ => ?_) (fun q M H locs ci fs E T9 N9 hw hZ hc1 hM1 hb1 => False.elim hw)
      replace hw := hw1
      clear hw1
      refine W.cs (cells' := cells) (slots' := slots) rfl rfl ?_
      refine lv_istore (i := 6) (lv' := [(6, .int r29), (0, .ref o), (1, .int x1), (2, .int x2), (3, .int x3), (4, .int x4), (5, .int x5)]) hx hb dX9_branchOf_79 hl (by decide) rfl (fun ls hl1 => ?_)
      replace hl := hl1
      clear hl1
      refine lv_iload hx hb dX9_branchOf_81 (lv_at hl 0 rfl) ?_
      refine lv_if_lt (tgt := 91) hx hb dX9_branchOf_83 (by decide) (fun c35 => ?_) (fun c35 => ?_)
      · replace hw := hw.1 c35
        refine lv_aload_n hx hb dX9_branchOf_91 rfl (lv_at hl 1 rfl) ?_
        refine lv_iload_n hx hb dX9_branchOf_92 rfl (lv_at hl 2 rfl) ?_
        refine lv_iload_n hx hb dX9_branchOf_93 rfl (lv_at hl 4 rfl) ?_
        refine lv_iconst (v := 5) hx hb dX9_branchOf_94 (by decide) ?_
        obtain ⟨⟨ci0, fs0, hci0, hM0⟩, hw⟩ := hw
        obtain rfl : ci0 = 8 := List.mem_singleton.mp hci0
        refine z_callI hZ (vx_runV (As := [.int x1, .int x3, .int (5 : Int32)]) (rest := []) hC.fix (w_X9_branchWith hlt hw) (cwV 3 hts (lw_V q2057 q2059 qs45 q83 q2060) rfl rfl rfl ⟨rfl, dd_X9_branchWith⟩ ⟨Nat.le_of_ble_eq_true rfl, Nat.le_of_ble_eq_true rfl⟩) (z_preV hC hZ hM0 zc8) rfl rfl hl.1 rfl (lv_room (Nat.zero_le _)) dX9_branchOf_95 ⟨hk, hn⟩) (fun r32 M H locs hw1 hZ => ?_) (fun q M H locs ci fs E T9 N9 hw hZ hc1 hM1 hb1 => False.elim hw)
        replace hw := hw1
        clear hw1
        refine W.cs (cells' := cells) (slots' := slots) rfl rfl ?_
        exact wk_X9_branchOf_L98 hG _ _ hk hn hZ (lv_sub hl [] rfl) hw
      · replace hw := hw.2 c35
        refine lv_iload hx hb dX9_branchOf_86 (lv_at hl 0 rfl) ?_
        refine lv_goto (tgt := 98) hx hb dX9_branchOf_88 (by decide) ?_
        exact wk_X9_branchOf_L98 hG _ _ hk hn hZ (lv_sub hl [] rfl) hw
    · replace hw := hw.2 c44
      refine lv_aload_n hx hb dX9_branchOf_19 rfl (lv_at hl 0 rfl) ?_
      refine lv_iload_n hx hb dX9_branchOf_20 rfl (lv_at hl 1 rfl) ?_
      refine lv_iload_n hx hb dX9_branchOf_21 rfl (lv_at hl 3 rfl) ?_
      refine lv_iload hx hb dX9_branchOf_22 (lv_at hl 6 rfl) ?_
      obtain ⟨⟨ci0, fs0, hci0, hM0⟩, hw⟩ := hw
      obtain rfl : ci0 = 8 := List.mem_singleton.mp hci0
      refine z_callI hZ (vx_runV (As := [.int x1, .int x3, .int x6]) (rest := []) hC.fix (w_X9_keyAt hlt hw) (cwV 3 hts (lw_V q2045 q2047 qs43 q83 q2048) rfl rfl rfl ⟨rfl, dd_X9_keyAt⟩ ⟨Nat.le_of_ble_eq_true rfl, Nat.le_of_ble_eq_true rfl⟩) (z_preV hC hZ hM0 zc8) rfl rfl hl.1 rfl (lv_room (Nat.zero_le _)) dX9_branchOf_24 ⟨hk, hn⟩) (fun r36 M H locs hw1 hZ => ?_) (fun q M H locs ci fs E T9 N9 hw hZ hc1 hM1 hb1 => False.elim hw)
      replace hw := hw1
      clear hw1
      refine W.cs (cells' := cells) (slots' := slots) rfl rfl ?_
      refine lv_istore (i := 7) (lv' := [(7, .int r36), (0, .ref o), (1, .int x1), (2, .int x2), (3, .int x3), (4, .int x4), (5, .int x5), (6, .int x6)]) hx hb dX9_branchOf_27 hl (by decide) rfl (fun ls hl1 => ?_)
      replace hl := hl1
      clear hl1
      refine lv_iload hx hb dX9_branchOf_29 (lv_at hl 0 rfl) ?_
      refine lv_bipush (v := 10) hx hb dX9_branchOf_31 (by decide) ?_
      refine lv_icmp_lt (tgt := 58) hx hb dX9_branchOf_33 (by decide) (fun c43 => ?_) (fun c43 => ?_)
      · replace hw := hw.1 c43
        exact wk_X9_branchOf_L58 hG _ (fun {_ _ _ _ _} _z0 _z1 _z2 _z3 _z4 _z5 _z6 h1 h2 h3 h4 h5 => ih _z0 _z1 _z2 _z3 _z4 _z5 _z6 h1 h2 h3 h4 h5) _ _ _ _ _ _ _ hk hn hZ (lv_sub hl [1, 2, 3, 4, 5, 6, 7] rfl) hw
      · replace hw := hw.2 c43
        refine lv_iload hx hb dX9_branchOf_36 (lv_at hl 5 rfl) ?_
        refine lv_i2l hx hb dX9_branchOf_38 rfl ?_
        refine lv_iload hx hb dX9_branchOf_39 (lv_at hl 0 rfl) ?_
        refine lv_bipush (v := 10) hx hb dX9_branchOf_41 (by decide) ?_
        refine lv_isub hx hb dX9_branchOf_43 ?_
        refine lv_i2l hx hb dX9_branchOf_44 rfl ?_
        refine lv_iload hx hb dX9_branchOf_45 (lv_at hl 6 rfl) ?_
        refine z_callL hZ (vx_runS (As := [.int x5]) (rest := [.long ((r36 - (10 : Int32)).toInt64), .long (x4.toInt64)]) hC.fix (w_X9_tens hlt hw) (va_cwS 1 hts (lw_S q1901 q1902 q83 q1903) rfl rfl rfl dd_X9_tens ⟨Nat.le_of_ble_eq_true rfl, Nat.le_of_ble_eq_true rfl⟩) (z_preS hC hZ) rfl rfl hl.1 rfl (lv_room (Nat.le_trans (zrm2 rfl (zrm2 rfl zrm0)) (Nat.le_of_ble_eq_true rfl))) dX9_branchOf_47 ⟨hk, hn⟩) (fun r39 M H locs hw1 hZ => ?_) (fun q M H locs ci fs E T9 N9 hw hZ hc1 hM1 hb1 => False.elim hw)
        replace hw := hw1
        clear hw1
        refine W.cs (cells' := cells) (slots' := slots) rfl rfl ?_
        refine lv_lmul hx hb dX9_branchOf_50 ?_
        refine W.lcmp hx hb dX9_branchOf_51 ?_
        refine lv_if_ne (tgt := 58) hx hb dX9_branchOf_52 (by decide) (fun c42 => ?_) (fun c42 => ?_)
        · replace hw := hw.1 c42
          exact wk_X9_branchOf_L58 hG _ (fun {_ _ _ _ _} _z0 _z1 _z2 _z3 _z4 _z5 _z6 h1 h2 h3 h4 h5 => ih _z0 _z1 _z2 _z3 _z4 _z5 _z6 h1 h2 h3 h4 h5) _ _ _ _ _ _ _ hk hn hZ (lv_sub hl [1, 2, 3, 4, 5, 6, 7] rfl) hw
        · replace hw := hw.2 c42
          refine lv_iload hx hb dX9_branchOf_55 (lv_at hl 7 rfl) ?_
          exact z_iret hG hZ hk hn hw dX9_branchOf_57
def wp_X9_branchOf (D : zD) (post : Int32 → zM → Prop) (o : Nat) (a0 : Int32) (a1 : Int32) (a2 : Int32) (a3 : Int32) (a4 : Int32) (M : zM) : Prop :=
    (∃ f, wp_X9_branchOf_L3 D post o f a0 a1 a2 a3 a4 (0 : Int32) M)
set_option maxHeartbeats 4000000 in
set_option maxRecDepth 100000 in
theorem w_X9_branchOf {l : Launch} {D : zD} {post : Int32 → zM → Prop} (hlt : l.stackTraces = false) {o : Nat} {a0 : Int32} {a1 : Int32} {a2 : Int32} {a3 : Int32} {a4 : Int32} {M : zM} (hw : wp_X9_branchOf D post o a0 a1 a2 a3 a4 M) : zMet l D yX9_branchOf (ws_ yX9_branchOf cX9_branchOf 8 (some .int)) rm_X9_branchOf 0 0 [.ref o, .int a0, .int a1, .int a2, .int a3, .int a4] M zI post (fun _ _ => False) := by
  unfold wp_X9_branchOf at hw
  have hlv : lv_args 0 [.ref o, .int a0, .int a1, .int a2, .int a3, .int a4] = [(0, .ref o), (1, .int a0), (2, .int a1), (3, .int a2), (4, .int a3), (5, .int a4)] := (zargs1 rfl (zargs1 rfl (zargs1 rfl (zargs1 rfl (zargs1 rfl (zargs1 rfl rfl))))))
  refine z_ofW hlt (by decide) (Nat.le_trans (zsl1 rfl (zsl1 rfl (zsl1 rfl (zsl1 rfl (zsl1 rfl (zsl1 rfl (Nat.le_refl 0 : (lg_sl []).length ≤ 0))))))) (Nat.le_of_ble_eq_true rfl)) hlv ?_
  intro p e s m args below meth c ls hG hZ hl
  have hC := hG.1
  have hx := hC.x
  have hb := hC.b
  have hown := hC.o
  have hts := hC.ts
  have hlt := hG.2.2.2.2.2
  obtain ⟨cells, hce⟩ : ∃ z : Nat, z = 0 := ⟨0, rfl⟩
  obtain ⟨slots, hsl⟩ : ∃ z : Nat, z = 0 := ⟨0, rfl⟩
  refine W.cs (cells' := cells) (slots' := slots) hce.symm hsl.symm ?_
  have hk : cells ≤ 0 := Nat.le_of_eq hce
  have hn : slots ≤ 0 := Nat.le_of_eq hsl
  clear hce hsl
  refine lv_iconst (v := 0) hx hb dX9_branchOf_0 (by decide) ?_
  refine lv_istore (i := 6) (lv' := [(6, .int (0 : Int32)), (0, .ref o), (1, .int a0), (2, .int a1), (3, .int a2), (4, .int a3), (5, .int a4)]) hx hb dX9_branchOf_1 hl (by decide) rfl (fun ls hl1 => ?_)
  replace hl := hl1
  clear hl1
  obtain ⟨f1, hw⟩ := hw
  exact wk_X9_branchOf_L3 hG f1 _ _ _ _ _ _ _ hk hn hZ (lv_sub hl [1, 2, 3, 4, 5, 6, 0] rfl) hw
abbrev rm_X9_branch : Room := { frames := 7, cells := 0, slots := 0, locals := 227 }
def wp_X9_branch_L27 (D : zD) (post : Int32 → zM → Prop) (o : Nat) (M : zM) : Prop :=
    post (-1 : Int32) M
set_option maxHeartbeats 4000000 in
set_option maxRecDepth 100000 in
theorem wk_X9_branch_L27 {p : Program} {l : Launch} {e : Env} {s : State} {m : MethodId} {args : Array Value} {below : List Frame} {meth : Method} {c : Code} {D : zD} {post : Int32 → zM → Prop} {o : Nat} (hG : zGx p l s m args meth c cX9_branch 6 "PluralBranchesModel" D (some .int) "branch" []) : ∀ {H : Heap} {locs : List Loc} {cells slots : Nat} {ls : Array Slot} (M : zM), cells ≤ 0 → slots ≤ 0 → zS D M H locs → lv_has ls 6 [] → wp_X9_branch_L27 D post o M → W p l e rm_X9_branch s m args below meth c H locs cells slots (vx_MQ below (zQ D zI post) (zX D (fun _ _ => False)) args s 0 0 (zA D)) (F0 m 27 ls []) := by
  have hC := hG.1
  have hx := hC.x
  have hb := hC.b
  have hown := hC.o
  have hts := hC.ts
  have hlt := hG.2.2.2.2.2
  intro H locs cells slots ls M hk hn hZ hl hw
  refine lv_iconst (v := (-1)) hx hb dX9_branch_27 (by decide) ?_
  exact z_iret hG hZ hk hn hw dX9_branch_28
def wp_X9_branch_L53 (D : zD) (post : Int32 → zM → Prop) (o : Nat) (M : zM) : Prop :=
    post (-2 : Int32) M
set_option maxHeartbeats 4000000 in
set_option maxRecDepth 100000 in
theorem wk_X9_branch_L53 {p : Program} {l : Launch} {e : Env} {s : State} {m : MethodId} {args : Array Value} {below : List Frame} {meth : Method} {c : Code} {D : zD} {post : Int32 → zM → Prop} {o : Nat} (hG : zGx p l s m args meth c cX9_branch 6 "PluralBranchesModel" D (some .int) "branch" []) : ∀ {H : Heap} {locs : List Loc} {cells slots : Nat} {ls : Array Slot} (M : zM), cells ≤ 0 → slots ≤ 0 → zS D M H locs → lv_has ls 6 [] → wp_X9_branch_L53 D post o M → W p l e rm_X9_branch s m args below meth c H locs cells slots (vx_MQ below (zQ D zI post) (zX D (fun _ _ => False)) args s 0 0 (zA D)) (F0 m 53 ls []) := by
  have hC := hG.1
  have hx := hC.x
  have hb := hC.b
  have hown := hC.o
  have hts := hC.ts
  have hlt := hG.2.2.2.2.2
  intro H locs cells slots ls M hk hn hZ hl hw
  refine lv_bipush (v := (-2)) hx hb dX9_branch_53 (by decide) ?_
  exact z_iret hG hZ hk hn hw dX9_branch_55
def wp_X9_branch (D : zD) (post : Int32 → zM → Prop) (o : Nat) (a0 : Int32) (a1 : Int32) (a2 : Int32) (a3 : Int32) (a4 : Int32) (M : zM) : Prop :=
    (wp_X9_isSlot D (fun r1 M => ((r1 = 0 → wp_X9_branch_L27 D post o M) ∧ (¬ r1 = 0 → (wp_X9_isLanguage D (fun r4 M => ((r4 = 0 → wp_X9_branch_L27 D post o M) ∧ (¬ r4 = 0 → (wp_X9_in D (fun r7 M => ((¬ r7 = 0 → ((zis M o [8] ∧ wp_X9_isChoice D (fun r10 M => ((r10 = 0 → wp_X9_branch_L53 D post o M) ∧ (¬ r10 = 0 → (zgR M o 8 17 fun g13 => ((zd g13 fun b14 => zaI M b14 0 (((8 : Int32) * a0) + a2) fun v15 => ((v15 = (1 : Int32) → ((zis M o [8] ∧ wp_X9_branchOf D (fun r16 M => post r16 M) o a0 a1 a2 a3 a4 M))) ∧ (¬ v15 = (1 : Int32) → wp_X9_branch_L53 D post o M)))))))) o a0 a2 M))) ∧ (r7 = 0 → wp_X9_branch_L27 D post o M))) (a4.toInt64) (0 : Int64) (6 : Int64) M)))) a1 M)))) a0 M)
set_option maxHeartbeats 4000000 in
set_option maxRecDepth 100000 in
theorem w_X9_branch {l : Launch} {D : zD} {post : Int32 → zM → Prop} (hlt : l.stackTraces = false) {o : Nat} {a0 : Int32} {a1 : Int32} {a2 : Int32} {a3 : Int32} {a4 : Int32} {M : zM} (hw : wp_X9_branch D post o a0 a1 a2 a3 a4 M) : zMet l D yX9_branch (ws_ yX9_branch cX9_branch 6 (some .int)) rm_X9_branch 0 0 [.ref o, .int a0, .int a1, .int a2, .int a3, .int a4] M zI post (fun _ _ => False) := by
  unfold wp_X9_branch at hw
  have hlv : lv_args 0 [.ref o, .int a0, .int a1, .int a2, .int a3, .int a4] = [(0, .ref o), (1, .int a0), (2, .int a1), (3, .int a2), (4, .int a3), (5, .int a4)] := (zargs1 rfl (zargs1 rfl (zargs1 rfl (zargs1 rfl (zargs1 rfl (zargs1 rfl rfl))))))
  refine z_ofW hlt (by decide) (Nat.le_trans (zsl1 rfl (zsl1 rfl (zsl1 rfl (zsl1 rfl (zsl1 rfl (zsl1 rfl (Nat.le_refl 0 : (lg_sl []).length ≤ 0))))))) (Nat.le_of_ble_eq_true rfl)) hlv ?_
  intro p e s m args below meth c ls hG hZ hl
  have hC := hG.1
  have hx := hC.x
  have hb := hC.b
  have hown := hC.o
  have hts := hC.ts
  have hlt := hG.2.2.2.2.2
  obtain ⟨cells, hce⟩ : ∃ z : Nat, z = 0 := ⟨0, rfl⟩
  obtain ⟨slots, hsl⟩ : ∃ z : Nat, z = 0 := ⟨0, rfl⟩
  refine W.cs (cells' := cells) (slots' := slots) hce.symm hsl.symm ?_
  have hk : cells ≤ 0 := Nat.le_of_eq hce
  have hn : slots ≤ 0 := Nat.le_of_eq hsl
  clear hce hsl
  refine lv_iload_n hx hb dX9_branch_0 rfl (lv_at hl 1 rfl) ?_
  refine z_callI hZ (vx_runS (As := [.int a0]) (rest := []) hC.fix (w_X9_isSlot hlt hw) (va_cwS 1 hts (lw_S q1963 q1964 q83 q1965) rfl rfl rfl dd_X9_isSlot ⟨Nat.le_of_ble_eq_true rfl, Nat.le_of_ble_eq_true rfl⟩) (z_preS hC hZ) rfl rfl hl.1 rfl (lv_room (Nat.zero_le _)) dX9_branch_1 ⟨hk, hn⟩) (fun r24 M H locs hw1 hZ => ?_) (fun q M H locs ci fs E T9 N9 hw hZ hc1 hM1 hb1 => False.elim hw)
  replace hw := hw1
  clear hw1
  refine W.cs (cells' := cells) (slots' := slots) rfl rfl ?_
  refine lv_if_eq (tgt := 27) hx hb dX9_branch_4 (by decide) (fun c46 => ?_) (fun c46 => ?_)
  · replace hw := hw.1 c46
    exact wk_X9_branch_L27 hG _ hk hn hZ (lv_sub hl [] rfl) hw
  · replace hw := hw.2 c46
    refine lv_iload_n hx hb dX9_branch_7 rfl (lv_at hl 2 rfl) ?_
    refine z_callI hZ (vx_runS (As := [.int a1]) (rest := []) hC.fix (w_X9_isLanguage hlt hw) (va_cwS 1 hts (lw_S q1919 q1920 q83 q1921) rfl rfl rfl dd_X9_isLanguage ⟨Nat.le_of_ble_eq_true rfl, Nat.le_of_ble_eq_true rfl⟩) (z_preS hC hZ) rfl rfl hl.1 rfl (lv_room (Nat.zero_le _)) dX9_branch_8 ⟨hk, hn⟩) (fun r27 M H locs hw1 hZ => ?_) (fun q M H locs ci fs E T9 N9 hw hZ hc1 hM1 hb1 => False.elim hw)
    replace hw := hw1
    clear hw1
    refine W.cs (cells' := cells) (slots' := slots) rfl rfl ?_
    refine lv_if_eq (tgt := 27) hx hb dX9_branch_11 (by decide) (fun c45 => ?_) (fun c45 => ?_)
    · replace hw := hw.1 c45
      exact wk_X9_branch_L27 hG _ hk hn hZ (lv_sub hl [] rfl) hw
    · replace hw := hw.2 c45
      refine lv_iload hx hb dX9_branch_14 (lv_at hl 5 rfl) ?_
      refine lv_i2l hx hb dX9_branch_16 rfl ?_
      refine lv_lconst (v := 0) hx hb dX9_branch_17 (by decide) ?_
      refine lv_ldc2 hx hb hown (hts _ q1893) dX9_branch_18 ?_
      refine z_callI hZ (vx_runS (As := [.long (a4.toInt64), .long (0 : Int64), .long (6 : Int64)]) (rest := []) hC.fix (w_X9_in hlt hw) (va_cwS 3 hts (lw_S q1894 q1895 q83 q1896) rfl rfl rfl dd_X9_in ⟨Nat.le_of_ble_eq_true rfl, Nat.le_of_ble_eq_true rfl⟩) (z_preS hC hZ) rfl rfl hl.1 rfl (lv_room (Nat.zero_le _)) dX9_branch_21 ⟨hk, hn⟩) (fun r30 M H locs hw1 hZ => ?_) (fun q M H locs ci fs E T9 N9 hw hZ hc1 hM1 hb1 => False.elim hw)
      replace hw := hw1
      clear hw1
      refine W.cs (cells' := cells) (slots' := slots) rfl rfl ?_
      refine lv_if_ne (tgt := 29) hx hb dX9_branch_24 (by decide) (fun c44 => ?_) (fun c44 => ?_)
      · replace hw := hw.1 c44
        refine lv_aload_n hx hb dX9_branch_29 rfl (lv_at hl 0 rfl) ?_
        refine lv_iload_n hx hb dX9_branch_30 rfl (lv_at hl 1 rfl) ?_
        refine lv_iload_n hx hb dX9_branch_31 rfl (lv_at hl 3 rfl) ?_
        obtain ⟨⟨ci0, fs0, hci0, hM0⟩, hw⟩ := hw
        obtain rfl : ci0 = 8 := List.mem_singleton.mp hci0
        refine z_callI hZ (vx_runV (As := [.int a0, .int a2]) (rest := []) hC.fix (w_X9_isChoice hlt hw) (cwV 2 hts (lw_V q2037 q2039 qs42 q83 q2040) rfl rfl rfl ⟨rfl, dd_X9_isChoice⟩ ⟨Nat.le_of_ble_eq_true rfl, Nat.le_of_ble_eq_true rfl⟩) (z_preV hC hZ hM0 zc8) rfl rfl hl.1 rfl (lv_room (Nat.zero_le _)) dX9_branch_32 ⟨hk, hn⟩) (fun r33 M H locs hw1 hZ => ?_) (fun q M H locs ci fs E T9 N9 hw hZ hc1 hM1 hb1 => False.elim hw)
        replace hw := hw1
        clear hw1
        refine W.cs (cells' := cells) (slots' := slots) rfl rfl ?_
        refine lv_if_eq (tgt := 53) hx hb dX9_branch_35 (by decide) (fun c43 => ?_) (fun c43 => ?_)
        · replace hw := hw.1 c43
          exact wk_X9_branch_L53 hG _ hk hn hZ (lv_sub hl [] rfl) hw
        · replace hw := hw.2 c43
          refine lv_aload_n hx hb dX9_branch_38 rfl (lv_at hl 0 rfl) ?_
          obtain ⟨fs0, g36, hM0, hx0, hw⟩ := hw
          refine z_get hC hZ hM0 zc8 17 (by decide) q1737 (fun _ h9 => h9) hx0 dX9_branch_39 ?_
          refine lv_bipush (v := 8) hx hb dX9_branch_42 (by decide) ?_
          refine lv_iload_n hx hb dX9_branch_44 rfl (lv_at hl 1 rfl) ?_
          refine lv_imul hx hb dX9_branch_45 ?_
          refine lv_iload_n hx hb dX9_branch_46 rfl (lv_at hl 3 rfl) ?_
          refine lv_iadd hx hb dX9_branch_47 ?_
          obtain ⟨b37, hr0, hw⟩ := hw
          subst hr0
          obtain ⟨n0, f0, hM0, hi0, hw⟩ := hw
          refine z_iald hC hZ hM0 hi0 dX9_branch_48 ?_
          generalize f0 _ = v38 at hw ⊢
          refine lv_iconst (v := 1) hx hb dX9_branch_49 (by decide) ?_
          refine lv_icmp_eq (tgt := 56) hx hb dX9_branch_50 (by decide) (fun c42 => ?_) (fun c42 => ?_)
          · replace hw := hw.1 c42
            refine lv_aload_n hx hb dX9_branch_56 rfl (lv_at hl 0 rfl) ?_
            refine lv_iload_n hx hb dX9_branch_57 rfl (lv_at hl 1 rfl) ?_
            refine lv_iload_n hx hb dX9_branch_58 rfl (lv_at hl 2 rfl) ?_
            refine lv_iload_n hx hb dX9_branch_59 rfl (lv_at hl 3 rfl) ?_
            refine lv_iload hx hb dX9_branch_60 (lv_at hl 4 rfl) ?_
            refine lv_iload hx hb dX9_branch_62 (lv_at hl 5 rfl) ?_
            obtain ⟨⟨ci0, fs0, hci0, hM0⟩, hw⟩ := hw
            obtain rfl : ci0 = 8 := List.mem_singleton.mp hci0
            refine z_callI hZ (vx_runV (As := [.int a0, .int a1, .int a2, .int a3, .int a4]) (rest := []) hC.fix (w_X9_branchOf hlt hw) (cwV 5 hts (lw_V q2069 q2071 qs47 q83 q2072) rfl rfl rfl ⟨rfl, dd_X9_branchOf⟩ ⟨Nat.le_of_ble_eq_true rfl, Nat.le_of_ble_eq_true rfl⟩) (z_preV hC hZ hM0 zc8) rfl rfl hl.1 rfl (lv_room (Nat.zero_le _)) dX9_branch_64 ⟨hk, hn⟩) (fun r39 M H locs hw1 hZ => ?_) (fun q M H locs ci fs E T9 N9 hw hZ hc1 hM1 hb1 => False.elim hw)
            replace hw := hw1
            clear hw1
            refine W.cs (cells' := cells) (slots' := slots) rfl rfl ?_
            exact z_iret hG hZ hk hn hw dX9_branch_67
          · replace hw := hw.2 c42
            exact wk_X9_branch_L53 hG _ hk hn hZ (lv_sub hl [] rfl) hw
      · replace hw := hw.2 c44
        exact wk_X9_branch_L27 hG _ hk hn hZ (lv_sub hl [] rfl) hw
abbrev rm_X9_category : Room := { frames := 6, cells := 0, slots := 0, locals := 200 }
def wp_X9_category_L30 (D : zD) (post : Int32 → zM → Prop) (o : Nat) (y0 : Int32) (M : zM) : Prop :=
    post y0 M
set_option maxHeartbeats 4000000 in
set_option maxRecDepth 100000 in
theorem wk_X9_category_L30 {p : Program} {l : Launch} {e : Env} {s : State} {m : MethodId} {args : Array Value} {below : List Frame} {meth : Method} {c : Code} {D : zD} {post : Int32 → zM → Prop} {o : Nat} (hG : zGx p l s m args meth c cX9_category 4 "PluralBranchesModel" D (some .int) "category" []) : ∀ {H : Heap} {locs : List Loc} {cells slots : Nat} {ls : Array Slot} (y0 : Int32) (M : zM), cells ≤ 0 → slots ≤ 0 → zS D M H locs → lv_has ls 4 [] → wp_X9_category_L30 D post o y0 M → W p l e rm_X9_category s m args below meth c H locs cells slots (vx_MQ below (zQ D zI post) (zX D (fun _ _ => False)) args s 0 0 (zA D)) (F0 m 30 ls [.int y0]) := by
  have hC := hG.1
  have hx := hC.x
  have hb := hC.b
  have hown := hC.o
  have hts := hC.ts
  have hlt := hG.2.2.2.2.2
  intro H locs cells slots ls y0 M hk hn hZ hl hw
  exact z_iret hG hZ hk hn hw dX9_category_30
def wp_X9_category_L29 (D : zD) (post : Int32 → zM → Prop) (o : Nat) (M : zM) : Prop :=
    wp_X9_category_L30 D post o (-1 : Int32) M
set_option maxHeartbeats 4000000 in
set_option maxRecDepth 100000 in
theorem wk_X9_category_L29 {p : Program} {l : Launch} {e : Env} {s : State} {m : MethodId} {args : Array Value} {below : List Frame} {meth : Method} {c : Code} {D : zD} {post : Int32 → zM → Prop} {o : Nat} (hG : zGx p l s m args meth c cX9_category 4 "PluralBranchesModel" D (some .int) "category" []) : ∀ {H : Heap} {locs : List Loc} {cells slots : Nat} {ls : Array Slot} (M : zM), cells ≤ 0 → slots ≤ 0 → zS D M H locs → lv_has ls 4 [] → wp_X9_category_L29 D post o M → W p l e rm_X9_category s m args below meth c H locs cells slots (vx_MQ below (zQ D zI post) (zX D (fun _ _ => False)) args s 0 0 (zA D)) (F0 m 29 ls []) := by
  have hC := hG.1
  have hx := hC.x
  have hb := hC.b
  have hown := hC.o
  have hts := hC.ts
  have hlt := hG.2.2.2.2.2
  intro H locs cells slots ls M hk hn hZ hl hw
  refine lv_iconst (v := (-1)) hx hb dX9_category_29 (by decide) ?_
  exact wk_X9_category_L30 hG _ _ hk hn hZ (lv_sub hl [] rfl) hw
def wp_X9_category (D : zD) (post : Int32 → zM → Prop) (o : Nat) (a0 : Int32) (a1 : Int32) (a2 : Int32) (M : zM) : Prop :=
    (wp_X9_isLanguage D (fun r1 M => ((r1 = 0 → wp_X9_category_L29 D post o M) ∧ (¬ r1 = 0 → (wp_X9_in D (fun r4 M => ((r4 = 0 → wp_X9_category_L29 D post o M) ∧ (¬ r4 = 0 → ((zis M o [8] ∧ wp_X9_categoryOf D (fun r7 M => wp_X9_category_L30 D post o r7 M) o a0 a1 a2 M))))) (a2.toInt64) (0 : Int64) (6 : Int64) M)))) a0 M)
set_option maxHeartbeats 4000000 in
set_option maxRecDepth 100000 in
theorem w_X9_category {l : Launch} {D : zD} {post : Int32 → zM → Prop} (hlt : l.stackTraces = false) {o : Nat} {a0 : Int32} {a1 : Int32} {a2 : Int32} {M : zM} (hw : wp_X9_category D post o a0 a1 a2 M) : zMet l D yX9_category (ws_ yX9_category cX9_category 4 (some .int)) rm_X9_category 0 0 [.ref o, .int a0, .int a1, .int a2] M zI post (fun _ _ => False) := by
  unfold wp_X9_category at hw
  have hlv : lv_args 0 [.ref o, .int a0, .int a1, .int a2] = [(0, .ref o), (1, .int a0), (2, .int a1), (3, .int a2)] := (zargs1 rfl (zargs1 rfl (zargs1 rfl (zargs1 rfl rfl))))
  refine z_ofW hlt (by decide) (Nat.le_trans (zsl1 rfl (zsl1 rfl (zsl1 rfl (zsl1 rfl (Nat.le_refl 0 : (lg_sl []).length ≤ 0))))) (Nat.le_of_ble_eq_true rfl)) hlv ?_
  intro p e s m args below meth c ls hG hZ hl
  have hC := hG.1
  have hx := hC.x
  have hb := hC.b
  have hown := hC.o
  have hts := hC.ts
  have hlt := hG.2.2.2.2.2
  obtain ⟨cells, hce⟩ : ∃ z : Nat, z = 0 := ⟨0, rfl⟩
  obtain ⟨slots, hsl⟩ : ∃ z : Nat, z = 0 := ⟨0, rfl⟩
  refine W.cs (cells' := cells) (slots' := slots) hce.symm hsl.symm ?_
  have hk : cells ≤ 0 := Nat.le_of_eq hce
  have hn : slots ≤ 0 := Nat.le_of_eq hsl
  clear hce hsl
  refine lv_iload_n hx hb dX9_category_0 rfl (lv_at hl 1 rfl) ?_
  refine z_callI hZ (vx_runS (As := [.int a0]) (rest := []) hC.fix (w_X9_isLanguage hlt hw) (va_cwS 1 hts (lw_S q1919 q1920 q83 q1921) rfl rfl rfl dd_X9_isLanguage ⟨Nat.le_of_ble_eq_true rfl, Nat.le_of_ble_eq_true rfl⟩) (z_preS hC hZ) rfl rfl hl.1 rfl (lv_room (Nat.zero_le _)) dX9_category_1 ⟨hk, hn⟩) (fun r12 M H locs hw1 hZ => ?_) (fun q M H locs ci fs E T9 N9 hw hZ hc1 hM1 hb1 => False.elim hw)
  replace hw := hw1
  clear hw1
  refine W.cs (cells' := cells) (slots' := slots) rfl rfl ?_
  refine lv_if_eq (tgt := 29) hx hb dX9_category_4 (by decide) (fun c22 => ?_) (fun c22 => ?_)
  · replace hw := hw.1 c22
    exact wk_X9_category_L29 hG _ hk hn hZ (lv_sub hl [] rfl) hw
  · replace hw := hw.2 c22
    refine lv_iload_n hx hb dX9_category_7 rfl (lv_at hl 3 rfl) ?_
    refine lv_i2l hx hb dX9_category_8 rfl ?_
    refine lv_lconst (v := 0) hx hb dX9_category_9 (by decide) ?_
    refine lv_ldc2 hx hb hown (hts _ q1893) dX9_category_10 ?_
    refine z_callI hZ (vx_runS (As := [.long (a2.toInt64), .long (0 : Int64), .long (6 : Int64)]) (rest := []) hC.fix (w_X9_in hlt hw) (va_cwS 3 hts (lw_S q1894 q1895 q83 q1896) rfl rfl rfl dd_X9_in ⟨Nat.le_of_ble_eq_true rfl, Nat.le_of_ble_eq_true rfl⟩) (z_preS hC hZ) rfl rfl hl.1 rfl (lv_room (Nat.zero_le _)) dX9_category_13 ⟨hk, hn⟩) (fun r15 M H locs hw1 hZ => ?_) (fun q M H locs ci fs E T9 N9 hw hZ hc1 hM1 hb1 => False.elim hw)
    replace hw := hw1
    clear hw1
    refine W.cs (cells' := cells) (slots' := slots) rfl rfl ?_
    refine lv_if_eq (tgt := 29) hx hb dX9_category_16 (by decide) (fun c21 => ?_) (fun c21 => ?_)
    · replace hw := hw.1 c21
      exact wk_X9_category_L29 hG _ hk hn hZ (lv_sub hl [] rfl) hw
    · replace hw := hw.2 c21
      refine lv_aload_n hx hb dX9_category_19 rfl (lv_at hl 0 rfl) ?_
      refine lv_iload_n hx hb dX9_category_20 rfl (lv_at hl 1 rfl) ?_
      refine lv_iload_n hx hb dX9_category_21 rfl (lv_at hl 2 rfl) ?_
      refine lv_iload_n hx hb dX9_category_22 rfl (lv_at hl 3 rfl) ?_
      obtain ⟨⟨ci0, fs0, hci0, hM0⟩, hw⟩ := hw
      obtain rfl : ci0 = 8 := List.mem_singleton.mp hci0
      refine z_callI hZ (vx_runV (As := [.int a0, .int a1, .int a2]) (rest := []) hC.fix (w_X9_categoryOf hlt hw) (cwV 3 hts (lw_V q1922 q1924 qs28 q83 q1925) rfl rfl rfl ⟨rfl, dd_X9_categoryOf⟩ ⟨Nat.le_of_ble_eq_true rfl, Nat.le_of_ble_eq_true rfl⟩) (z_preV hC hZ hM0 zc8) rfl rfl hl.1 rfl (lv_room (Nat.zero_le _)) dX9_category_23 ⟨hk, hn⟩) (fun r18 M H locs hw1 hZ => ?_) (fun q M H locs ci fs E T9 N9 hw hZ hc1 hM1 hb1 => False.elim hw)
      replace hw := hw1
      clear hw1
      refine W.cs (cells' := cells) (slots' := slots) rfl rfl ?_
      refine lv_goto (tgt := 30) hx hb dX9_category_26 (by decide) ?_
      exact wk_X9_category_L30 hG _ _ hk hn hZ (lv_sub hl [] rfl) hw
abbrev rm_X9_choice : Room := { frames := 3, cells := 0, slots := 0, locals := 111 }
def wp_X9_choice_L19 (D : zD) (post : Int32 → zM → Prop) (o : Nat) (M : zM) : Prop :=
    post (-1 : Int32) M
set_option maxHeartbeats 4000000 in
set_option maxRecDepth 100000 in
theorem wk_X9_choice_L19 {p : Program} {l : Launch} {e : Env} {s : State} {m : MethodId} {args : Array Value} {below : List Frame} {meth : Method} {c : Code} {D : zD} {post : Int32 → zM → Prop} {o : Nat} (hG : zGx p l s m args meth c cX9_choice 5 "PluralBranchesModel" D (some .int) "choice" []) : ∀ {H : Heap} {locs : List Loc} {cells slots : Nat} {ls : Array Slot} (M : zM), cells ≤ 0 → slots ≤ 0 → zS D M H locs → lv_has ls 5 [] → wp_X9_choice_L19 D post o M → W p l e rm_X9_choice s m args below meth c H locs cells slots (vx_MQ below (zQ D zI post) (zX D (fun _ _ => False)) args s 0 0 (zA D)) (F0 m 19 ls []) := by
  have hC := hG.1
  have hx := hC.x
  have hb := hC.b
  have hown := hC.o
  have hts := hC.ts
  have hlt := hG.2.2.2.2.2
  intro H locs cells slots ls M hk hn hZ hl hw
  refine lv_iconst (v := (-1)) hx hb dX9_choice_19 (by decide) ?_
  exact z_iret hG hZ hk hn hw dX9_choice_20
def wp_X9_choice_L92 (D : zD) (post : Int32 → zM → Prop) (o : Nat) (y0 : Int32) (M : zM) : Prop :=
    post y0 M
set_option maxHeartbeats 4000000 in
set_option maxRecDepth 100000 in
theorem wk_X9_choice_L92 {p : Program} {l : Launch} {e : Env} {s : State} {m : MethodId} {args : Array Value} {below : List Frame} {meth : Method} {c : Code} {D : zD} {post : Int32 → zM → Prop} {o : Nat} (hG : zGx p l s m args meth c cX9_choice 5 "PluralBranchesModel" D (some .int) "choice" []) : ∀ {H : Heap} {locs : List Loc} {cells slots : Nat} {ls : Array Slot} (y0 : Int32) (M : zM), cells ≤ 0 → slots ≤ 0 → zS D M H locs → lv_has ls 5 [] → wp_X9_choice_L92 D post o y0 M → W p l e rm_X9_choice s m args below meth c H locs cells slots (vx_MQ below (zQ D zI post) (zX D (fun _ _ => False)) args s 0 0 (zA D)) (F0 m 92 ls [.int y0]) := by
  have hC := hG.1
  have hx := hC.x
  have hb := hC.b
  have hown := hC.o
  have hts := hC.ts
  have hlt := hG.2.2.2.2.2
  intro H locs cells slots ls y0 M hk hn hZ hl hw
  exact z_iret hG hZ hk hn hw dX9_choice_92
def wp_X9_choice (D : zD) (post : Int32 → zM → Prop) (o : Nat) (a0 : Int32) (a1 : Int32) (a2 : Int32) (M : zM) : Prop :=
    (wp_X9_isSlot D (fun r1 M => ((r1 = 0 → wp_X9_choice_L19 D post o M) ∧ (¬ r1 = 0 → (wp_X9_in D (fun r4 M => ((¬ r4 = 0 → ((zis M o [8] ∧ wp_X9_isChoice D (fun r7 M => ((¬ r7 = 0 → ((¬ a2 = 0 → ((¬ a2 = (1 : Int32) → ((¬ a2 = (2 : Int32) → (zgR M o 8 18 fun g10 => ((zd g10 fun b11 => zaI M b11 0 (((8 : Int32) * a0) + a1) fun v12 => wp_X9_choice_L92 D post o v12 M)))) ∧ (a2 = (2 : Int32) → (zgR M o 8 17 fun g13 => ((zd g13 fun b14 => zaI M b14 0 (((8 : Int32) * a0) + a1) fun v15 => wp_X9_choice_L92 D post o v15 M)))))) ∧ (a2 = (1 : Int32) → (zgR M o 8 19 fun g17 => ((zd g17 fun b18 => zaI M b18 0 (((8 : Int32) * a0) + a1) fun v19 => wp_X9_choice_L92 D post o v19 M)))))) ∧ (a2 = 0 → (zgR M o 8 16 fun g21 => ((zd g21 fun b22 => zaI M b22 0 (((8 : Int32) * a0) + a1) fun v23 => wp_X9_choice_L92 D post o v23 M)))))) ∧ (r7 = 0 → post (-2 : Int32) M))) o a0 a1 M))) ∧ (r4 = 0 → wp_X9_choice_L19 D post o M))) (a2.toInt64) (0 : Int64) (3 : Int64) M)))) a0 M)
set_option maxHeartbeats 4000000 in
set_option maxRecDepth 100000 in
theorem w_X9_choice {l : Launch} {D : zD} {post : Int32 → zM → Prop} (hlt : l.stackTraces = false) {o : Nat} {a0 : Int32} {a1 : Int32} {a2 : Int32} {M : zM} (hw : wp_X9_choice D post o a0 a1 a2 M) : zMet l D yX9_choice (ws_ yX9_choice cX9_choice 5 (some .int)) rm_X9_choice 0 0 [.ref o, .int a0, .int a1, .int a2] M zI post (fun _ _ => False) := by
  unfold wp_X9_choice at hw
  have hlv : lv_args 0 [.ref o, .int a0, .int a1, .int a2] = [(0, .ref o), (1, .int a0), (2, .int a1), (3, .int a2)] := (zargs1 rfl (zargs1 rfl (zargs1 rfl (zargs1 rfl rfl))))
  refine z_ofW hlt (by decide) (Nat.le_trans (zsl1 rfl (zsl1 rfl (zsl1 rfl (zsl1 rfl (Nat.le_refl 0 : (lg_sl []).length ≤ 0))))) (Nat.le_of_ble_eq_true rfl)) hlv ?_
  intro p e s m args below meth c ls hG hZ hl
  have hC := hG.1
  have hx := hC.x
  have hb := hC.b
  have hown := hC.o
  have hts := hC.ts
  have hlt := hG.2.2.2.2.2
  obtain ⟨cells, hce⟩ : ∃ z : Nat, z = 0 := ⟨0, rfl⟩
  obtain ⟨slots, hsl⟩ : ∃ z : Nat, z = 0 := ⟨0, rfl⟩
  refine W.cs (cells' := cells) (slots' := slots) hce.symm hsl.symm ?_
  have hk : cells ≤ 0 := Nat.le_of_eq hce
  have hn : slots ≤ 0 := Nat.le_of_eq hsl
  clear hce hsl
  refine lv_iload_n hx hb dX9_choice_0 rfl (lv_at hl 1 rfl) ?_
  refine z_callI hZ (vx_runS (As := [.int a0]) (rest := []) hC.fix (w_X9_isSlot hlt hw) (va_cwS 1 hts (lw_S q1963 q1964 q83 q1965) rfl rfl rfl dd_X9_isSlot ⟨Nat.le_of_ble_eq_true rfl, Nat.le_of_ble_eq_true rfl⟩) (z_preS hC hZ) rfl rfl hl.1 rfl (lv_room (Nat.zero_le _)) dX9_choice_1 ⟨hk, hn⟩) (fun r28 M H locs hw1 hZ => ?_) (fun q M H locs ci fs E T9 N9 hw hZ hc1 hM1 hb1 => False.elim hw)
  replace hw := hw1
  clear hw1
  refine W.cs (cells' := cells) (slots' := slots) rfl rfl ?_
  refine lv_if_eq (tgt := 19) hx hb dX9_choice_4 (by decide) (fun c54 => ?_) (fun c54 => ?_)
  · replace hw := hw.1 c54
    exact wk_X9_choice_L19 hG _ hk hn hZ (lv_sub hl [] rfl) hw
  · replace hw := hw.2 c54
    refine lv_iload_n hx hb dX9_choice_7 rfl (lv_at hl 3 rfl) ?_
    refine lv_i2l hx hb dX9_choice_8 rfl ?_
    refine lv_lconst (v := 0) hx hb dX9_choice_9 (by decide) ?_
    refine lv_ldc2 hx hb hown (hts _ q1936) dX9_choice_10 ?_
    refine z_callI hZ (vx_runS (As := [.long (a2.toInt64), .long (0 : Int64), .long (3 : Int64)]) (rest := []) hC.fix (w_X9_in hlt hw) (va_cwS 3 hts (lw_S q1894 q1895 q83 q1896) rfl rfl rfl dd_X9_in ⟨Nat.le_of_ble_eq_true rfl, Nat.le_of_ble_eq_true rfl⟩) (z_preS hC hZ) rfl rfl hl.1 rfl (lv_room (Nat.zero_le _)) dX9_choice_13 ⟨hk, hn⟩) (fun r31 M H locs hw1 hZ => ?_) (fun q M H locs ci fs E T9 N9 hw hZ hc1 hM1 hb1 => False.elim hw)
    replace hw := hw1
    clear hw1
    refine W.cs (cells' := cells) (slots' := slots) rfl rfl ?_
    refine lv_if_ne (tgt := 21) hx hb dX9_choice_16 (by decide) (fun c53 => ?_) (fun c53 => ?_)
    · replace hw := hw.1 c53
      refine lv_aload_n hx hb dX9_choice_21 rfl (lv_at hl 0 rfl) ?_
      refine lv_iload_n hx hb dX9_choice_22 rfl (lv_at hl 1 rfl) ?_
      refine lv_iload_n hx hb dX9_choice_23 rfl (lv_at hl 2 rfl) ?_
      obtain ⟨⟨ci0, fs0, hci0, hM0⟩, hw⟩ := hw
      obtain rfl : ci0 = 8 := List.mem_singleton.mp hci0
      refine z_callI hZ (vx_runV (As := [.int a0, .int a1]) (rest := []) hC.fix (w_X9_isChoice hlt hw) (cwV 2 hts (lw_V q2037 q2039 qs42 q83 q2040) rfl rfl rfl ⟨rfl, dd_X9_isChoice⟩ ⟨Nat.le_of_ble_eq_true rfl, Nat.le_of_ble_eq_true rfl⟩) (z_preV hC hZ hM0 zc8) rfl rfl hl.1 rfl (lv_room (Nat.zero_le _)) dX9_choice_24 ⟨hk, hn⟩) (fun r34 M H locs hw1 hZ => ?_) (fun q M H locs ci fs E T9 N9 hw hZ hc1 hM1 hb1 => False.elim hw)
      replace hw := hw1
      clear hw1
      refine W.cs (cells' := cells) (slots' := slots) rfl rfl ?_
      refine lv_if_ne (tgt := 33) hx hb dX9_choice_27 (by decide) (fun c52 => ?_) (fun c52 => ?_)
      · replace hw := hw.1 c52
        refine lv_bipush (v := 8) hx hb dX9_choice_33 (by decide) ?_
        refine lv_iload_n hx hb dX9_choice_35 rfl (lv_at hl 1 rfl) ?_
        refine lv_imul hx hb dX9_choice_36 ?_
        refine lv_iload_n hx hb dX9_choice_37 rfl (lv_at hl 2 rfl) ?_
        refine lv_iadd hx hb dX9_choice_38 ?_
        refine lv_istore (i := 4) (lv' := [(4, .int (((8 : Int32) * a0) + a1)), (0, .ref o), (1, .int a0), (2, .int a1), (3, .int a2)]) hx hb dX9_choice_39 hl (by decide) rfl (fun ls hl1 => ?_)
        replace hl := hl1
        clear hl1
        refine lv_iload_n hx hb dX9_choice_41 rfl (lv_at hl 4 rfl) ?_
        refine lv_if_ne (tgt := 55) hx hb dX9_choice_42 (by decide) (fun c51 => ?_) (fun c51 => ?_)
        · replace hw := hw.1 c51
          refine lv_iload_n hx hb dX9_choice_55 rfl (lv_at hl 4 rfl) ?_
          refine lv_iconst (v := 1) hx hb dX9_choice_56 (by decide) ?_
          refine lv_icmp_ne (tgt := 70) hx hb dX9_choice_57 (by decide) (fun c47 => ?_) (fun c47 => ?_)
          · replace hw := hw.1 c47
            refine lv_iload_n hx hb dX9_choice_70 rfl (lv_at hl 4 rfl) ?_
            refine lv_iconst (v := 2) hx hb dX9_choice_71 (by decide) ?_
            refine lv_icmp_ne (tgt := 85) hx hb dX9_choice_72 (by decide) (fun c43 => ?_) (fun c43 => ?_)
            · replace hw := hw.1 c43
              refine lv_aload_n hx hb dX9_choice_85 rfl (lv_at hl 1 rfl) ?_
              obtain ⟨fs0, g37, hM0, hx0, hw⟩ := hw
              refine z_get hC hZ hM0 zc8 18 (by decide) q1738 (fun _ h9 => h9) hx0 dX9_choice_86 ?_
              refine lv_iload hx hb dX9_choice_89 (lv_at hl 0 rfl) ?_
              obtain ⟨b38, hr0, hw⟩ := hw
              subst hr0
              obtain ⟨n0, f0, hM0, hi0, hw⟩ := hw
              refine z_iald hC hZ hM0 hi0 dX9_choice_91 ?_
              generalize f0 _ = v39 at hw ⊢
              exact wk_X9_choice_L92 hG _ _ hk hn hZ (lv_sub hl [] rfl) hw
            · replace hw := hw.2 c43
              refine lv_aload_n hx hb dX9_choice_75 rfl (lv_at hl 1 rfl) ?_
              obtain ⟨fs0, g40, hM0, hx0, hw⟩ := hw
              refine z_get hC hZ hM0 zc8 17 (by decide) q1737 (fun _ h9 => h9) hx0 dX9_choice_76 ?_
              refine lv_iload hx hb dX9_choice_79 (lv_at hl 0 rfl) ?_
              obtain ⟨b41, hr0, hw⟩ := hw
              subst hr0
              obtain ⟨n0, f0, hM0, hi0, hw⟩ := hw
              refine z_iald hC hZ hM0 hi0 dX9_choice_81 ?_
              generalize f0 _ = v42 at hw ⊢
              refine lv_goto (tgt := 92) hx hb dX9_choice_82 (by decide) ?_
              exact wk_X9_choice_L92 hG _ _ hk hn hZ (lv_sub hl [] rfl) hw
          · replace hw := hw.2 c47
            refine lv_aload_n hx hb dX9_choice_60 rfl (lv_at hl 1 rfl) ?_
            obtain ⟨fs0, g44, hM0, hx0, hw⟩ := hw
            refine z_get hC hZ hM0 zc8 19 (by decide) q1739 (fun _ h9 => h9) hx0 dX9_choice_61 ?_
            refine lv_iload hx hb dX9_choice_64 (lv_at hl 0 rfl) ?_
            obtain ⟨b45, hr0, hw⟩ := hw
            subst hr0
            obtain ⟨n0, f0, hM0, hi0, hw⟩ := hw
            refine z_iald hC hZ hM0 hi0 dX9_choice_66 ?_
            generalize f0 _ = v46 at hw ⊢
            refine lv_goto (tgt := 92) hx hb dX9_choice_67 (by decide) ?_
            exact wk_X9_choice_L92 hG _ _ hk hn hZ (lv_sub hl [] rfl) hw
        · replace hw := hw.2 c51
          refine lv_aload_n hx hb dX9_choice_45 rfl (lv_at hl 1 rfl) ?_
          obtain ⟨fs0, g48, hM0, hx0, hw⟩ := hw
          refine z_get hC hZ hM0 zc8 16 (by decide) q1736 (fun _ h9 => h9) hx0 dX9_choice_46 ?_
          refine lv_iload hx hb dX9_choice_49 (lv_at hl 0 rfl) ?_
          obtain ⟨b49, hr0, hw⟩ := hw
          subst hr0
          obtain ⟨n0, f0, hM0, hi0, hw⟩ := hw
          refine z_iald hC hZ hM0 hi0 dX9_choice_51 ?_
          generalize f0 _ = v50 at hw ⊢
          refine lv_goto (tgt := 92) hx hb dX9_choice_52 (by decide) ?_
          exact wk_X9_choice_L92 hG _ _ hk hn hZ (lv_sub hl [] rfl) hw
      · replace hw := hw.2 c52
        refine lv_bipush (v := (-2)) hx hb dX9_choice_30 (by decide) ?_
        exact z_iret hG hZ hk hn hw dX9_choice_32
    · replace hw := hw.2 c53
      exact wk_X9_choice_L19 hG _ hk hn hZ (lv_sub hl [] rfl) hw
abbrev rm_X9_choiceAt : Room := { frames := 1, cells := 0, slots := 0, locals := 64 }
def wp_X9_choiceAt_L2 (D : zD) (post : Int32 → zM → Prop) (o : Nat) : Nat → Int32 → Int32 → Int32 → zM → Prop
  | 0 => fun _ _ _ _ => False
  | f + 1 => fun x1 x2 x3 M =>
    (zgR M o 8 22 fun g1 => ((zd g1 fun b2 => zaI M b2 0 (((8 : Int32) * x1) + x3) fun v3 => ((v3 = x2 → post x3 M) ∧ (¬ v3 = x2 → wp_X9_choiceAt_L2 D post o f x1 x2 (x3 + 1) M)))))
set_option maxHeartbeats 4000000 in
set_option maxRecDepth 100000 in
theorem wk_X9_choiceAt_L2 {p : Program} {l : Launch} {e : Env} {s : State} {m : MethodId} {args : Array Value} {below : List Frame} {meth : Method} {c : Code} {D : zD} {post : Int32 → zM → Prop} {o : Nat} (hG : zGx p l s m args meth c cX9_choiceAt 4 "PluralBranchesModel" D (some .int) "choiceAt" []) : ∀ (f : Nat), ∀ {H : Heap} {locs : List Loc} {cells slots : Nat} {ls : Array Slot} (x1 : Int32) (x2 : Int32) (x3 : Int32) (M : zM), cells ≤ 0 → slots ≤ 0 → zS D M H locs → lv_has ls 4 [(0, .ref o), (1, .int x1), (2, .int x2), (3, .int x3)] → wp_X9_choiceAt_L2 D post o f x1 x2 x3 M → W p l e rm_X9_choiceAt s m args below meth c H locs cells slots (vx_MQ below (zQ D zI post) (zX D (fun _ _ => False)) args s 0 0 (zA D)) (F0 m 2 ls []) := by
  have hC := hG.1
  have hx := hC.x
  have hb := hC.b
  have hown := hC.o
  have hts := hC.ts
  have hlt := hG.2.2.2.2.2
  intro f
  induction f with
  | zero =>
    intro H locs cells slots ls x1 x2 x3 M hk hn hZ hl hw
    exact absurd hw (fun h => h)
  | succ f ih =>
    intro H locs cells slots ls x1 x2 x3 M hk hn hZ hl hw
    refine lv_aload_n hx hb dX9_choiceAt_2 rfl (lv_at hl 0 rfl) ?_
    obtain ⟨fs0, g5, hM0, hx0, hw⟩ := hw
    refine z_get hC hZ hM0 zc8 22 (by decide) q1742 (fun _ h9 => h9) hx0 dX9_choiceAt_3 ?_
    refine lv_bipush (v := 8) hx hb dX9_choiceAt_6 (by decide) ?_
    refine lv_iload_n hx hb dX9_choiceAt_8 rfl (lv_at hl 1 rfl) ?_
    refine lv_imul hx hb dX9_choiceAt_9 ?_
    refine lv_iload_n hx hb dX9_choiceAt_10 rfl (lv_at hl 3 rfl) ?_
    refine lv_iadd hx hb dX9_choiceAt_11 ?_
    obtain ⟨b6, hr0, hw⟩ := hw
    subst hr0
    obtain ⟨n0, f0, hM0, hi0, hw⟩ := hw
    refine z_iald hC hZ hM0 hi0 dX9_choiceAt_12 ?_
    generalize f0 _ = v7 at hw ⊢
    refine lv_iload_n hx hb dX9_choiceAt_13 rfl (lv_at hl 2 rfl) ?_
    refine lv_icmp_eq (tgt := 23) hx hb dX9_choiceAt_14 (by decide) (fun c8 => ?_) (fun c8 => ?_)
    · replace hw := hw.1 c8
      refine lv_iload_n hx hb dX9_choiceAt_23 rfl (lv_at hl 3 rfl) ?_
      exact z_iret hG hZ hk hn hw dX9_choiceAt_24
    · replace hw := hw.2 c8
      refine lv_iinc (v := (x3 + 1)) (lv' := [(3, .int (x3 + 1)), (0, .ref o), (1, .int x1), (2, .int x2)]) hx hb dX9_choiceAt_17 hl (k := 3) rfl rfl (by decide) rfl (fun ls hl1 => ?_)
      replace hl := hl1
      clear hl1
      refine lv_goto (tgt := 2) hx hb dX9_choiceAt_20 (by decide) ?_
      exact ih _ _ _ _ hk hn hZ (lv_sub hl [1, 2, 3, 0] rfl) hw
def wp_X9_choiceAt (D : zD) (post : Int32 → zM → Prop) (o : Nat) (a0 : Int32) (a1 : Int32) (M : zM) : Prop :=
    (∃ f, wp_X9_choiceAt_L2 D post o f a0 a1 (0 : Int32) M)
set_option maxHeartbeats 4000000 in
set_option maxRecDepth 100000 in
theorem w_X9_choiceAt {l : Launch} {D : zD} {post : Int32 → zM → Prop} (hlt : l.stackTraces = false) {o : Nat} {a0 : Int32} {a1 : Int32} {M : zM} (hw : wp_X9_choiceAt D post o a0 a1 M) : zMet l D yX9_choiceAt (ws_ yX9_choiceAt cX9_choiceAt 4 (some .int)) rm_X9_choiceAt 0 0 [.ref o, .int a0, .int a1] M zI post (fun _ _ => False) := by
  unfold wp_X9_choiceAt at hw
  have hlv : lv_args 0 [.ref o, .int a0, .int a1] = [(0, .ref o), (1, .int a0), (2, .int a1)] := (zargs1 rfl (zargs1 rfl (zargs1 rfl rfl)))
  refine z_ofW hlt (by decide) (Nat.le_trans (zsl1 rfl (zsl1 rfl (zsl1 rfl (Nat.le_refl 0 : (lg_sl []).length ≤ 0)))) (Nat.le_of_ble_eq_true rfl)) hlv ?_
  intro p e s m args below meth c ls hG hZ hl
  have hC := hG.1
  have hx := hC.x
  have hb := hC.b
  have hown := hC.o
  have hts := hC.ts
  have hlt := hG.2.2.2.2.2
  obtain ⟨cells, hce⟩ : ∃ z : Nat, z = 0 := ⟨0, rfl⟩
  obtain ⟨slots, hsl⟩ : ∃ z : Nat, z = 0 := ⟨0, rfl⟩
  refine W.cs (cells' := cells) (slots' := slots) hce.symm hsl.symm ?_
  have hk : cells ≤ 0 := Nat.le_of_eq hce
  have hn : slots ≤ 0 := Nat.le_of_eq hsl
  clear hce hsl
  refine lv_iconst (v := 0) hx hb dX9_choiceAt_0 (by decide) ?_
  refine lv_istore_n (i := 3) (lv' := [(3, .int (0 : Int32)), (0, .ref o), (1, .int a0), (2, .int a1)]) hx hb dX9_choiceAt_1 rfl hl (by decide) rfl (fun ls hl1 => ?_)
  replace hl := hl1
  clear hl1
  obtain ⟨f1, hw⟩ := hw
  exact wk_X9_choiceAt_L2 hG f1 _ _ _ _ hk hn hZ (lv_sub hl [1, 2, 3, 0] rfl) hw
abbrev rm_X9_condition : Room := { frames := 2, cells := 0, slots := 0, locals := 89 }
def wp_X9_condition_L47 (D : zD) (post : Int32 → zM → Prop) (o : Nat) (M : zM) : Prop :=
    post (-1 : Int32) M
set_option maxHeartbeats 4000000 in
set_option maxRecDepth 100000 in
theorem wk_X9_condition_L47 {p : Program} {l : Launch} {e : Env} {s : State} {m : MethodId} {args : Array Value} {below : List Frame} {meth : Method} {c : Code} {D : zD} {post : Int32 → zM → Prop} {o : Nat} (hG : zGx p l s m args meth c cX9_condition 7 "PluralBranchesModel" D (some .int) "condition" []) : ∀ {H : Heap} {locs : List Loc} {cells slots : Nat} {ls : Array Slot} (M : zM), cells ≤ 0 → slots ≤ 0 → zS D M H locs → lv_has ls 7 [] → wp_X9_condition_L47 D post o M → W p l e rm_X9_condition s m args below meth c H locs cells slots (vx_MQ below (zQ D zI post) (zX D (fun _ _ => False)) args s 0 0 (zA D)) (F0 m 47 ls []) := by
  have hC := hG.1
  have hx := hC.x
  have hb := hC.b
  have hown := hC.o
  have hts := hC.ts
  have hlt := hG.2.2.2.2.2
  intro H locs cells slots ls M hk hn hZ hl hw
  refine lv_iconst (v := (-1)) hx hb dX9_condition_47 (by decide) ?_
  exact z_iret hG hZ hk hn hw dX9_condition_48
def wp_X9_condition (D : zD) (post : Int32 → zM → Prop) (o : Nat) (a0 : Int32) (a1 : Int32) (a2 : Int32) (a3 : Int32) (a4 : Int32) (a5 : Int32) (M : zM) : Prop :=
    (wp_X9_in D (fun r1 M => ((r1 = 0 → wp_X9_condition_L47 D post o M) ∧ (¬ r1 = 0 → (wp_X9_in D (fun r4 M => ((r4 = 0 → wp_X9_condition_L47 D post o M) ∧ (¬ r4 = 0 → (wp_X9_in D (fun r7 M => ((r7 = 0 → wp_X9_condition_L47 D post o M) ∧ (¬ r7 = 0 → (wp_X9_in D (fun r10 M => ((¬ r10 = 0 → (zgI M o 8 0 fun g13 => ((¬ g13 = (12 : Int32) → (zgR M o 8 1 fun g14 => (zgI M o 8 0 fun g15 => ((zd g14 fun b16 => zsI D M b16 g15 a0 fun M => (zgR M o 8 2 fun g17 => (zgI M o 8 0 fun g18 => ((zd g17 fun b19 => zsI D M b19 g18 a1 fun M => (zgR M o 8 3 fun g20 => (zgI M o 8 0 fun g21 => ((zd g20 fun b22 => zsI D M b22 g21 a2 fun M => (zgR M o 8 4 fun g23 => (zgI M o 8 0 fun g24 => ((zd g23 fun b25 => zsI D M b25 g24 a3 fun M => (zgR M o 8 5 fun g26 => (zgI M o 8 0 fun g27 => ((zd g26 fun b28 => zsI D M b28 g27 a4 fun M => (zgR M o 8 6 fun g29 => (zgI M o 8 0 fun g30 => ((zd g29 fun b31 => zsI D M b31 g30 a5 fun M => (zgI M o 8 0 fun g32 => (zp D M o 8 0 (.int (g32 + (1 : Int32))) fun M => (zgI M o 8 0 fun g33 => post g33 M)))))))))))))))))))))))))))) ∧ (g13 = (12 : Int32) → post (-3 : Int32) M)))) ∧ (r10 = 0 → wp_X9_condition_L47 D post o M))) (a5.toInt64) (0 : Int64) (1 : Int64) M)))) (a2.toInt64) (0 : Int64) (1000 : Int64) M)))) (a1.toInt64) (0 : Int64) (4 : Int64) M)))) (a0.toInt64) (0 : Int64) (4 : Int64) M)
set_option maxHeartbeats 4000000 in
set_option maxRecDepth 100000 in
theorem w_X9_condition {l : Launch} {D : zD} {post : Int32 → zM → Prop} (hlt : l.stackTraces = false) {o : Nat} {a0 : Int32} {a1 : Int32} {a2 : Int32} {a3 : Int32} {a4 : Int32} {a5 : Int32} {M : zM} (hw : wp_X9_condition D post o a0 a1 a2 a3 a4 a5 M) : zMet l D yX9_condition (ws_ yX9_condition cX9_condition 7 (some .int)) rm_X9_condition 0 0 [.ref o, .int a0, .int a1, .int a2, .int a3, .int a4, .int a5] M zI post (fun _ _ => False) := by
  unfold wp_X9_condition at hw
  have hlv : lv_args 0 [.ref o, .int a0, .int a1, .int a2, .int a3, .int a4, .int a5] = [(0, .ref o), (1, .int a0), (2, .int a1), (3, .int a2), (4, .int a3), (5, .int a4), (6, .int a5)] := (zargs1 rfl (zargs1 rfl (zargs1 rfl (zargs1 rfl (zargs1 rfl (zargs1 rfl (zargs1 rfl rfl)))))))
  refine z_ofW hlt (by decide) (Nat.le_trans (zsl1 rfl (zsl1 rfl (zsl1 rfl (zsl1 rfl (zsl1 rfl (zsl1 rfl (zsl1 rfl (Nat.le_refl 0 : (lg_sl []).length ≤ 0)))))))) (Nat.le_of_ble_eq_true rfl)) hlv ?_
  intro p e s m args below meth c ls hG hZ hl
  have hC := hG.1
  have hx := hC.x
  have hb := hC.b
  have hown := hC.o
  have hts := hC.ts
  have hlt := hG.2.2.2.2.2
  obtain ⟨cells, hce⟩ : ∃ z : Nat, z = 0 := ⟨0, rfl⟩
  obtain ⟨slots, hsl⟩ : ∃ z : Nat, z = 0 := ⟨0, rfl⟩
  refine W.cs (cells' := cells) (slots' := slots) hce.symm hsl.symm ?_
  have hk : cells ≤ 0 := Nat.le_of_eq hce
  have hn : slots ≤ 0 := Nat.le_of_eq hsl
  clear hce hsl
  refine lv_iload_n hx hb dX9_condition_0 rfl (lv_at hl 1 rfl) ?_
  refine lv_i2l hx hb dX9_condition_1 rfl ?_
  refine lv_lconst (v := 0) hx hb dX9_condition_2 (by decide) ?_
  refine lv_ldc2 hx hb hown (hts _ q1897) dX9_condition_3 ?_
  refine z_callI hZ (vx_runS (As := [.long (a0.toInt64), .long (0 : Int64), .long (4 : Int64)]) (rest := []) hC.fix (w_X9_in hlt hw) (va_cwS 3 hts (lw_S q1894 q1895 q83 q1896) rfl rfl rfl dd_X9_in ⟨Nat.le_of_ble_eq_true rfl, Nat.le_of_ble_eq_true rfl⟩) (z_preS hC hZ) rfl rfl hl.1 rfl (lv_room (Nat.zero_le _)) dX9_condition_6 ⟨hk, hn⟩) (fun r40 M H locs hw1 hZ => ?_) (fun q M H locs ci fs E T9 N9 hw hZ hc1 hM1 hb1 => False.elim hw)
  replace hw := hw1
  clear hw1
  refine W.cs (cells' := cells) (slots' := slots) rfl rfl ?_
  refine lv_if_eq (tgt := 47) hx hb dX9_condition_9 (by decide) (fun c78 => ?_) (fun c78 => ?_)
  · replace hw := hw.1 c78
    exact wk_X9_condition_L47 hG _ hk hn hZ (lv_sub hl [] rfl) hw
  · replace hw := hw.2 c78
    refine lv_iload_n hx hb dX9_condition_12 rfl (lv_at hl 2 rfl) ?_
    refine lv_i2l hx hb dX9_condition_13 rfl ?_
    refine lv_lconst (v := 0) hx hb dX9_condition_14 (by decide) ?_
    refine lv_ldc2 hx hb hown (hts _ q1897) dX9_condition_15 ?_
    refine z_callI hZ (vx_runS (As := [.long (a1.toInt64), .long (0 : Int64), .long (4 : Int64)]) (rest := []) hC.fix (w_X9_in hlt hw) (va_cwS 3 hts (lw_S q1894 q1895 q83 q1896) rfl rfl rfl dd_X9_in ⟨Nat.le_of_ble_eq_true rfl, Nat.le_of_ble_eq_true rfl⟩) (z_preS hC hZ) rfl rfl hl.1 rfl (lv_room (Nat.zero_le _)) dX9_condition_18 ⟨hk, hn⟩) (fun r43 M H locs hw1 hZ => ?_) (fun q M H locs ci fs E T9 N9 hw hZ hc1 hM1 hb1 => False.elim hw)
    replace hw := hw1
    clear hw1
    refine W.cs (cells' := cells) (slots' := slots) rfl rfl ?_
    refine lv_if_eq (tgt := 47) hx hb dX9_condition_21 (by decide) (fun c77 => ?_) (fun c77 => ?_)
    · replace hw := hw.1 c77
      exact wk_X9_condition_L47 hG _ hk hn hZ (lv_sub hl [] rfl) hw
    · replace hw := hw.2 c77
      refine lv_iload_n hx hb dX9_condition_24 rfl (lv_at hl 3 rfl) ?_
      refine lv_i2l hx hb dX9_condition_25 rfl ?_
      refine lv_lconst (v := 0) hx hb dX9_condition_26 (by decide) ?_
      refine lv_ldc2 hx hb hown (hts _ q1910) dX9_condition_27 ?_
      refine z_callI hZ (vx_runS (As := [.long (a2.toInt64), .long (0 : Int64), .long (1000 : Int64)]) (rest := []) hC.fix (w_X9_in hlt hw) (va_cwS 3 hts (lw_S q1894 q1895 q83 q1896) rfl rfl rfl dd_X9_in ⟨Nat.le_of_ble_eq_true rfl, Nat.le_of_ble_eq_true rfl⟩) (z_preS hC hZ) rfl rfl hl.1 rfl (lv_room (Nat.zero_le _)) dX9_condition_30 ⟨hk, hn⟩) (fun r46 M H locs hw1 hZ => ?_) (fun q M H locs ci fs E T9 N9 hw hZ hc1 hM1 hb1 => False.elim hw)
      replace hw := hw1
      clear hw1
      refine W.cs (cells' := cells) (slots' := slots) rfl rfl ?_
      refine lv_if_eq (tgt := 47) hx hb dX9_condition_33 (by decide) (fun c76 => ?_) (fun c76 => ?_)
      · replace hw := hw.1 c76
        exact wk_X9_condition_L47 hG _ hk hn hZ (lv_sub hl [] rfl) hw
      · replace hw := hw.2 c76
        refine lv_iload hx hb dX9_condition_36 (lv_at hl 6 rfl) ?_
        refine lv_i2l hx hb dX9_condition_38 rfl ?_
        refine lv_lconst (v := 0) hx hb dX9_condition_39 (by decide) ?_
        refine lv_lconst (v := 1) hx hb dX9_condition_40 (by decide) ?_
        refine z_callI hZ (vx_runS (As := [.long (a5.toInt64), .long (0 : Int64), .long (1 : Int64)]) (rest := []) hC.fix (w_X9_in hlt hw) (va_cwS 3 hts (lw_S q1894 q1895 q83 q1896) rfl rfl rfl dd_X9_in ⟨Nat.le_of_ble_eq_true rfl, Nat.le_of_ble_eq_true rfl⟩) (z_preS hC hZ) rfl rfl hl.1 rfl (lv_room (Nat.zero_le _)) dX9_condition_41 ⟨hk, hn⟩) (fun r49 M H locs hw1 hZ => ?_) (fun q M H locs ci fs E T9 N9 hw hZ hc1 hM1 hb1 => False.elim hw)
        replace hw := hw1
        clear hw1
        refine W.cs (cells' := cells) (slots' := slots) rfl rfl ?_
        refine lv_if_ne (tgt := 49) hx hb dX9_condition_44 (by decide) (fun c75 => ?_) (fun c75 => ?_)
        · replace hw := hw.1 c75
          refine lv_aload_n hx hb dX9_condition_49 rfl (lv_at hl 0 rfl) ?_
          obtain ⟨fs0, g52, hM0, hx0, hw⟩ := hw
          refine z_get hC hZ hM0 zc8 0 (by decide) q1720 (fun _ h9 => h9) hx0 dX9_condition_50 ?_
          refine lv_bipush (v := 12) hx hb dX9_condition_53 (by decide) ?_
          refine lv_icmp_ne (tgt := 61) hx hb dX9_condition_55 (by decide) (fun c74 => ?_) (fun c74 => ?_)
          · replace hw := hw.1 c74
            refine lv_aload_n hx hb dX9_condition_61 rfl (lv_at hl 0 rfl) ?_
            obtain ⟨fs0, g53, hM0, hx0, hw⟩ := hw
            refine z_get hC hZ hM0 zc8 1 (by decide) q1721 (fun _ h9 => h9) hx0 dX9_condition_62 ?_
            refine lv_aload_n hx hb dX9_condition_65 rfl (lv_at hl 0 rfl) ?_
            obtain ⟨fs0, g54, hM0, hx0, hw⟩ := hw
            refine z_get hC hZ hM0 zc8 0 (by decide) q1720 (fun _ h9 => h9) hx0 dX9_condition_66 ?_
            refine lv_iload_n hx hb dX9_condition_69 rfl (lv_at hl 1 rfl) ?_
            obtain ⟨b55, hr0, hw⟩ := hw
            subst hr0
            obtain ⟨n0, f0, hM0, hb0, hi0, hw⟩ := hw
            refine z_iast hC hZ hM0 hb0 hi0 dX9_condition_70 (fun H locs hZ => ?_)
            generalize zu M _ _ = M at hw hZ
            refine lv_aload_n hx hb dX9_condition_71 rfl (lv_at hl 0 rfl) ?_
            obtain ⟨fs0, g56, hM0, hx0, hw⟩ := hw
            refine z_get hC hZ hM0 zc8 2 (by decide) q1722 (fun _ h9 => h9) hx0 dX9_condition_72 ?_
            refine lv_aload_n hx hb dX9_condition_75 rfl (lv_at hl 0 rfl) ?_
            obtain ⟨fs0, g57, hM0, hx0, hw⟩ := hw
            refine z_get hC hZ hM0 zc8 0 (by decide) q1720 (fun _ h9 => h9) hx0 dX9_condition_76 ?_
            refine lv_iload_n hx hb dX9_condition_79 rfl (lv_at hl 2 rfl) ?_
            obtain ⟨b58, hr0, hw⟩ := hw
            subst hr0
            obtain ⟨n0, f0, hM0, hb0, hi0, hw⟩ := hw
            refine z_iast hC hZ hM0 hb0 hi0 dX9_condition_80 (fun H locs hZ => ?_)
            generalize zu M _ _ = M at hw hZ
            refine lv_aload_n hx hb dX9_condition_81 rfl (lv_at hl 0 rfl) ?_
            obtain ⟨fs0, g59, hM0, hx0, hw⟩ := hw
            refine z_get hC hZ hM0 zc8 3 (by decide) q1723 (fun _ h9 => h9) hx0 dX9_condition_82 ?_
            refine lv_aload_n hx hb dX9_condition_85 rfl (lv_at hl 0 rfl) ?_
            obtain ⟨fs0, g60, hM0, hx0, hw⟩ := hw
            refine z_get hC hZ hM0 zc8 0 (by decide) q1720 (fun _ h9 => h9) hx0 dX9_condition_86 ?_
            refine lv_iload_n hx hb dX9_condition_89 rfl (lv_at hl 3 rfl) ?_
            obtain ⟨b61, hr0, hw⟩ := hw
            subst hr0
            obtain ⟨n0, f0, hM0, hb0, hi0, hw⟩ := hw
            refine z_iast hC hZ hM0 hb0 hi0 dX9_condition_90 (fun H locs hZ => ?_)
            generalize zu M _ _ = M at hw hZ
            refine lv_aload_n hx hb dX9_condition_91 rfl (lv_at hl 0 rfl) ?_
            obtain ⟨fs0, g62, hM0, hx0, hw⟩ := hw
            refine z_get hC hZ hM0 zc8 4 (by decide) q1724 (fun _ h9 => h9) hx0 dX9_condition_92 ?_
            refine lv_aload_n hx hb dX9_condition_95 rfl (lv_at hl 0 rfl) ?_
            obtain ⟨fs0, g63, hM0, hx0, hw⟩ := hw
            refine z_get hC hZ hM0 zc8 0 (by decide) q1720 (fun _ h9 => h9) hx0 dX9_condition_96 ?_
            refine lv_iload hx hb dX9_condition_99 (lv_at hl 4 rfl) ?_
            obtain ⟨b64, hr0, hw⟩ := hw
            subst hr0
            obtain ⟨n0, f0, hM0, hb0, hi0, hw⟩ := hw
            refine z_iast hC hZ hM0 hb0 hi0 dX9_condition_101 (fun H locs hZ => ?_)
            generalize zu M _ _ = M at hw hZ
            refine lv_aload_n hx hb dX9_condition_102 rfl (lv_at hl 0 rfl) ?_
            obtain ⟨fs0, g65, hM0, hx0, hw⟩ := hw
            refine z_get hC hZ hM0 zc8 5 (by decide) q1725 (fun _ h9 => h9) hx0 dX9_condition_103 ?_
            refine lv_aload_n hx hb dX9_condition_106 rfl (lv_at hl 0 rfl) ?_
            obtain ⟨fs0, g66, hM0, hx0, hw⟩ := hw
            refine z_get hC hZ hM0 zc8 0 (by decide) q1720 (fun _ h9 => h9) hx0 dX9_condition_107 ?_
            refine lv_iload hx hb dX9_condition_110 (lv_at hl 5 rfl) ?_
            obtain ⟨b67, hr0, hw⟩ := hw
            subst hr0
            obtain ⟨n0, f0, hM0, hb0, hi0, hw⟩ := hw
            refine z_iast hC hZ hM0 hb0 hi0 dX9_condition_112 (fun H locs hZ => ?_)
            generalize zu M _ _ = M at hw hZ
            refine lv_aload_n hx hb dX9_condition_113 rfl (lv_at hl 0 rfl) ?_
            obtain ⟨fs0, g68, hM0, hx0, hw⟩ := hw
            refine z_get hC hZ hM0 zc8 6 (by decide) q1726 (fun _ h9 => h9) hx0 dX9_condition_114 ?_
            refine lv_aload_n hx hb dX9_condition_117 rfl (lv_at hl 0 rfl) ?_
            obtain ⟨fs0, g69, hM0, hx0, hw⟩ := hw
            refine z_get hC hZ hM0 zc8 0 (by decide) q1720 (fun _ h9 => h9) hx0 dX9_condition_118 ?_
            refine lv_iload hx hb dX9_condition_121 (lv_at hl 6 rfl) ?_
            obtain ⟨b70, hr0, hw⟩ := hw
            subst hr0
            obtain ⟨n0, f0, hM0, hb0, hi0, hw⟩ := hw
            refine z_iast hC hZ hM0 hb0 hi0 dX9_condition_123 (fun H locs hZ => ?_)
            generalize zu M _ _ = M at hw hZ
            refine lv_aload_n hx hb dX9_condition_124 rfl (lv_at hl 0 rfl) ?_
            refine lv_dup hx hb dX9_condition_125 rfl ?_
            obtain ⟨fs0, g71, hM0, hx0, hw⟩ := hw
            refine z_get hC hZ hM0 zc8 0 (by decide) q1720 (fun _ h9 => h9) hx0 dX9_condition_126 ?_
            refine lv_iconst (v := 1) hx hb dX9_condition_129 (by decide) ?_
            refine lv_iadd hx hb dX9_condition_130 ?_
            obtain ⟨fs0, hM0, hb0, hk0, hw⟩ := hw
            refine z_put hC hZ hM0 hb0 zc8 0 (by decide) q1720 (fun _ h9 => h9) (by decide) rfl rfl hk0 dX9_condition_131 (fun H locs hZ => ?_)
            generalize zu M _ _ = M at hw hZ
            refine lv_aload_n hx hb dX9_condition_134 rfl (lv_at hl 0 rfl) ?_
            obtain ⟨fs0, g72, hM0, hx0, hw⟩ := hw
            refine z_get hC hZ hM0 zc8 0 (by decide) q1720 (fun _ h9 => h9) hx0 dX9_condition_135 ?_
            exact z_iret hG hZ hk hn hw dX9_condition_138
          · replace hw := hw.2 c74
            refine lv_bipush (v := (-3)) hx hb dX9_condition_58 (by decide) ?_
            exact z_iret hG hZ hk hn hw dX9_condition_60
        · replace hw := hw.2 c75
          exact wk_X9_condition_L47 hG _ hk hn hZ (lv_sub hl [] rfl) hw
abbrev rm_X9_copy : Room := { frames := 3, cells := 0, slots := 0, locals := 109 }
def wp_X9_copy_L14 (D : zD) (post : Int32 → zM → Prop) (o : Nat) (M : zM) : Prop :=
    post (-1 : Int32) M
set_option maxHeartbeats 4000000 in
set_option maxRecDepth 100000 in
theorem wk_X9_copy_L14 {p : Program} {l : Launch} {e : Env} {s : State} {m : MethodId} {args : Array Value} {below : List Frame} {meth : Method} {c : Code} {D : zD} {post : Int32 → zM → Prop} {o : Nat} (hG : zGx p l s m args meth c cX9_copy 4 "PluralBranchesModel" D (some .int) "copy" []) : ∀ {H : Heap} {locs : List Loc} {cells slots : Nat} {ls : Array Slot} (M : zM), cells ≤ 0 → slots ≤ 0 → zS D M H locs → lv_has ls 4 [] → wp_X9_copy_L14 D post o M → W p l e rm_X9_copy s m args below meth c H locs cells slots (vx_MQ below (zQ D zI post) (zX D (fun _ _ => False)) args s 0 0 (zA D)) (F0 m 14 ls []) := by
  have hC := hG.1
  have hx := hC.x
  have hb := hC.b
  have hown := hC.o
  have hts := hC.ts
  have hlt := hG.2.2.2.2.2
  intro H locs cells slots ls M hk hn hZ hl hw
  refine lv_iconst (v := (-1)) hx hb dX9_copy_14 (by decide) ?_
  exact z_iret hG hZ hk hn hw dX9_copy_15
def wp_X9_copy_L283 (D : zD) (post : Int32 → zM → Prop) (o : Nat) : Nat → Int32 → Int32 → Int32 → zM → Prop
  | 0 => fun _ _ _ _ => False
  | f + 1 => fun x1 x2 x3 M =>
    (((80 : Int32) ≤ x3 → (zgR M o 8 11 fun g1 => ((zd g1 fun b2 => zaI M b2 0 x1 fun v3 => post v3 M)))) ∧ (¬ (80 : Int32) ≤ x3 → (zgR M o 8 20 fun g4 => (zgR M o 8 20 fun g5 => ((zd g5 fun b6 => zaI M b6 0 (((80 : Int32) * x2) + x3) fun v7 => ((zd g4 fun b8 => zsI D M b8 (((80 : Int32) * x1) + x3) v7 fun M => (zgR M o 8 21 fun g9 => (zgR M o 8 21 fun g10 => ((zd g10 fun b11 => zaI M b11 0 (((80 : Int32) * x2) + x3) fun v12 => ((zd g9 fun b13 => zsI D M b13 (((80 : Int32) * x1) + x3) v12 fun M => wp_X9_copy_L283 D post o f x1 x2 (x3 + 1) M))))))))))))))
set_option maxHeartbeats 4000000 in
set_option maxRecDepth 100000 in
theorem wk_X9_copy_L283 {p : Program} {l : Launch} {e : Env} {s : State} {m : MethodId} {args : Array Value} {below : List Frame} {meth : Method} {c : Code} {D : zD} {post : Int32 → zM → Prop} {o : Nat} (hG : zGx p l s m args meth c cX9_copy 4 "PluralBranchesModel" D (some .int) "copy" []) : ∀ (f : Nat), ∀ {H : Heap} {locs : List Loc} {cells slots : Nat} {ls : Array Slot} (x1 : Int32) (x2 : Int32) (x3 : Int32) (M : zM), cells ≤ 0 → slots ≤ 0 → zS D M H locs → lv_has ls 4 [(0, .ref o), (1, .int x1), (2, .int x2), (3, .int x3)] → wp_X9_copy_L283 D post o f x1 x2 x3 M → W p l e rm_X9_copy s m args below meth c H locs cells slots (vx_MQ below (zQ D zI post) (zX D (fun _ _ => False)) args s 0 0 (zA D)) (F0 m 283 ls []) := by
  have hC := hG.1
  have hx := hC.x
  have hb := hC.b
  have hown := hC.o
  have hts := hC.ts
  have hlt := hG.2.2.2.2.2
  intro f
  induction f with
  | zero =>
    intro H locs cells slots ls x1 x2 x3 M hk hn hZ hl hw
    exact absurd hw (fun h => h)
  | succ f ih =>
    intro H locs cells slots ls x1 x2 x3 M hk hn hZ hl hw
    refine lv_iload_n hx hb dX9_copy_283 rfl (lv_at hl 3 rfl) ?_
    refine lv_bipush (v := 80) hx hb dX9_copy_284 (by decide) ?_
    refine lv_icmp_ge (tgt := 339) hx hb dX9_copy_286 (by decide) (fun c28 => ?_) (fun c28 => ?_)
    · replace hw := hw.1 c28
      refine lv_aload_n hx hb dX9_copy_339 rfl (lv_at hl 0 rfl) ?_
      obtain ⟨fs0, g15, hM0, hx0, hw⟩ := hw
      refine z_get hC hZ hM0 zc8 11 (by decide) q1731 (fun _ h9 => h9) hx0 dX9_copy_340 ?_
      refine lv_iload_n hx hb dX9_copy_343 rfl (lv_at hl 1 rfl) ?_
      obtain ⟨b16, hr0, hw⟩ := hw
      subst hr0
      obtain ⟨n0, f0, hM0, hi0, hw⟩ := hw
      refine z_iald hC hZ hM0 hi0 dX9_copy_344 ?_
      generalize f0 _ = v17 at hw ⊢
      exact z_iret hG hZ hk hn hw dX9_copy_345
    · replace hw := hw.2 c28
      refine lv_aload_n hx hb dX9_copy_289 rfl (lv_at hl 0 rfl) ?_
      obtain ⟨fs0, g18, hM0, hx0, hw⟩ := hw
      refine z_get hC hZ hM0 zc8 20 (by decide) q1740 (fun _ h9 => h9) hx0 dX9_copy_290 ?_
      refine lv_bipush (v := 80) hx hb dX9_copy_293 (by decide) ?_
      refine lv_iload_n hx hb dX9_copy_295 rfl (lv_at hl 1 rfl) ?_
      refine lv_imul hx hb dX9_copy_296 ?_
      refine lv_iload_n hx hb dX9_copy_297 rfl (lv_at hl 3 rfl) ?_
      refine lv_iadd hx hb dX9_copy_298 ?_
      refine lv_aload_n hx hb dX9_copy_299 rfl (lv_at hl 0 rfl) ?_
      obtain ⟨fs0, g19, hM0, hx0, hw⟩ := hw
      refine z_get hC hZ hM0 zc8 20 (by decide) q1740 (fun _ h9 => h9) hx0 dX9_copy_300 ?_
      refine lv_bipush (v := 80) hx hb dX9_copy_303 (by decide) ?_
      refine lv_iload_n hx hb dX9_copy_305 rfl (lv_at hl 2 rfl) ?_
      refine lv_imul hx hb dX9_copy_306 ?_
      refine lv_iload_n hx hb dX9_copy_307 rfl (lv_at hl 3 rfl) ?_
      refine lv_iadd hx hb dX9_copy_308 ?_
      obtain ⟨b20, hr0, hw⟩ := hw
      subst hr0
      obtain ⟨n0, f0, hM0, hi0, hw⟩ := hw
      refine z_iald hC hZ hM0 hi0 dX9_copy_309 ?_
      generalize f0 _ = v21 at hw ⊢
      obtain ⟨b22, hr0, hw⟩ := hw
      subst hr0
      obtain ⟨n0, f0, hM0, hb0, hi0, hw⟩ := hw
      refine z_iast hC hZ hM0 hb0 hi0 dX9_copy_310 (fun H locs hZ => ?_)
      generalize zu M _ _ = M at hw hZ
      refine lv_aload_n hx hb dX9_copy_311 rfl (lv_at hl 0 rfl) ?_
      obtain ⟨fs0, g23, hM0, hx0, hw⟩ := hw
      refine z_get hC hZ hM0 zc8 21 (by decide) q1741 (fun _ h9 => h9) hx0 dX9_copy_312 ?_
      refine lv_bipush (v := 80) hx hb dX9_copy_315 (by decide) ?_
      refine lv_iload_n hx hb dX9_copy_317 rfl (lv_at hl 1 rfl) ?_
      refine lv_imul hx hb dX9_copy_318 ?_
      refine lv_iload_n hx hb dX9_copy_319 rfl (lv_at hl 3 rfl) ?_
      refine lv_iadd hx hb dX9_copy_320 ?_
      refine lv_aload_n hx hb dX9_copy_321 rfl (lv_at hl 0 rfl) ?_
      obtain ⟨fs0, g24, hM0, hx0, hw⟩ := hw
      refine z_get hC hZ hM0 zc8 21 (by decide) q1741 (fun _ h9 => h9) hx0 dX9_copy_322 ?_
      refine lv_bipush (v := 80) hx hb dX9_copy_325 (by decide) ?_
      refine lv_iload_n hx hb dX9_copy_327 rfl (lv_at hl 2 rfl) ?_
      refine lv_imul hx hb dX9_copy_328 ?_
      refine lv_iload_n hx hb dX9_copy_329 rfl (lv_at hl 3 rfl) ?_
      refine lv_iadd hx hb dX9_copy_330 ?_
      obtain ⟨b25, hr0, hw⟩ := hw
      subst hr0
      obtain ⟨n0, f0, hM0, hi0, hw⟩ := hw
      refine z_iald hC hZ hM0 hi0 dX9_copy_331 ?_
      generalize f0 _ = v26 at hw ⊢
      obtain ⟨b27, hr0, hw⟩ := hw
      subst hr0
      obtain ⟨n0, f0, hM0, hb0, hi0, hw⟩ := hw
      refine z_iast hC hZ hM0 hb0 hi0 dX9_copy_332 (fun H locs hZ => ?_)
      generalize zu M _ _ = M at hw hZ
      refine lv_iinc (v := (x3 + 1)) (lv' := [(3, .int (x3 + 1)), (0, .ref o), (1, .int x1), (2, .int x2)]) hx hb dX9_copy_333 hl (k := 3) rfl rfl (by decide) rfl (fun ls hl1 => ?_)
      replace hl := hl1
      clear hl1
      refine lv_goto (tgt := 283) hx hb dX9_copy_336 (by decide) ?_
      exact ih _ _ _ _ hk hn hZ (lv_sub hl [1, 2, 3, 0] rfl) hw
def wp_X9_copy_L159 (D : zD) (post : Int32 → zM → Prop) (o : Nat) : Nat → Int32 → Int32 → Int32 → zM → Prop
  | 0 => fun _ _ _ _ => False
  | f + 1 => fun x1 x2 x3 M =>
    (((8 : Int32) ≤ x3 → (∃ f, wp_X9_copy_L283 D post o f x1 x2 (0 : Int32) M)) ∧ (¬ (8 : Int32) ≤ x3 → (zgR M o 8 16 fun g29 => (zgR M o 8 16 fun g30 => ((zd g30 fun b31 => zaI M b31 0 (((8 : Int32) * x2) + x3) fun v32 => ((zd g29 fun b33 => zsI D M b33 (((8 : Int32) * x1) + x3) v32 fun M => (zgR M o 8 17 fun g34 => (zgR M o 8 17 fun g35 => ((zd g35 fun b36 => zaI M b36 0 (((8 : Int32) * x2) + x3) fun v37 => ((zd g34 fun b38 => zsI D M b38 (((8 : Int32) * x1) + x3) v37 fun M => (zgR M o 8 18 fun g39 => (zgR M o 8 18 fun g40 => ((zd g40 fun b41 => zaI M b41 0 (((8 : Int32) * x2) + x3) fun v42 => ((zd g39 fun b43 => zsI D M b43 (((8 : Int32) * x1) + x3) v42 fun M => (zgR M o 8 19 fun g44 => (zgR M o 8 19 fun g45 => ((zd g45 fun b46 => zaI M b46 0 (((8 : Int32) * x2) + x3) fun v47 => ((zd g44 fun b48 => zsI D M b48 (((8 : Int32) * x1) + x3) v47 fun M => (zgR M o 8 22 fun g49 => (zgR M o 8 22 fun g50 => ((zd g50 fun b51 => zaI M b51 0 (((8 : Int32) * x2) + x3) fun v52 => ((zd g49 fun b53 => zsI D M b53 (((8 : Int32) * x1) + x3) v52 fun M => wp_X9_copy_L159 D post o f x1 x2 (x3 + 1) M))))))))))))))))))))))))))))))))
set_option maxHeartbeats 4000000 in
set_option maxRecDepth 100000 in
theorem wk_X9_copy_L159 {p : Program} {l : Launch} {e : Env} {s : State} {m : MethodId} {args : Array Value} {below : List Frame} {meth : Method} {c : Code} {D : zD} {post : Int32 → zM → Prop} {o : Nat} (hG : zGx p l s m args meth c cX9_copy 4 "PluralBranchesModel" D (some .int) "copy" []) : ∀ (f : Nat), ∀ {H : Heap} {locs : List Loc} {cells slots : Nat} {ls : Array Slot} (x1 : Int32) (x2 : Int32) (x3 : Int32) (M : zM), cells ≤ 0 → slots ≤ 0 → zS D M H locs → lv_has ls 4 [(0, .ref o), (1, .int x1), (2, .int x2), (3, .int x3)] → wp_X9_copy_L159 D post o f x1 x2 x3 M → W p l e rm_X9_copy s m args below meth c H locs cells slots (vx_MQ below (zQ D zI post) (zX D (fun _ _ => False)) args s 0 0 (zA D)) (F0 m 159 ls []) := by
  have hC := hG.1
  have hx := hC.x
  have hb := hC.b
  have hown := hC.o
  have hts := hC.ts
  have hlt := hG.2.2.2.2.2
  intro f
  induction f with
  | zero =>
    intro H locs cells slots ls x1 x2 x3 M hk hn hZ hl hw
    exact absurd hw (fun h => h)
  | succ f ih =>
    intro H locs cells slots ls x1 x2 x3 M hk hn hZ hl hw
    refine lv_iload_n hx hb dX9_copy_159 rfl (lv_at hl 3 rfl) ?_
    refine lv_bipush (v := 8) hx hb dX9_copy_160 (by decide) ?_
    refine lv_icmp_ge (tgt := 281) hx hb dX9_copy_162 (by decide) (fun c80 => ?_) (fun c80 => ?_)
    · replace hw := hw.1 c80
      refine lv_iconst (v := 0) hx hb dX9_copy_281 (by decide) ?_
      refine lv_istore_n (i := 3) (lv' := [(3, .int (0 : Int32)), (0, .ref o), (1, .int x1), (2, .int x2)]) hx hb dX9_copy_282 rfl hl (by decide) rfl (fun ls hl1 => ?_)
      replace hl := hl1
      clear hl1
      obtain ⟨f1, hw⟩ := hw
      exact wk_X9_copy_L283 hG f1 _ _ _ _ hk hn hZ (lv_sub hl [1, 2, 3, 0] rfl) hw
    · replace hw := hw.2 c80
      refine lv_aload_n hx hb dX9_copy_165 rfl (lv_at hl 0 rfl) ?_
      obtain ⟨fs0, g55, hM0, hx0, hw⟩ := hw
      refine z_get hC hZ hM0 zc8 16 (by decide) q1736 (fun _ h9 => h9) hx0 dX9_copy_166 ?_
      refine lv_bipush (v := 8) hx hb dX9_copy_169 (by decide) ?_
      refine lv_iload_n hx hb dX9_copy_171 rfl (lv_at hl 1 rfl) ?_
      refine lv_imul hx hb dX9_copy_172 ?_
      refine lv_iload_n hx hb dX9_copy_173 rfl (lv_at hl 3 rfl) ?_
      refine lv_iadd hx hb dX9_copy_174 ?_
      refine lv_aload_n hx hb dX9_copy_175 rfl (lv_at hl 0 rfl) ?_
      obtain ⟨fs0, g56, hM0, hx0, hw⟩ := hw
      refine z_get hC hZ hM0 zc8 16 (by decide) q1736 (fun _ h9 => h9) hx0 dX9_copy_176 ?_
      refine lv_bipush (v := 8) hx hb dX9_copy_179 (by decide) ?_
      refine lv_iload_n hx hb dX9_copy_181 rfl (lv_at hl 2 rfl) ?_
      refine lv_imul hx hb dX9_copy_182 ?_
      refine lv_iload_n hx hb dX9_copy_183 rfl (lv_at hl 3 rfl) ?_
      refine lv_iadd hx hb dX9_copy_184 ?_
      obtain ⟨b57, hr0, hw⟩ := hw
      subst hr0
      obtain ⟨n0, f0, hM0, hi0, hw⟩ := hw
      refine z_iald hC hZ hM0 hi0 dX9_copy_185 ?_
      generalize f0 _ = v58 at hw ⊢
      obtain ⟨b59, hr0, hw⟩ := hw
      subst hr0
      obtain ⟨n0, f0, hM0, hb0, hi0, hw⟩ := hw
      refine z_iast hC hZ hM0 hb0 hi0 dX9_copy_186 (fun H locs hZ => ?_)
      generalize zu M _ _ = M at hw hZ
      refine lv_aload_n hx hb dX9_copy_187 rfl (lv_at hl 0 rfl) ?_
      obtain ⟨fs0, g60, hM0, hx0, hw⟩ := hw
      refine z_get hC hZ hM0 zc8 17 (by decide) q1737 (fun _ h9 => h9) hx0 dX9_copy_188 ?_
      refine lv_bipush (v := 8) hx hb dX9_copy_191 (by decide) ?_
      refine lv_iload_n hx hb dX9_copy_193 rfl (lv_at hl 1 rfl) ?_
      refine lv_imul hx hb dX9_copy_194 ?_
      refine lv_iload_n hx hb dX9_copy_195 rfl (lv_at hl 3 rfl) ?_
      refine lv_iadd hx hb dX9_copy_196 ?_
      refine lv_aload_n hx hb dX9_copy_197 rfl (lv_at hl 0 rfl) ?_
      obtain ⟨fs0, g61, hM0, hx0, hw⟩ := hw
      refine z_get hC hZ hM0 zc8 17 (by decide) q1737 (fun _ h9 => h9) hx0 dX9_copy_198 ?_
      refine lv_bipush (v := 8) hx hb dX9_copy_201 (by decide) ?_
      refine lv_iload_n hx hb dX9_copy_203 rfl (lv_at hl 2 rfl) ?_
      refine lv_imul hx hb dX9_copy_204 ?_
      refine lv_iload_n hx hb dX9_copy_205 rfl (lv_at hl 3 rfl) ?_
      refine lv_iadd hx hb dX9_copy_206 ?_
      obtain ⟨b62, hr0, hw⟩ := hw
      subst hr0
      obtain ⟨n0, f0, hM0, hi0, hw⟩ := hw
      refine z_iald hC hZ hM0 hi0 dX9_copy_207 ?_
      generalize f0 _ = v63 at hw ⊢
      obtain ⟨b64, hr0, hw⟩ := hw
      subst hr0
      obtain ⟨n0, f0, hM0, hb0, hi0, hw⟩ := hw
      refine z_iast hC hZ hM0 hb0 hi0 dX9_copy_208 (fun H locs hZ => ?_)
      generalize zu M _ _ = M at hw hZ
      refine lv_aload_n hx hb dX9_copy_209 rfl (lv_at hl 0 rfl) ?_
      obtain ⟨fs0, g65, hM0, hx0, hw⟩ := hw
      refine z_get hC hZ hM0 zc8 18 (by decide) q1738 (fun _ h9 => h9) hx0 dX9_copy_210 ?_
      refine lv_bipush (v := 8) hx hb dX9_copy_213 (by decide) ?_
      refine lv_iload_n hx hb dX9_copy_215 rfl (lv_at hl 1 rfl) ?_
      refine lv_imul hx hb dX9_copy_216 ?_
      refine lv_iload_n hx hb dX9_copy_217 rfl (lv_at hl 3 rfl) ?_
      refine lv_iadd hx hb dX9_copy_218 ?_
      refine lv_aload_n hx hb dX9_copy_219 rfl (lv_at hl 0 rfl) ?_
      obtain ⟨fs0, g66, hM0, hx0, hw⟩ := hw
      refine z_get hC hZ hM0 zc8 18 (by decide) q1738 (fun _ h9 => h9) hx0 dX9_copy_220 ?_
      refine lv_bipush (v := 8) hx hb dX9_copy_223 (by decide) ?_
      refine lv_iload_n hx hb dX9_copy_225 rfl (lv_at hl 2 rfl) ?_
      refine lv_imul hx hb dX9_copy_226 ?_
      refine lv_iload_n hx hb dX9_copy_227 rfl (lv_at hl 3 rfl) ?_
      refine lv_iadd hx hb dX9_copy_228 ?_
      obtain ⟨b67, hr0, hw⟩ := hw
      subst hr0
      obtain ⟨n0, f0, hM0, hi0, hw⟩ := hw
      refine z_iald hC hZ hM0 hi0 dX9_copy_229 ?_
      generalize f0 _ = v68 at hw ⊢
      obtain ⟨b69, hr0, hw⟩ := hw
      subst hr0
      obtain ⟨n0, f0, hM0, hb0, hi0, hw⟩ := hw
      refine z_iast hC hZ hM0 hb0 hi0 dX9_copy_230 (fun H locs hZ => ?_)
      generalize zu M _ _ = M at hw hZ
      refine lv_aload_n hx hb dX9_copy_231 rfl (lv_at hl 0 rfl) ?_
      obtain ⟨fs0, g70, hM0, hx0, hw⟩ := hw
      refine z_get hC hZ hM0 zc8 19 (by decide) q1739 (fun _ h9 => h9) hx0 dX9_copy_232 ?_
      refine lv_bipush (v := 8) hx hb dX9_copy_235 (by decide) ?_
      refine lv_iload_n hx hb dX9_copy_237 rfl (lv_at hl 1 rfl) ?_
      refine lv_imul hx hb dX9_copy_238 ?_
      refine lv_iload_n hx hb dX9_copy_239 rfl (lv_at hl 3 rfl) ?_
      refine lv_iadd hx hb dX9_copy_240 ?_
      refine lv_aload_n hx hb dX9_copy_241 rfl (lv_at hl 0 rfl) ?_
      obtain ⟨fs0, g71, hM0, hx0, hw⟩ := hw
      refine z_get hC hZ hM0 zc8 19 (by decide) q1739 (fun _ h9 => h9) hx0 dX9_copy_242 ?_
      refine lv_bipush (v := 8) hx hb dX9_copy_245 (by decide) ?_
      refine lv_iload_n hx hb dX9_copy_247 rfl (lv_at hl 2 rfl) ?_
      refine lv_imul hx hb dX9_copy_248 ?_
      refine lv_iload_n hx hb dX9_copy_249 rfl (lv_at hl 3 rfl) ?_
      refine lv_iadd hx hb dX9_copy_250 ?_
      obtain ⟨b72, hr0, hw⟩ := hw
      subst hr0
      obtain ⟨n0, f0, hM0, hi0, hw⟩ := hw
      refine z_iald hC hZ hM0 hi0 dX9_copy_251 ?_
      generalize f0 _ = v73 at hw ⊢
      obtain ⟨b74, hr0, hw⟩ := hw
      subst hr0
      obtain ⟨n0, f0, hM0, hb0, hi0, hw⟩ := hw
      refine z_iast hC hZ hM0 hb0 hi0 dX9_copy_252 (fun H locs hZ => ?_)
      generalize zu M _ _ = M at hw hZ
      refine lv_aload_n hx hb dX9_copy_253 rfl (lv_at hl 0 rfl) ?_
      obtain ⟨fs0, g75, hM0, hx0, hw⟩ := hw
      refine z_get hC hZ hM0 zc8 22 (by decide) q1742 (fun _ h9 => h9) hx0 dX9_copy_254 ?_
      refine lv_bipush (v := 8) hx hb dX9_copy_257 (by decide) ?_
      refine lv_iload_n hx hb dX9_copy_259 rfl (lv_at hl 1 rfl) ?_
      refine lv_imul hx hb dX9_copy_260 ?_
      refine lv_iload_n hx hb dX9_copy_261 rfl (lv_at hl 3 rfl) ?_
      refine lv_iadd hx hb dX9_copy_262 ?_
      refine lv_aload_n hx hb dX9_copy_263 rfl (lv_at hl 0 rfl) ?_
      obtain ⟨fs0, g76, hM0, hx0, hw⟩ := hw
      refine z_get hC hZ hM0 zc8 22 (by decide) q1742 (fun _ h9 => h9) hx0 dX9_copy_264 ?_
      refine lv_bipush (v := 8) hx hb dX9_copy_267 (by decide) ?_
      refine lv_iload_n hx hb dX9_copy_269 rfl (lv_at hl 2 rfl) ?_
      refine lv_imul hx hb dX9_copy_270 ?_
      refine lv_iload_n hx hb dX9_copy_271 rfl (lv_at hl 3 rfl) ?_
      refine lv_iadd hx hb dX9_copy_272 ?_
      obtain ⟨b77, hr0, hw⟩ := hw
      subst hr0
      obtain ⟨n0, f0, hM0, hi0, hw⟩ := hw
      refine z_iald hC hZ hM0 hi0 dX9_copy_273 ?_
      generalize f0 _ = v78 at hw ⊢
      obtain ⟨b79, hr0, hw⟩ := hw
      subst hr0
      obtain ⟨n0, f0, hM0, hb0, hi0, hw⟩ := hw
      refine z_iast hC hZ hM0 hb0 hi0 dX9_copy_274 (fun H locs hZ => ?_)
      generalize zu M _ _ = M at hw hZ
      refine lv_iinc (v := (x3 + 1)) (lv' := [(3, .int (x3 + 1)), (0, .ref o), (1, .int x1), (2, .int x2)]) hx hb dX9_copy_275 hl (k := 3) rfl rfl (by decide) rfl (fun ls hl1 => ?_)
      replace hl := hl1
      clear hl1
      refine lv_goto (tgt := 159) hx hb dX9_copy_278 (by decide) ?_
      exact ih _ _ _ _ hk hn hZ (lv_sub hl [1, 2, 3, 0] rfl) hw
def wp_X9_copy_L126 (D : zD) (post : Int32 → zM → Prop) (o : Nat) : Nat → Int32 → Int32 → Int32 → zM → Prop
  | 0 => fun _ _ _ _ => False
  | f + 1 => fun x1 x2 x3 M =>
    (((5 : Int32) ≤ x3 → (∃ f, wp_X9_copy_L159 D post o f x1 x2 (0 : Int32) M)) ∧ (¬ (5 : Int32) ≤ x3 → (zgR M o 8 15 fun g81 => (zgR M o 8 15 fun g82 => ((zd g82 fun b83 => zaI M b83 0 (((5 : Int32) * x2) + x3) fun v84 => ((zd g81 fun b85 => zsI D M b85 (((5 : Int32) * x1) + x3) v84 fun M => wp_X9_copy_L126 D post o f x1 x2 (x3 + 1) M))))))))
set_option maxHeartbeats 4000000 in
set_option maxRecDepth 100000 in
theorem wk_X9_copy_L126 {p : Program} {l : Launch} {e : Env} {s : State} {m : MethodId} {args : Array Value} {below : List Frame} {meth : Method} {c : Code} {D : zD} {post : Int32 → zM → Prop} {o : Nat} (hG : zGx p l s m args meth c cX9_copy 4 "PluralBranchesModel" D (some .int) "copy" []) : ∀ (f : Nat), ∀ {H : Heap} {locs : List Loc} {cells slots : Nat} {ls : Array Slot} (x1 : Int32) (x2 : Int32) (x3 : Int32) (M : zM), cells ≤ 0 → slots ≤ 0 → zS D M H locs → lv_has ls 4 [(0, .ref o), (1, .int x1), (2, .int x2), (3, .int x3)] → wp_X9_copy_L126 D post o f x1 x2 x3 M → W p l e rm_X9_copy s m args below meth c H locs cells slots (vx_MQ below (zQ D zI post) (zX D (fun _ _ => False)) args s 0 0 (zA D)) (F0 m 126 ls []) := by
  have hC := hG.1
  have hx := hC.x
  have hb := hC.b
  have hown := hC.o
  have hts := hC.ts
  have hlt := hG.2.2.2.2.2
  intro f
  induction f with
  | zero =>
    intro H locs cells slots ls x1 x2 x3 M hk hn hZ hl hw
    exact absurd hw (fun h => h)
  | succ f ih =>
    intro H locs cells slots ls x1 x2 x3 M hk hn hZ hl hw
    refine lv_iload_n hx hb dX9_copy_126 rfl (lv_at hl 3 rfl) ?_
    refine lv_iconst (v := 5) hx hb dX9_copy_127 (by decide) ?_
    refine lv_icmp_ge (tgt := 157) hx hb dX9_copy_128 (by decide) (fun c92 => ?_) (fun c92 => ?_)
    · replace hw := hw.1 c92
      refine lv_iconst (v := 0) hx hb dX9_copy_157 (by decide) ?_
      refine lv_istore_n (i := 3) (lv' := [(3, .int (0 : Int32)), (0, .ref o), (1, .int x1), (2, .int x2)]) hx hb dX9_copy_158 rfl hl (by decide) rfl (fun ls hl1 => ?_)
      replace hl := hl1
      clear hl1
      obtain ⟨f1, hw⟩ := hw
      exact wk_X9_copy_L159 hG f1 _ _ _ _ hk hn hZ (lv_sub hl [1, 2, 3, 0] rfl) hw
    · replace hw := hw.2 c92
      refine lv_aload_n hx hb dX9_copy_131 rfl (lv_at hl 0 rfl) ?_
      obtain ⟨fs0, g87, hM0, hx0, hw⟩ := hw
      refine z_get hC hZ hM0 zc8 15 (by decide) q1735 (fun _ h9 => h9) hx0 dX9_copy_132 ?_
      refine lv_iconst (v := 5) hx hb dX9_copy_135 (by decide) ?_
      refine lv_iload_n hx hb dX9_copy_136 rfl (lv_at hl 1 rfl) ?_
      refine lv_imul hx hb dX9_copy_137 ?_
      refine lv_iload_n hx hb dX9_copy_138 rfl (lv_at hl 3 rfl) ?_
      refine lv_iadd hx hb dX9_copy_139 ?_
      refine lv_aload_n hx hb dX9_copy_140 rfl (lv_at hl 0 rfl) ?_
      obtain ⟨fs0, g88, hM0, hx0, hw⟩ := hw
      refine z_get hC hZ hM0 zc8 15 (by decide) q1735 (fun _ h9 => h9) hx0 dX9_copy_141 ?_
      refine lv_iconst (v := 5) hx hb dX9_copy_144 (by decide) ?_
      refine lv_iload_n hx hb dX9_copy_145 rfl (lv_at hl 2 rfl) ?_
      refine lv_imul hx hb dX9_copy_146 ?_
      refine lv_iload_n hx hb dX9_copy_147 rfl (lv_at hl 3 rfl) ?_
      refine lv_iadd hx hb dX9_copy_148 ?_
      obtain ⟨b89, hr0, hw⟩ := hw
      subst hr0
      obtain ⟨n0, f0, hM0, hi0, hw⟩ := hw
      refine z_iald hC hZ hM0 hi0 dX9_copy_149 ?_
      generalize f0 _ = v90 at hw ⊢
      obtain ⟨b91, hr0, hw⟩ := hw
      subst hr0
      obtain ⟨n0, f0, hM0, hb0, hi0, hw⟩ := hw
      refine z_iast hC hZ hM0 hb0 hi0 dX9_copy_150 (fun H locs hZ => ?_)
      generalize zu M _ _ = M at hw hZ
      refine lv_iinc (v := (x3 + 1)) (lv' := [(3, .int (x3 + 1)), (0, .ref o), (1, .int x1), (2, .int x2)]) hx hb dX9_copy_151 hl (k := 3) rfl rfl (by decide) rfl (fun ls hl1 => ?_)
      replace hl := hl1
      clear hl1
      refine lv_goto (tgt := 126) hx hb dX9_copy_154 (by decide) ?_
      exact ih _ _ _ _ hk hn hZ (lv_sub hl [1, 2, 3, 0] rfl) hw
def wp_X9_copy_L90 (D : zD) (post : Int32 → zM → Prop) (o : Nat) : Nat → Int32 → Int32 → Int32 → zM → Prop
  | 0 => fun _ _ _ _ => False
  | f + 1 => fun x1 x2 x3 M =>
    (((120 : Int32) ≤ x3 → (∃ f, wp_X9_copy_L126 D post o f x1 x2 (0 : Int32) M)) ∧ (¬ (120 : Int32) ≤ x3 → (zgR M o 8 10 fun g93 => (zgR M o 8 10 fun g94 => ((zd g94 fun b95 => zaI M b95 0 (((120 : Int32) * x2) + x3) fun v96 => ((zd g93 fun b97 => zsI D M b97 (((120 : Int32) * x1) + x3) v96 fun M => wp_X9_copy_L90 D post o f x1 x2 (x3 + 1) M))))))))
set_option maxHeartbeats 4000000 in
set_option maxRecDepth 100000 in
theorem wk_X9_copy_L90 {p : Program} {l : Launch} {e : Env} {s : State} {m : MethodId} {args : Array Value} {below : List Frame} {meth : Method} {c : Code} {D : zD} {post : Int32 → zM → Prop} {o : Nat} (hG : zGx p l s m args meth c cX9_copy 4 "PluralBranchesModel" D (some .int) "copy" []) : ∀ (f : Nat), ∀ {H : Heap} {locs : List Loc} {cells slots : Nat} {ls : Array Slot} (x1 : Int32) (x2 : Int32) (x3 : Int32) (M : zM), cells ≤ 0 → slots ≤ 0 → zS D M H locs → lv_has ls 4 [(0, .ref o), (1, .int x1), (2, .int x2), (3, .int x3)] → wp_X9_copy_L90 D post o f x1 x2 x3 M → W p l e rm_X9_copy s m args below meth c H locs cells slots (vx_MQ below (zQ D zI post) (zX D (fun _ _ => False)) args s 0 0 (zA D)) (F0 m 90 ls []) := by
  have hC := hG.1
  have hx := hC.x
  have hb := hC.b
  have hown := hC.o
  have hts := hC.ts
  have hlt := hG.2.2.2.2.2
  intro f
  induction f with
  | zero =>
    intro H locs cells slots ls x1 x2 x3 M hk hn hZ hl hw
    exact absurd hw (fun h => h)
  | succ f ih =>
    intro H locs cells slots ls x1 x2 x3 M hk hn hZ hl hw
    refine lv_iload_n hx hb dX9_copy_90 rfl (lv_at hl 3 rfl) ?_
    refine lv_bipush (v := 120) hx hb dX9_copy_91 (by decide) ?_
    refine lv_icmp_ge (tgt := 124) hx hb dX9_copy_93 (by decide) (fun c104 => ?_) (fun c104 => ?_)
    · replace hw := hw.1 c104
      refine lv_iconst (v := 0) hx hb dX9_copy_124 (by decide) ?_
      refine lv_istore_n (i := 3) (lv' := [(3, .int (0 : Int32)), (0, .ref o), (1, .int x1), (2, .int x2)]) hx hb dX9_copy_125 rfl hl (by decide) rfl (fun ls hl1 => ?_)
      replace hl := hl1
      clear hl1
      obtain ⟨f1, hw⟩ := hw
      exact wk_X9_copy_L126 hG f1 _ _ _ _ hk hn hZ (lv_sub hl [1, 2, 3, 0] rfl) hw
    · replace hw := hw.2 c104
      refine lv_aload_n hx hb dX9_copy_96 rfl (lv_at hl 0 rfl) ?_
      obtain ⟨fs0, g99, hM0, hx0, hw⟩ := hw
      refine z_get hC hZ hM0 zc8 10 (by decide) q1730 (fun _ h9 => h9) hx0 dX9_copy_97 ?_
      refine lv_bipush (v := 120) hx hb dX9_copy_100 (by decide) ?_
      refine lv_iload_n hx hb dX9_copy_102 rfl (lv_at hl 1 rfl) ?_
      refine lv_imul hx hb dX9_copy_103 ?_
      refine lv_iload_n hx hb dX9_copy_104 rfl (lv_at hl 3 rfl) ?_
      refine lv_iadd hx hb dX9_copy_105 ?_
      refine lv_aload_n hx hb dX9_copy_106 rfl (lv_at hl 0 rfl) ?_
      obtain ⟨fs0, g100, hM0, hx0, hw⟩ := hw
      refine z_get hC hZ hM0 zc8 10 (by decide) q1730 (fun _ h9 => h9) hx0 dX9_copy_107 ?_
      refine lv_bipush (v := 120) hx hb dX9_copy_110 (by decide) ?_
      refine lv_iload_n hx hb dX9_copy_112 rfl (lv_at hl 2 rfl) ?_
      refine lv_imul hx hb dX9_copy_113 ?_
      refine lv_iload_n hx hb dX9_copy_114 rfl (lv_at hl 3 rfl) ?_
      refine lv_iadd hx hb dX9_copy_115 ?_
      obtain ⟨b101, hr0, hw⟩ := hw
      subst hr0
      obtain ⟨n0, f0, hM0, hi0, hw⟩ := hw
      refine z_iald hC hZ hM0 hi0 dX9_copy_116 ?_
      generalize f0 _ = v102 at hw ⊢
      obtain ⟨b103, hr0, hw⟩ := hw
      subst hr0
      obtain ⟨n0, f0, hM0, hb0, hi0, hw⟩ := hw
      refine z_iast hC hZ hM0 hb0 hi0 dX9_copy_117 (fun H locs hZ => ?_)
      generalize zu M _ _ = M at hw hZ
      refine lv_iinc (v := (x3 + 1)) (lv' := [(3, .int (x3 + 1)), (0, .ref o), (1, .int x1), (2, .int x2)]) hx hb dX9_copy_118 hl (k := 3) rfl rfl (by decide) rfl (fun ls hl1 => ?_)
      replace hl := hl1
      clear hl1
      refine lv_goto (tgt := 90) hx hb dX9_copy_121 (by decide) ?_
      exact ih _ _ _ _ hk hn hZ (lv_sub hl [1, 2, 3, 0] rfl) hw
def wp_X9_copy (D : zD) (post : Int32 → zM → Prop) (o : Nat) (a0 : Int32) (a1 : Int32) (M : zM) : Prop :=
    (wp_X9_isSlot D (fun r105 M => ((r105 = 0 → wp_X9_copy_L14 D post o M) ∧ (¬ r105 = 0 → (wp_X9_isSlot D (fun r108 M => ((¬ r108 = 0 → (zgR M o 8 9 fun g111 => ((zd g111 fun b112 => zaI M b112 0 a1 fun v113 => ((0 ≤ v113 → (zgR M o 8 9 fun g114 => (zgR M o 8 9 fun g115 => ((zd g115 fun b116 => zaI M b116 0 a1 fun v117 => ((zd g114 fun b118 => zsI D M b118 a0 v117 fun M => (zgR M o 8 11 fun g119 => (zgR M o 8 11 fun g120 => ((zd g120 fun b121 => zaI M b121 0 a1 fun v122 => ((zd g119 fun b123 => zsI D M b123 a0 v122 fun M => (zgR M o 8 12 fun g124 => (zgR M o 8 12 fun g125 => ((zd g125 fun b126 => zaI M b126 0 a1 fun v127 => ((zd g124 fun b128 => zsI D M b128 a0 v127 fun M => (zgR M o 8 13 fun g129 => (zgR M o 8 13 fun g130 => ((zd g130 fun b131 => zaI M b131 0 a1 fun v132 => ((zd g129 fun b133 => zsI D M b133 a0 v132 fun M => (zgR M o 8 14 fun g134 => (zgR M o 8 14 fun g135 => ((zd g135 fun b136 => zaI M b136 0 a1 fun v137 => ((zd g134 fun b138 => zsI D M b138 a0 v137 fun M => (∃ f, wp_X9_copy_L90 D post o f a0 a1 (0 : Int32) M)))))))))))))))))))))))))))))))) ∧ (¬ 0 ≤ v113 → post (-2 : Int32) M)))))) ∧ (r108 = 0 → wp_X9_copy_L14 D post o M))) a1 M)))) a0 M)
set_option maxHeartbeats 4000000 in
set_option maxRecDepth 100000 in
theorem w_X9_copy {l : Launch} {D : zD} {post : Int32 → zM → Prop} (hlt : l.stackTraces = false) {o : Nat} {a0 : Int32} {a1 : Int32} {M : zM} (hw : wp_X9_copy D post o a0 a1 M) : zMet l D yX9_copy (ws_ yX9_copy cX9_copy 4 (some .int)) rm_X9_copy 0 0 [.ref o, .int a0, .int a1] M zI post (fun _ _ => False) := by
  unfold wp_X9_copy at hw
  have hlv : lv_args 0 [.ref o, .int a0, .int a1] = [(0, .ref o), (1, .int a0), (2, .int a1)] := (zargs1 rfl (zargs1 rfl (zargs1 rfl rfl)))
  refine z_ofW hlt (by decide) (Nat.le_trans (zsl1 rfl (zsl1 rfl (zsl1 rfl (Nat.le_refl 0 : (lg_sl []).length ≤ 0)))) (Nat.le_of_ble_eq_true rfl)) hlv ?_
  intro p e s m args below meth c ls hG hZ hl
  have hC := hG.1
  have hx := hC.x
  have hb := hC.b
  have hown := hC.o
  have hts := hC.ts
  have hlt := hG.2.2.2.2.2
  obtain ⟨cells, hce⟩ : ∃ z : Nat, z = 0 := ⟨0, rfl⟩
  obtain ⟨slots, hsl⟩ : ∃ z : Nat, z = 0 := ⟨0, rfl⟩
  refine W.cs (cells' := cells) (slots' := slots) hce.symm hsl.symm ?_
  have hk : cells ≤ 0 := Nat.le_of_eq hce
  have hn : slots ≤ 0 := Nat.le_of_eq hsl
  clear hce hsl
  refine lv_iload_n hx hb dX9_copy_0 rfl (lv_at hl 1 rfl) ?_
  refine z_callI hZ (vx_runS (As := [.int a0]) (rest := []) hC.fix (w_X9_isSlot hlt hw) (va_cwS 1 hts (lw_S q1963 q1964 q83 q1965) rfl rfl rfl dd_X9_isSlot ⟨Nat.le_of_ble_eq_true rfl, Nat.le_of_ble_eq_true rfl⟩) (z_preS hC hZ) rfl rfl hl.1 rfl (lv_room (Nat.zero_le _)) dX9_copy_1 ⟨hk, hn⟩) (fun r142 M H locs hw1 hZ => ?_) (fun q M H locs ci fs E T9 N9 hw hZ hc1 hM1 hb1 => False.elim hw)
  replace hw := hw1
  clear hw1
  refine W.cs (cells' := cells) (slots' := slots) rfl rfl ?_
  refine lv_if_eq (tgt := 14) hx hb dX9_copy_4 (by decide) (fun c178 => ?_) (fun c178 => ?_)
  · replace hw := hw.1 c178
    exact wk_X9_copy_L14 hG _ hk hn hZ (lv_sub hl [] rfl) hw
  · replace hw := hw.2 c178
    refine lv_iload_n hx hb dX9_copy_7 rfl (lv_at hl 2 rfl) ?_
    refine z_callI hZ (vx_runS (As := [.int a1]) (rest := []) hC.fix (w_X9_isSlot hlt hw) (va_cwS 1 hts (lw_S q1963 q1964 q83 q1965) rfl rfl rfl dd_X9_isSlot ⟨Nat.le_of_ble_eq_true rfl, Nat.le_of_ble_eq_true rfl⟩) (z_preS hC hZ) rfl rfl hl.1 rfl (lv_room (Nat.zero_le _)) dX9_copy_8 ⟨hk, hn⟩) (fun r145 M H locs hw1 hZ => ?_) (fun q M H locs ci fs E T9 N9 hw hZ hc1 hM1 hb1 => False.elim hw)
    replace hw := hw1
    clear hw1
    refine W.cs (cells' := cells) (slots' := slots) rfl rfl ?_
    refine lv_if_ne (tgt := 16) hx hb dX9_copy_11 (by decide) (fun c177 => ?_) (fun c177 => ?_)
    · replace hw := hw.1 c177
      refine lv_aload_n hx hb dX9_copy_16 rfl (lv_at hl 0 rfl) ?_
      obtain ⟨fs0, g148, hM0, hx0, hw⟩ := hw
      refine z_get hC hZ hM0 zc8 9 (by decide) q1729 (fun _ h9 => h9) hx0 dX9_copy_17 ?_
      refine lv_iload_n hx hb dX9_copy_20 rfl (lv_at hl 2 rfl) ?_
      obtain ⟨b149, hr0, hw⟩ := hw
      subst hr0
      obtain ⟨n0, f0, hM0, hi0, hw⟩ := hw
      refine z_iald hC hZ hM0 hi0 dX9_copy_21 ?_
      generalize f0 _ = v150 at hw ⊢
      refine lv_if_ge (tgt := 28) hx hb dX9_copy_22 (by decide) (fun c176 => ?_) (fun c176 => ?_)
      · replace hw := hw.1 c176
        refine lv_aload_n hx hb dX9_copy_28 rfl (lv_at hl 0 rfl) ?_
        obtain ⟨fs0, g151, hM0, hx0, hw⟩ := hw
        refine z_get hC hZ hM0 zc8 9 (by decide) q1729 (fun _ h9 => h9) hx0 dX9_copy_29 ?_
        refine lv_iload_n hx hb dX9_copy_32 rfl (lv_at hl 1 rfl) ?_
        refine lv_aload_n hx hb dX9_copy_33 rfl (lv_at hl 0 rfl) ?_
        obtain ⟨fs0, g152, hM0, hx0, hw⟩ := hw
        refine z_get hC hZ hM0 zc8 9 (by decide) q1729 (fun _ h9 => h9) hx0 dX9_copy_34 ?_
        refine lv_iload_n hx hb dX9_copy_37 rfl (lv_at hl 2 rfl) ?_
        obtain ⟨b153, hr0, hw⟩ := hw
        subst hr0
        obtain ⟨n0, f0, hM0, hi0, hw⟩ := hw
        refine z_iald hC hZ hM0 hi0 dX9_copy_38 ?_
        generalize f0 _ = v154 at hw ⊢
        obtain ⟨b155, hr0, hw⟩ := hw
        subst hr0
        obtain ⟨n0, f0, hM0, hb0, hi0, hw⟩ := hw
        refine z_iast hC hZ hM0 hb0 hi0 dX9_copy_39 (fun H locs hZ => ?_)
        generalize zu M _ _ = M at hw hZ
        refine lv_aload_n hx hb dX9_copy_40 rfl (lv_at hl 0 rfl) ?_
        obtain ⟨fs0, g156, hM0, hx0, hw⟩ := hw
        refine z_get hC hZ hM0 zc8 11 (by decide) q1731 (fun _ h9 => h9) hx0 dX9_copy_41 ?_
        refine lv_iload_n hx hb dX9_copy_44 rfl (lv_at hl 1 rfl) ?_
        refine lv_aload_n hx hb dX9_copy_45 rfl (lv_at hl 0 rfl) ?_
        obtain ⟨fs0, g157, hM0, hx0, hw⟩ := hw
        refine z_get hC hZ hM0 zc8 11 (by decide) q1731 (fun _ h9 => h9) hx0 dX9_copy_46 ?_
        refine lv_iload_n hx hb dX9_copy_49 rfl (lv_at hl 2 rfl) ?_
        obtain ⟨b158, hr0, hw⟩ := hw
        subst hr0
        obtain ⟨n0, f0, hM0, hi0, hw⟩ := hw
        refine z_iald hC hZ hM0 hi0 dX9_copy_50 ?_
        generalize f0 _ = v159 at hw ⊢
        obtain ⟨b160, hr0, hw⟩ := hw
        subst hr0
        obtain ⟨n0, f0, hM0, hb0, hi0, hw⟩ := hw
        refine z_iast hC hZ hM0 hb0 hi0 dX9_copy_51 (fun H locs hZ => ?_)
        generalize zu M _ _ = M at hw hZ
        refine lv_aload_n hx hb dX9_copy_52 rfl (lv_at hl 0 rfl) ?_
        obtain ⟨fs0, g161, hM0, hx0, hw⟩ := hw
        refine z_get hC hZ hM0 zc8 12 (by decide) q1732 (fun _ h9 => h9) hx0 dX9_copy_53 ?_
        refine lv_iload_n hx hb dX9_copy_56 rfl (lv_at hl 1 rfl) ?_
        refine lv_aload_n hx hb dX9_copy_57 rfl (lv_at hl 0 rfl) ?_
        obtain ⟨fs0, g162, hM0, hx0, hw⟩ := hw
        refine z_get hC hZ hM0 zc8 12 (by decide) q1732 (fun _ h9 => h9) hx0 dX9_copy_58 ?_
        refine lv_iload_n hx hb dX9_copy_61 rfl (lv_at hl 2 rfl) ?_
        obtain ⟨b163, hr0, hw⟩ := hw
        subst hr0
        obtain ⟨n0, f0, hM0, hi0, hw⟩ := hw
        refine z_iald hC hZ hM0 hi0 dX9_copy_62 ?_
        generalize f0 _ = v164 at hw ⊢
        obtain ⟨b165, hr0, hw⟩ := hw
        subst hr0
        obtain ⟨n0, f0, hM0, hb0, hi0, hw⟩ := hw
        refine z_iast hC hZ hM0 hb0 hi0 dX9_copy_63 (fun H locs hZ => ?_)
        generalize zu M _ _ = M at hw hZ
        refine lv_aload_n hx hb dX9_copy_64 rfl (lv_at hl 0 rfl) ?_
        obtain ⟨fs0, g166, hM0, hx0, hw⟩ := hw
        refine z_get hC hZ hM0 zc8 13 (by decide) q1733 (fun _ h9 => h9) hx0 dX9_copy_65 ?_
        refine lv_iload_n hx hb dX9_copy_68 rfl (lv_at hl 1 rfl) ?_
        refine lv_aload_n hx hb dX9_copy_69 rfl (lv_at hl 0 rfl) ?_
        obtain ⟨fs0, g167, hM0, hx0, hw⟩ := hw
        refine z_get hC hZ hM0 zc8 13 (by decide) q1733 (fun _ h9 => h9) hx0 dX9_copy_70 ?_
        refine lv_iload_n hx hb dX9_copy_73 rfl (lv_at hl 2 rfl) ?_
        obtain ⟨b168, hr0, hw⟩ := hw
        subst hr0
        obtain ⟨n0, f0, hM0, hi0, hw⟩ := hw
        refine z_iald hC hZ hM0 hi0 dX9_copy_74 ?_
        generalize f0 _ = v169 at hw ⊢
        obtain ⟨b170, hr0, hw⟩ := hw
        subst hr0
        obtain ⟨n0, f0, hM0, hb0, hi0, hw⟩ := hw
        refine z_iast hC hZ hM0 hb0 hi0 dX9_copy_75 (fun H locs hZ => ?_)
        generalize zu M _ _ = M at hw hZ
        refine lv_aload_n hx hb dX9_copy_76 rfl (lv_at hl 0 rfl) ?_
        obtain ⟨fs0, g171, hM0, hx0, hw⟩ := hw
        refine z_get hC hZ hM0 zc8 14 (by decide) q1734 (fun _ h9 => h9) hx0 dX9_copy_77 ?_
        refine lv_iload_n hx hb dX9_copy_80 rfl (lv_at hl 1 rfl) ?_
        refine lv_aload_n hx hb dX9_copy_81 rfl (lv_at hl 0 rfl) ?_
        obtain ⟨fs0, g172, hM0, hx0, hw⟩ := hw
        refine z_get hC hZ hM0 zc8 14 (by decide) q1734 (fun _ h9 => h9) hx0 dX9_copy_82 ?_
        refine lv_iload_n hx hb dX9_copy_85 rfl (lv_at hl 2 rfl) ?_
        obtain ⟨b173, hr0, hw⟩ := hw
        subst hr0
        obtain ⟨n0, f0, hM0, hi0, hw⟩ := hw
        refine z_iald hC hZ hM0 hi0 dX9_copy_86 ?_
        generalize f0 _ = v174 at hw ⊢
        obtain ⟨b175, hr0, hw⟩ := hw
        subst hr0
        obtain ⟨n0, f0, hM0, hb0, hi0, hw⟩ := hw
        refine z_iast hC hZ hM0 hb0 hi0 dX9_copy_87 (fun H locs hZ => ?_)
        generalize zu M _ _ = M at hw hZ
        refine lv_iconst (v := 0) hx hb dX9_copy_88 (by decide) ?_
        refine lv_istore_n (i := 3) (lv' := [(3, .int (0 : Int32)), (0, .ref o), (1, .int a0), (2, .int a1)]) hx hb dX9_copy_89 rfl hl (by decide) rfl (fun ls hl1 => ?_)
        replace hl := hl1
        clear hl1
        obtain ⟨f1, hw⟩ := hw
        exact wk_X9_copy_L90 hG f1 _ _ _ _ hk hn hZ (lv_sub hl [1, 2, 3, 0] rfl) hw
      · replace hw := hw.2 c176
        refine lv_bipush (v := (-2)) hx hb dX9_copy_25 (by decide) ?_
        exact z_iret hG hZ hk hn hw dX9_copy_27
    · replace hw := hw.2 c177
      exact wk_X9_copy_L14 hG _ hk hn hZ (lv_sub hl [] rfl) hw
abbrev rm_X9_count : Room := { frames := 1, cells := 0, slots := 0, locals := 64 }
def wp_X9_count_L64 (D : zD) (post : Int32 → zM → Prop) (o : Nat) (k42 : Int32 → Int32 → zM → Prop) (x3 : Int32) (y0 : Int32) (y1 : Int32) (M : zM) : Prop :=
    k42 (y0 ||| y1) (x3 + 1) M
set_option maxHeartbeats 4000000 in
set_option maxRecDepth 100000 in
theorem wk_X9_count_L64 {p : Program} {l : Launch} {e : Env} {s : State} {m : MethodId} {args : Array Value} {below : List Frame} {meth : Method} {c : Code} {D : zD} {post : Int32 → zM → Prop} {o : Nat} (hG : zGx p l s m args meth c cX9_count 4 "PluralBranchesModel" D (some .int) "count" []) (k42 : Int32 → Int32 → zM → Prop) (hk42 : ∀ {H : Heap} {locs : List Loc} {cells slots : Nat} {ls : Array Slot} (x2 : Int32) (x3 : Int32) (M : zM), cells ≤ 0 → slots ≤ 0 → zS D M H locs → lv_has ls 4 [(0, .ref o), (2, .int x2), (3, .int x3)] → k42 x2 x3 M → W p l e rm_X9_count s m args below meth c H locs cells slots (vx_MQ below (zQ D zI post) (zX D (fun _ _ => False)) args s 0 0 (zA D)) (F0 m 42 ls [])) : ∀ {H : Heap} {locs : List Loc} {cells slots : Nat} {ls : Array Slot} (x3 : Int32) (y0 : Int32) (y1 : Int32) (M : zM), cells ≤ 0 → slots ≤ 0 → zS D M H locs → lv_has ls 4 [(0, .ref o), (3, .int x3)] → wp_X9_count_L64 D post o k42 x3 y0 y1 M → W p l e rm_X9_count s m args below meth c H locs cells slots (vx_MQ below (zQ D zI post) (zX D (fun _ _ => False)) args s 0 0 (zA D)) (F0 m 64 ls [.int y1, .int y0]) := by
  have hC := hG.1
  have hx := hC.x
  have hb := hC.b
  have hown := hC.o
  have hts := hC.ts
  have hlt := hG.2.2.2.2.2
  intro H locs cells slots ls x3 y0 y1 M hk hn hZ hl hw
  refine lv_ior hx hb dX9_count_64 ?_
  refine lv_istore_n (i := 2) (lv' := [(2, .int (y0 ||| y1)), (0, .ref o), (3, .int x3)]) hx hb dX9_count_65 rfl hl (by decide) rfl (fun ls hl1 => ?_)
  replace hl := hl1
  clear hl1
  refine lv_iinc (v := (x3 + 1)) (lv' := [(3, .int (x3 + 1)), (2, .int (y0 ||| y1)), (0, .ref o)]) hx hb dX9_count_66 hl (k := 2) rfl rfl (by decide) rfl (fun ls hl1 => ?_)
  replace hl := hl1
  clear hl1
  refine lv_goto (tgt := 42) hx hb dX9_count_69 (by decide) ?_
  exact hk42 _ _ _ hk hn hZ (lv_sub hl [2, 1, 0] rfl) hw
def wp_X9_count_L42 (D : zD) (post : Int32 → zM → Prop) (o : Nat) : Nat → Int32 → Int32 → zM → Prop
  | 0 => fun _ _ _ => False
  | f + 1 => fun x2 x3 M =>
    (((4 : Int32) ≤ x3 → post x2 M) ∧ (¬ (4 : Int32) ≤ x3 → (zgR M o 8 9 fun g1 => ((zd g1 fun b2 => zaI M b2 0 x3 fun v3 => ((v3 < 0 → wp_X9_count_L64 D post o (wp_X9_count_L42 D post o f) x3 x2 (0 : Int32) M) ∧ (¬ v3 < 0 → wp_X9_count_L64 D post o (wp_X9_count_L42 D post o f) x3 x2 ((1 : Int32) <<< (x3 &&& 31)) M)))))))
set_option maxHeartbeats 4000000 in
set_option maxRecDepth 100000 in
theorem wk_X9_count_L42 {p : Program} {l : Launch} {e : Env} {s : State} {m : MethodId} {args : Array Value} {below : List Frame} {meth : Method} {c : Code} {D : zD} {post : Int32 → zM → Prop} {o : Nat} (hG : zGx p l s m args meth c cX9_count 4 "PluralBranchesModel" D (some .int) "count" []) : ∀ (f : Nat), ∀ {H : Heap} {locs : List Loc} {cells slots : Nat} {ls : Array Slot} (x2 : Int32) (x3 : Int32) (M : zM), cells ≤ 0 → slots ≤ 0 → zS D M H locs → lv_has ls 4 [(0, .ref o), (2, .int x2), (3, .int x3)] → wp_X9_count_L42 D post o f x2 x3 M → W p l e rm_X9_count s m args below meth c H locs cells slots (vx_MQ below (zQ D zI post) (zX D (fun _ _ => False)) args s 0 0 (zA D)) (F0 m 42 ls []) := by
  have hC := hG.1
  have hx := hC.x
  have hb := hC.b
  have hown := hC.o
  have hts := hC.ts
  have hlt := hG.2.2.2.2.2
  intro f
  induction f with
  | zero =>
    intro H locs cells slots ls x2 x3 M hk hn hZ hl hw
    exact absurd hw (fun h => h)
  | succ f ih =>
    intro H locs cells slots ls x2 x3 M hk hn hZ hl hw
    refine lv_iload_n hx hb dX9_count_42 rfl (lv_at hl 2 rfl) ?_
    refine lv_iconst (v := 4) hx hb dX9_count_43 (by decide) ?_
    refine lv_icmp_ge (tgt := 72) hx hb dX9_count_44 (by decide) (fun c10 => ?_) (fun c10 => ?_)
    · replace hw := hw.1 c10
      refine lv_iload_n hx hb dX9_count_72 rfl (lv_at hl 1 rfl) ?_
      exact z_iret hG hZ hk hn hw dX9_count_73
    · replace hw := hw.2 c10
      refine lv_iload_n hx hb dX9_count_47 rfl (lv_at hl 1 rfl) ?_
      refine lv_aload_n hx hb dX9_count_48 rfl (lv_at hl 0 rfl) ?_
      obtain ⟨fs0, g6, hM0, hx0, hw⟩ := hw
      refine z_get hC hZ hM0 zc8 9 (by decide) q1729 (fun _ h9 => h9) hx0 dX9_count_49 ?_
      refine lv_iload_n hx hb dX9_count_52 rfl (lv_at hl 2 rfl) ?_
      obtain ⟨b7, hr0, hw⟩ := hw
      subst hr0
      obtain ⟨n0, f0, hM0, hi0, hw⟩ := hw
      refine z_iald hC hZ hM0 hi0 dX9_count_53 ?_
      generalize f0 _ = v8 at hw ⊢
      refine lv_if_lt (tgt := 63) hx hb dX9_count_54 (by decide) (fun c9 => ?_) (fun c9 => ?_)
      · replace hw := hw.1 c9
        refine lv_iconst (v := 0) hx hb dX9_count_63 (by decide) ?_
        exact wk_X9_count_L64 hG _ (fun {_ _ _ _ _} _z0 _z1 _z2 h1 h2 h3 h4 h5 => ih _z0 _z1 _z2 h1 h2 h3 h4 h5) _ _ _ _ hk hn hZ (lv_sub hl [0, 2] rfl) hw
      · replace hw := hw.2 c9
        refine lv_iconst (v := 1) hx hb dX9_count_57 (by decide) ?_
        refine lv_iload_n hx hb dX9_count_58 rfl (lv_at hl 2 rfl) ?_
        refine lv_ishl hx hb dX9_count_59 ?_
        refine lv_goto (tgt := 64) hx hb dX9_count_60 (by decide) ?_
        exact wk_X9_count_L64 hG _ (fun {_ _ _ _ _} _z0 _z1 _z2 h1 h2 h3 h4 h5 => ih _z0 _z1 _z2 h1 h2 h3 h4 h5) _ _ _ _ hk hn hZ (lv_sub hl [0, 2] rfl) hw
def wp_X9_count_L98 (D : zD) (post : Int32 → zM → Prop) (o : Nat) (k76 : Int32 → Int32 → zM → Prop) (x3 : Int32) (y0 : Int32) (y1 : Int32) (M : zM) : Prop :=
    k76 (y0 ||| y1) (x3 + 1) M
set_option maxHeartbeats 4000000 in
set_option maxRecDepth 100000 in
theorem wk_X9_count_L98 {p : Program} {l : Launch} {e : Env} {s : State} {m : MethodId} {args : Array Value} {below : List Frame} {meth : Method} {c : Code} {D : zD} {post : Int32 → zM → Prop} {o : Nat} (hG : zGx p l s m args meth c cX9_count 4 "PluralBranchesModel" D (some .int) "count" []) (k76 : Int32 → Int32 → zM → Prop) (hk76 : ∀ {H : Heap} {locs : List Loc} {cells slots : Nat} {ls : Array Slot} (x2 : Int32) (x3 : Int32) (M : zM), cells ≤ 0 → slots ≤ 0 → zS D M H locs → lv_has ls 4 [(0, .ref o), (2, .int x2), (3, .int x3)] → k76 x2 x3 M → W p l e rm_X9_count s m args below meth c H locs cells slots (vx_MQ below (zQ D zI post) (zX D (fun _ _ => False)) args s 0 0 (zA D)) (F0 m 76 ls [])) : ∀ {H : Heap} {locs : List Loc} {cells slots : Nat} {ls : Array Slot} (x3 : Int32) (y0 : Int32) (y1 : Int32) (M : zM), cells ≤ 0 → slots ≤ 0 → zS D M H locs → lv_has ls 4 [(0, .ref o), (3, .int x3)] → wp_X9_count_L98 D post o k76 x3 y0 y1 M → W p l e rm_X9_count s m args below meth c H locs cells slots (vx_MQ below (zQ D zI post) (zX D (fun _ _ => False)) args s 0 0 (zA D)) (F0 m 98 ls [.int y1, .int y0]) := by
  have hC := hG.1
  have hx := hC.x
  have hb := hC.b
  have hown := hC.o
  have hts := hC.ts
  have hlt := hG.2.2.2.2.2
  intro H locs cells slots ls x3 y0 y1 M hk hn hZ hl hw
  refine lv_ior hx hb dX9_count_98 ?_
  refine lv_istore_n (i := 2) (lv' := [(2, .int (y0 ||| y1)), (0, .ref o), (3, .int x3)]) hx hb dX9_count_99 rfl hl (by decide) rfl (fun ls hl1 => ?_)
  replace hl := hl1
  clear hl1
  refine lv_iinc (v := (x3 + 1)) (lv' := [(3, .int (x3 + 1)), (2, .int (y0 ||| y1)), (0, .ref o)]) hx hb dX9_count_100 hl (k := 2) rfl rfl (by decide) rfl (fun ls hl1 => ?_)
  replace hl := hl1
  clear hl1
  refine lv_goto (tgt := 76) hx hb dX9_count_103 (by decide) ?_
  exact hk76 _ _ _ hk hn hZ (lv_sub hl [2, 1, 0] rfl) hw
def wp_X9_count_L76 (D : zD) (post : Int32 → zM → Prop) (o : Nat) : Nat → Int32 → Int32 → zM → Prop
  | 0 => fun _ _ _ => False
  | f + 1 => fun x2 x3 M =>
    (((5 : Int32) ≤ x3 → post x2 M) ∧ (¬ (5 : Int32) ≤ x3 → (zgR M o 8 41 fun g11 => ((zd g11 fun b12 => zaI M b12 0 x3 fun v13 => ((v13 = 0 → wp_X9_count_L98 D post o (wp_X9_count_L76 D post o f) x3 x2 (0 : Int32) M) ∧ (¬ v13 = 0 → wp_X9_count_L98 D post o (wp_X9_count_L76 D post o f) x3 x2 ((1 : Int32) <<< (x3 &&& 31)) M)))))))
set_option maxHeartbeats 4000000 in
set_option maxRecDepth 100000 in
theorem wk_X9_count_L76 {p : Program} {l : Launch} {e : Env} {s : State} {m : MethodId} {args : Array Value} {below : List Frame} {meth : Method} {c : Code} {D : zD} {post : Int32 → zM → Prop} {o : Nat} (hG : zGx p l s m args meth c cX9_count 4 "PluralBranchesModel" D (some .int) "count" []) : ∀ (f : Nat), ∀ {H : Heap} {locs : List Loc} {cells slots : Nat} {ls : Array Slot} (x2 : Int32) (x3 : Int32) (M : zM), cells ≤ 0 → slots ≤ 0 → zS D M H locs → lv_has ls 4 [(0, .ref o), (2, .int x2), (3, .int x3)] → wp_X9_count_L76 D post o f x2 x3 M → W p l e rm_X9_count s m args below meth c H locs cells slots (vx_MQ below (zQ D zI post) (zX D (fun _ _ => False)) args s 0 0 (zA D)) (F0 m 76 ls []) := by
  have hC := hG.1
  have hx := hC.x
  have hb := hC.b
  have hown := hC.o
  have hts := hC.ts
  have hlt := hG.2.2.2.2.2
  intro f
  induction f with
  | zero =>
    intro H locs cells slots ls x2 x3 M hk hn hZ hl hw
    exact absurd hw (fun h => h)
  | succ f ih =>
    intro H locs cells slots ls x2 x3 M hk hn hZ hl hw
    refine lv_iload_n hx hb dX9_count_76 rfl (lv_at hl 2 rfl) ?_
    refine lv_iconst (v := 5) hx hb dX9_count_77 (by decide) ?_
    refine lv_icmp_ge (tgt := 106) hx hb dX9_count_78 (by decide) (fun c20 => ?_) (fun c20 => ?_)
    · replace hw := hw.1 c20
      refine lv_iload_n hx hb dX9_count_106 rfl (lv_at hl 1 rfl) ?_
      exact z_iret hG hZ hk hn hw dX9_count_107
    · replace hw := hw.2 c20
      refine lv_iload_n hx hb dX9_count_81 rfl (lv_at hl 1 rfl) ?_
      refine lv_aload_n hx hb dX9_count_82 rfl (lv_at hl 0 rfl) ?_
      obtain ⟨fs0, g16, hM0, hx0, hw⟩ := hw
      refine z_get hC hZ hM0 zc8 41 (by decide) q1761 (fun _ h9 => h9) hx0 dX9_count_83 ?_
      refine lv_iload_n hx hb dX9_count_86 rfl (lv_at hl 2 rfl) ?_
      obtain ⟨b17, hr0, hw⟩ := hw
      subst hr0
      obtain ⟨n0, f0, hM0, hi0, hw⟩ := hw
      refine z_iald hC hZ hM0 hi0 dX9_count_87 ?_
      generalize f0 _ = v18 at hw ⊢
      refine lv_if_eq (tgt := 97) hx hb dX9_count_88 (by decide) (fun c19 => ?_) (fun c19 => ?_)
      · replace hw := hw.1 c19
        refine lv_iconst (v := 0) hx hb dX9_count_97 (by decide) ?_
        exact wk_X9_count_L98 hG _ (fun {_ _ _ _ _} _z0 _z1 _z2 h1 h2 h3 h4 h5 => ih _z0 _z1 _z2 h1 h2 h3 h4 h5) _ _ _ _ hk hn hZ (lv_sub hl [0, 2] rfl) hw
      · replace hw := hw.2 c19
        refine lv_iconst (v := 1) hx hb dX9_count_91 (by decide) ?_
        refine lv_iload_n hx hb dX9_count_92 rfl (lv_at hl 2 rfl) ?_
        refine lv_ishl hx hb dX9_count_93 ?_
        refine lv_goto (tgt := 98) hx hb dX9_count_94 (by decide) ?_
        exact wk_X9_count_L98 hG _ (fun {_ _ _ _ _} _z0 _z1 _z2 h1 h2 h3 h4 h5 => ih _z0 _z1 _z2 h1 h2 h3 h4 h5) _ _ _ _ hk hn hZ (lv_sub hl [0, 2] rfl) hw
def wp_X9_count_L145 (D : zD) (post : Int32 → zM → Prop) (o : Nat) (k125 : Int32 → Int32 → zM → Prop) (x3 : Int32) (y0 : Int32) (y1 : Int32) (M : zM) : Prop :=
    k125 (y0 + y1) (x3 + 1) M
set_option maxHeartbeats 4000000 in
set_option maxRecDepth 100000 in
theorem wk_X9_count_L145 {p : Program} {l : Launch} {e : Env} {s : State} {m : MethodId} {args : Array Value} {below : List Frame} {meth : Method} {c : Code} {D : zD} {post : Int32 → zM → Prop} {o : Nat} (hG : zGx p l s m args meth c cX9_count 4 "PluralBranchesModel" D (some .int) "count" []) (k125 : Int32 → Int32 → zM → Prop) (hk125 : ∀ {H : Heap} {locs : List Loc} {cells slots : Nat} {ls : Array Slot} (x2 : Int32) (x3 : Int32) (M : zM), cells ≤ 0 → slots ≤ 0 → zS D M H locs → lv_has ls 4 [(0, .ref o), (2, .int x2), (3, .int x3)] → k125 x2 x3 M → W p l e rm_X9_count s m args below meth c H locs cells slots (vx_MQ below (zQ D zI post) (zX D (fun _ _ => False)) args s 0 0 (zA D)) (F0 m 125 ls [])) : ∀ {H : Heap} {locs : List Loc} {cells slots : Nat} {ls : Array Slot} (x3 : Int32) (y0 : Int32) (y1 : Int32) (M : zM), cells ≤ 0 → slots ≤ 0 → zS D M H locs → lv_has ls 4 [(0, .ref o), (3, .int x3)] → wp_X9_count_L145 D post o k125 x3 y0 y1 M → W p l e rm_X9_count s m args below meth c H locs cells slots (vx_MQ below (zQ D zI post) (zX D (fun _ _ => False)) args s 0 0 (zA D)) (F0 m 145 ls [.int y1, .int y0]) := by
  have hC := hG.1
  have hx := hC.x
  have hb := hC.b
  have hown := hC.o
  have hts := hC.ts
  have hlt := hG.2.2.2.2.2
  intro H locs cells slots ls x3 y0 y1 M hk hn hZ hl hw
  refine lv_iadd hx hb dX9_count_145 ?_
  refine lv_istore_n (i := 2) (lv' := [(2, .int (y0 + y1)), (0, .ref o), (3, .int x3)]) hx hb dX9_count_146 rfl hl (by decide) rfl (fun ls hl1 => ?_)
  replace hl := hl1
  clear hl1
  refine lv_iinc (v := (x3 + 1)) (lv' := [(3, .int (x3 + 1)), (2, .int (y0 + y1)), (0, .ref o)]) hx hb dX9_count_147 hl (k := 2) rfl rfl (by decide) rfl (fun ls hl1 => ?_)
  replace hl := hl1
  clear hl1
  refine lv_goto (tgt := 125) hx hb dX9_count_150 (by decide) ?_
  exact hk125 _ _ _ hk hn hZ (lv_sub hl [2, 1, 0] rfl) hw
def wp_X9_count_L125 (D : zD) (post : Int32 → zM → Prop) (o : Nat) : Nat → Int32 → Int32 → zM → Prop
  | 0 => fun _ _ _ => False
  | f + 1 => fun x2 x3 M =>
    (((3 : Int32) ≤ x3 → post x2 M) ∧ (¬ (3 : Int32) ≤ x3 → (zgR M o 8 51 fun g21 => ((zd g21 fun b22 => zaI M b22 0 x3 fun v23 => ((v23 < 0 → wp_X9_count_L145 D post o (wp_X9_count_L125 D post o f) x3 x2 (0 : Int32) M) ∧ (¬ v23 < 0 → wp_X9_count_L145 D post o (wp_X9_count_L125 D post o f) x3 x2 (1 : Int32) M)))))))
set_option maxHeartbeats 4000000 in
set_option maxRecDepth 100000 in
theorem wk_X9_count_L125 {p : Program} {l : Launch} {e : Env} {s : State} {m : MethodId} {args : Array Value} {below : List Frame} {meth : Method} {c : Code} {D : zD} {post : Int32 → zM → Prop} {o : Nat} (hG : zGx p l s m args meth c cX9_count 4 "PluralBranchesModel" D (some .int) "count" []) : ∀ (f : Nat), ∀ {H : Heap} {locs : List Loc} {cells slots : Nat} {ls : Array Slot} (x2 : Int32) (x3 : Int32) (M : zM), cells ≤ 0 → slots ≤ 0 → zS D M H locs → lv_has ls 4 [(0, .ref o), (2, .int x2), (3, .int x3)] → wp_X9_count_L125 D post o f x2 x3 M → W p l e rm_X9_count s m args below meth c H locs cells slots (vx_MQ below (zQ D zI post) (zX D (fun _ _ => False)) args s 0 0 (zA D)) (F0 m 125 ls []) := by
  have hC := hG.1
  have hx := hC.x
  have hb := hC.b
  have hown := hC.o
  have hts := hC.ts
  have hlt := hG.2.2.2.2.2
  intro f
  induction f with
  | zero =>
    intro H locs cells slots ls x2 x3 M hk hn hZ hl hw
    exact absurd hw (fun h => h)
  | succ f ih =>
    intro H locs cells slots ls x2 x3 M hk hn hZ hl hw
    refine lv_iload_n hx hb dX9_count_125 rfl (lv_at hl 2 rfl) ?_
    refine lv_iconst (v := 3) hx hb dX9_count_126 (by decide) ?_
    refine lv_icmp_ge (tgt := 153) hx hb dX9_count_127 (by decide) (fun c30 => ?_) (fun c30 => ?_)
    · replace hw := hw.1 c30
      refine lv_iload_n hx hb dX9_count_153 rfl (lv_at hl 1 rfl) ?_
      exact z_iret hG hZ hk hn hw dX9_count_154
    · replace hw := hw.2 c30
      refine lv_iload_n hx hb dX9_count_130 rfl (lv_at hl 1 rfl) ?_
      refine lv_aload_n hx hb dX9_count_131 rfl (lv_at hl 0 rfl) ?_
      obtain ⟨fs0, g26, hM0, hx0, hw⟩ := hw
      refine z_get hC hZ hM0 zc8 51 (by decide) q1771 (fun _ h9 => h9) hx0 dX9_count_132 ?_
      refine lv_iload_n hx hb dX9_count_135 rfl (lv_at hl 2 rfl) ?_
      obtain ⟨b27, hr0, hw⟩ := hw
      subst hr0
      obtain ⟨n0, f0, hM0, hi0, hw⟩ := hw
      refine z_iald hC hZ hM0 hi0 dX9_count_136 ?_
      generalize f0 _ = v28 at hw ⊢
      refine lv_if_lt (tgt := 144) hx hb dX9_count_137 (by decide) (fun c29 => ?_) (fun c29 => ?_)
      · replace hw := hw.1 c29
        refine lv_iconst (v := 0) hx hb dX9_count_144 (by decide) ?_
        exact wk_X9_count_L145 hG _ (fun {_ _ _ _ _} _z0 _z1 _z2 h1 h2 h3 h4 h5 => ih _z0 _z1 _z2 h1 h2 h3 h4 h5) _ _ _ _ hk hn hZ (lv_sub hl [0, 2] rfl) hw
      · replace hw := hw.2 c29
        refine lv_iconst (v := 1) hx hb dX9_count_140 (by decide) ?_
        refine lv_goto (tgt := 145) hx hb dX9_count_141 (by decide) ?_
        exact wk_X9_count_L145 hG _ (fun {_ _ _ _ _} _z0 _z1 _z2 h1 h2 h3 h4 h5 => ih _z0 _z1 _z2 h1 h2 h3 h4 h5) _ _ _ _ hk hn hZ (lv_sub hl [0, 2] rfl) hw
def wp_X9_count (D : zD) (post : Int32 → zM → Prop) (o : Nat) (a0 : Int32) (M : zM) : Prop :=
    ((a0 = 0 → (∃ f, wp_X9_count_L42 D post o f (0 : Int32) (0 : Int32) M)) ∧ (a0 = 1 → (∃ f, wp_X9_count_L76 D post o f (0 : Int32) (0 : Int32) M)) ∧ (a0 = 2 → (zgI M o 8 8 fun g31 => post g31 M)) ∧ (a0 = 3 → (zgI M o 8 0 fun g32 => post g32 M)) ∧ (a0 = 4 → (zgI M o 8 46 fun g33 => post g33 M)) ∧ (a0 = 5 → (∃ f, wp_X9_count_L125 D post o f (0 : Int32) (0 : Int32) M)) ∧ (¬ a0 = 0 ∧ ¬ a0 = 1 ∧ ¬ a0 = 2 ∧ ¬ a0 = 3 ∧ ¬ a0 = 4 ∧ ¬ a0 = 5 → post (-1 : Int32) M))
set_option maxHeartbeats 4000000 in
set_option maxRecDepth 100000 in
theorem w_X9_count {l : Launch} {D : zD} {post : Int32 → zM → Prop} (hlt : l.stackTraces = false) {o : Nat} {a0 : Int32} {M : zM} (hw : wp_X9_count D post o a0 M) : zMet l D yX9_count (ws_ yX9_count cX9_count 4 (some .int)) rm_X9_count 0 0 [.ref o, .int a0] M zI post (fun _ _ => False) := by
  unfold wp_X9_count at hw
  have hlv : lv_args 0 [.ref o, .int a0] = [(0, .ref o), (1, .int a0)] := (zargs1 rfl (zargs1 rfl rfl))
  refine z_ofW hlt (by decide) (Nat.le_trans (zsl1 rfl (zsl1 rfl (Nat.le_refl 0 : (lg_sl []).length ≤ 0))) (Nat.le_of_ble_eq_true rfl)) hlv ?_
  intro p e s m args below meth c ls hG hZ hl
  have hC := hG.1
  have hx := hC.x
  have hb := hC.b
  have hown := hC.o
  have hts := hC.ts
  have hlt := hG.2.2.2.2.2
  obtain ⟨cells, hce⟩ : ∃ z : Nat, z = 0 := ⟨0, rfl⟩
  obtain ⟨slots, hsl⟩ : ∃ z : Nat, z = 0 := ⟨0, rfl⟩
  refine W.cs (cells' := cells) (slots' := slots) hce.symm hsl.symm ?_
  have hk : cells ≤ 0 := Nat.le_of_eq hce
  have hn : slots ≤ 0 := Nat.le_of_eq hsl
  clear hce hsl
  refine lv_iconst (v := 0) hx hb dX9_count_0 (by decide) ?_
  refine lv_istore_n (i := 2) (lv' := [(2, .int (0 : Int32)), (0, .ref o), (1, .int a0)]) hx hb dX9_count_1 rfl hl (by decide) rfl (fun ls hl1 => ?_)
  replace hl := hl1
  clear hl1
  refine lv_iload_n hx hb dX9_count_2 rfl (lv_at hl 2 rfl) ?_
  by_cases e43 : a0 = 0
  · replace hw := hw.1 e43
    refine lv_tableIn (tgt := 40) (off := 37) hx hb dX9_count_3 (by rw [e43]; decide) (by rw [e43]; decide) (by rw [e43]; decide) (by decide) ?_
    refine lv_iconst (v := 0) hx hb dX9_count_40 (by decide) ?_
    refine lv_istore_n (i := 3) (lv' := [(3, .int (0 : Int32)), (2, .int (0 : Int32)), (0, .ref o), (1, .int a0)]) hx hb dX9_count_41 rfl hl (by decide) rfl (fun ls hl1 => ?_)
    replace hl := hl1
    clear hl1
    obtain ⟨f1, hw⟩ := hw
    exact wk_X9_count_L42 hG f1 _ _ _ hk hn hZ (lv_sub hl [2, 1, 0] rfl) hw
  by_cases e44 : a0 = 1
  · replace hw := hw.2.1 e44
    refine lv_tableIn (tgt := 74) (off := 71) hx hb dX9_count_3 (by rw [e44]; decide) (by rw [e44]; decide) (by rw [e44]; decide) (by decide) ?_
    refine lv_iconst (v := 0) hx hb dX9_count_74 (by decide) ?_
    refine lv_istore_n (i := 3) (lv' := [(3, .int (0 : Int32)), (2, .int (0 : Int32)), (0, .ref o), (1, .int a0)]) hx hb dX9_count_75 rfl hl (by decide) rfl (fun ls hl1 => ?_)
    replace hl := hl1
    clear hl1
    obtain ⟨f1, hw⟩ := hw
    exact wk_X9_count_L76 hG f1 _ _ _ hk hn hZ (lv_sub hl [2, 1, 0] rfl) hw
  by_cases e45 : a0 = 2
  · replace hw := hw.2.2.1 e45
    refine lv_tableIn (tgt := 108) (off := 105) hx hb dX9_count_3 (by rw [e45]; decide) (by rw [e45]; decide) (by rw [e45]; decide) (by decide) ?_
    refine lv_aload_n hx hb dX9_count_108 rfl (lv_at hl 1 rfl) ?_
    obtain ⟨fs0, g40, hM0, hx0, hw⟩ := hw
    refine z_get hC hZ hM0 zc8 8 (by decide) q1728 (fun _ h9 => h9) hx0 dX9_count_109 ?_
    exact z_iret hG hZ hk hn hw dX9_count_112
  by_cases e46 : a0 = 3
  · replace hw := hw.2.2.2.1 e46
    refine lv_tableIn (tgt := 113) (off := 110) hx hb dX9_count_3 (by rw [e46]; decide) (by rw [e46]; decide) (by rw [e46]; decide) (by decide) ?_
    refine lv_aload_n hx hb dX9_count_113 rfl (lv_at hl 1 rfl) ?_
    obtain ⟨fs0, g41, hM0, hx0, hw⟩ := hw
    refine z_get hC hZ hM0 zc8 0 (by decide) q1720 (fun _ h9 => h9) hx0 dX9_count_114 ?_
    exact z_iret hG hZ hk hn hw dX9_count_117
  by_cases e47 : a0 = 4
  · replace hw := hw.2.2.2.2.1 e47
    refine lv_tableIn (tgt := 118) (off := 115) hx hb dX9_count_3 (by rw [e47]; decide) (by rw [e47]; decide) (by rw [e47]; decide) (by decide) ?_
    refine lv_aload_n hx hb dX9_count_118 rfl (lv_at hl 1 rfl) ?_
    obtain ⟨fs0, g42, hM0, hx0, hw⟩ := hw
    refine z_get hC hZ hM0 zc8 46 (by decide) q1766 (fun _ h9 => h9) hx0 dX9_count_119 ?_
    exact z_iret hG hZ hk hn hw dX9_count_122
  by_cases e48 : a0 = 5
  · replace hw := hw.2.2.2.2.2.1 e48
    refine lv_tableIn (tgt := 123) (off := 120) hx hb dX9_count_3 (by rw [e48]; decide) (by rw [e48]; decide) (by rw [e48]; decide) (by decide) ?_
    refine lv_iconst (v := 0) hx hb dX9_count_123 (by decide) ?_
    refine lv_istore_n (i := 3) (lv' := [(3, .int (0 : Int32)), (2, .int (0 : Int32)), (0, .ref o), (1, .int a0)]) hx hb dX9_count_124 rfl hl (by decide) rfl (fun ls hl1 => ?_)
    replace hl := hl1
    clear hl1
    obtain ⟨f1, hw⟩ := hw
    exact wk_X9_count_L125 hG f1 _ _ _ hk hn hZ (lv_sub hl [2, 1, 0] rfl) hw
  replace hw := hw.2.2.2.2.2.2 ⟨e43, e44, e45, e46, e47, e48⟩
  refine z_tableK (tgt := 155) (S := [0, 1, 2, 3, 4, 5]) hx hb dX9_count_3 (by decide) (by decide) (by decide) (zal (lv_neT e43 (by decide)) (zal (lv_neT e44 (by decide)) (zal (lv_neT e45 (by decide)) (zal (lv_neT e46 (by decide)) (zal (lv_neT e47 (by decide)) (zal (lv_neT e48 (by decide)) (za0))))))) ?_
  refine lv_iconst (v := (-1)) hx hb dX9_count_155 (by decide) ?_
  exact z_iret hG hZ hk hn hw dX9_count_156
abbrev rm_X9_isRow : Room := { frames := 2, cells := 0, slots := 0, locals := 89 }
def wp_X9_isRow (D : zD) (post : Int32 → zM → Prop) (a0 : Int32) (M : zM) : Prop :=
    (wp_X9_in D (fun r1 M => (narrow .boolean (.int r1) = .int r1 ∧ post r1 M)) (a0.toInt64) (0 : Int64) (2 : Int64) M)
set_option maxHeartbeats 4000000 in
set_option maxRecDepth 100000 in
theorem w_X9_isRow {l : Launch} {D : zD} {post : Int32 → zM → Prop} (hlt : l.stackTraces = false) {a0 : Int32} {M : zM} (hw : wp_X9_isRow D post a0 M) : zMet l D yX9_isRow (ws_ yX9_isRow cX9_isRow 1 (some .boolean)) rm_X9_isRow 0 0 [.int a0] M zI post (fun _ _ => False) := by
  unfold wp_X9_isRow at hw
  have hlv : lv_args 0 [.int a0] = [(0, .int a0)] := (zargs1 rfl rfl)
  refine z_ofW hlt (by decide) (Nat.le_trans (zsl1 rfl (Nat.le_refl 0 : (lg_sl []).length ≤ 0)) (Nat.le_of_ble_eq_true rfl)) hlv ?_
  intro p e s m args below meth c ls hG hZ hl
  have hC := hG.1
  have hx := hC.x
  have hb := hC.b
  have hown := hC.o
  have hts := hC.ts
  have hlt := hG.2.2.2.2.2
  obtain ⟨cells, hce⟩ : ∃ z : Nat, z = 0 := ⟨0, rfl⟩
  obtain ⟨slots, hsl⟩ : ∃ z : Nat, z = 0 := ⟨0, rfl⟩
  refine W.cs (cells' := cells) (slots' := slots) hce.symm hsl.symm ?_
  have hk : cells ≤ 0 := Nat.le_of_eq hce
  have hn : slots ≤ 0 := Nat.le_of_eq hsl
  clear hce hsl
  refine lv_iload_n hx hb dX9_isRow_0 rfl (lv_at hl 0 rfl) ?_
  refine lv_i2l hx hb dX9_isRow_1 rfl ?_
  refine lv_lconst (v := 0) hx hb dX9_isRow_2 (by decide) ?_
  refine lv_ldc2 hx hb hown (hts _ q1931) dX9_isRow_3 ?_
  refine z_callI hZ (vx_runS (As := [.long (a0.toInt64), .long (0 : Int64), .long (2 : Int64)]) (rest := []) hC.fix (w_X9_in hlt hw) (va_cwS 3 hts (lw_S q1894 q1895 q83 q1896) rfl rfl rfl dd_X9_in ⟨Nat.le_of_ble_eq_true rfl, Nat.le_of_ble_eq_true rfl⟩) (z_preS hC hZ) rfl rfl hl.1 rfl (lv_room (Nat.zero_le _)) dX9_isRow_6 ⟨hk, hn⟩) (fun r4 M H locs hw1 hZ => ?_) (fun q M H locs ci fs E T9 N9 hw hZ hc1 hM1 hb1 => False.elim hw)
  replace hw := hw1
  clear hw1
  refine W.cs (cells' := cells) (slots' := slots) rfl rfl ?_
  exact z_zret hG hZ hk hn hw.1 hw.2 dX9_isRow_9
abbrev rm_X9_isThere : Room := { frames := 2, cells := 0, slots := 0, locals := 89 }
def wp_X9_isThere (D : zD) (post : Int32 → zM → Prop) (o : Nat) (a0 : Int32) (a1 : Int32) (M : zM) : Prop :=
    (zgR M o 8 51 fun g1 => ((zd g1 fun b2 => zaI M b2 0 a0 fun v3 => (wp_X9_in D (fun r4 M => (narrow .boolean (.int r4) = .int r4 ∧ post r4 M)) (a1.toInt64) (0 : Int64) ((v3 - (1 : Int32)).toInt64) M))))
set_option maxHeartbeats 4000000 in
set_option maxRecDepth 100000 in
theorem w_X9_isThere {l : Launch} {D : zD} {post : Int32 → zM → Prop} (hlt : l.stackTraces = false) {o : Nat} {a0 : Int32} {a1 : Int32} {M : zM} (hw : wp_X9_isThere D post o a0 a1 M) : zMet l D yX9_isThere (ws_ yX9_isThere cX9_isThere 3 (some .boolean)) rm_X9_isThere 0 0 [.ref o, .int a0, .int a1] M zI post (fun _ _ => False) := by
  unfold wp_X9_isThere at hw
  have hlv : lv_args 0 [.ref o, .int a0, .int a1] = [(0, .ref o), (1, .int a0), (2, .int a1)] := (zargs1 rfl (zargs1 rfl (zargs1 rfl rfl)))
  refine z_ofW hlt (by decide) (Nat.le_trans (zsl1 rfl (zsl1 rfl (zsl1 rfl (Nat.le_refl 0 : (lg_sl []).length ≤ 0)))) (Nat.le_of_ble_eq_true rfl)) hlv ?_
  intro p e s m args below meth c ls hG hZ hl
  have hC := hG.1
  have hx := hC.x
  have hb := hC.b
  have hown := hC.o
  have hts := hC.ts
  have hlt := hG.2.2.2.2.2
  obtain ⟨cells, hce⟩ : ∃ z : Nat, z = 0 := ⟨0, rfl⟩
  obtain ⟨slots, hsl⟩ : ∃ z : Nat, z = 0 := ⟨0, rfl⟩
  refine W.cs (cells' := cells) (slots' := slots) hce.symm hsl.symm ?_
  have hk : cells ≤ 0 := Nat.le_of_eq hce
  have hn : slots ≤ 0 := Nat.le_of_eq hsl
  clear hce hsl
  refine lv_iload_n hx hb dX9_isThere_0 rfl (lv_at hl 2 rfl) ?_
  refine lv_i2l hx hb dX9_isThere_1 rfl ?_
  refine lv_lconst (v := 0) hx hb dX9_isThere_2 (by decide) ?_
  refine lv_aload_n hx hb dX9_isThere_3 rfl (lv_at hl 0 rfl) ?_
  obtain ⟨fs0, g7, hM0, hx0, hw⟩ := hw
  refine z_get hC hZ hM0 zc8 51 (by decide) q1771 (fun _ h9 => h9) hx0 dX9_isThere_4 ?_
  refine lv_iload_n hx hb dX9_isThere_7 rfl (lv_at hl 1 rfl) ?_
  obtain ⟨b8, hr0, hw⟩ := hw
  subst hr0
  obtain ⟨n0, f0, hM0, hi0, hw⟩ := hw
  refine z_iald hC hZ hM0 hi0 dX9_isThere_8 ?_
  generalize f0 _ = v9 at hw ⊢
  refine lv_iconst (v := 1) hx hb dX9_isThere_9 (by decide) ?_
  refine lv_isub hx hb dX9_isThere_10 ?_
  refine lv_i2l hx hb dX9_isThere_11 rfl ?_
  refine z_callI hZ (vx_runS (As := [.long (a1.toInt64), .long (0 : Int64), .long ((v9 - (1 : Int32)).toInt64)]) (rest := []) hC.fix (w_X9_in hlt hw) (va_cwS 3 hts (lw_S q1894 q1895 q83 q1896) rfl rfl rfl dd_X9_in ⟨Nat.le_of_ble_eq_true rfl, Nat.le_of_ble_eq_true rfl⟩) (z_preS hC hZ) rfl rfl hl.1 rfl (lv_room (Nat.zero_le _)) dX9_isThere_12 ⟨hk, hn⟩) (fun r10 M H locs hw1 hZ => ?_) (fun q M H locs ci fs E T9 N9 hw hZ hc1 hM1 hb1 => False.elim hw)
  replace hw := hw1
  clear hw1
  refine W.cs (cells' := cells) (slots' := slots) rfl rfl ?_
  exact z_zret hG hZ hk hn hw.1 hw.2 dX9_isThere_15
abbrev rm_X9_cut : Room := { frames := 3, cells := 0, slots := 0, locals := 111 }
def wp_X9_cut_L26 (D : zD) (post : Int64 → zM → Prop) (o : Nat) (M : zM) : Prop :=
    post (-9223372036854775808 : Int64) M
set_option maxHeartbeats 4000000 in
set_option maxRecDepth 100000 in
theorem wk_X9_cut_L26 {p : Program} {l : Launch} {e : Env} {s : State} {m : MethodId} {args : Array Value} {below : List Frame} {meth : Method} {c : Code} {D : zD} {post : Int64 → zM → Prop} {o : Nat} (hG : zGx p l s m args meth c cX9_cut 5 "PluralBranchesModel" D (some .long) "cut" []) : ∀ {H : Heap} {locs : List Loc} {cells slots : Nat} {ls : Array Slot} (M : zM), cells ≤ 0 → slots ≤ 0 → zS D M H locs → lv_has ls 5 [] → wp_X9_cut_L26 D post o M → W p l e rm_X9_cut s m args below meth c H locs cells slots (vx_MQ below (zQ D zL post) (zX D (fun _ _ => False)) args s 0 0 (zA D)) (F0 m 26 ls []) := by
  have hC := hG.1
  have hx := hC.x
  have hb := hC.b
  have hown := hC.o
  have hts := hC.ts
  have hlt := hG.2.2.2.2.2
  intro H locs cells slots ls M hk hn hZ hl hw
  refine lv_ldc2 hx hb hown (hts _ q1905) dX9_cut_26 ?_
  exact z_lret hG hZ hk hn hw dX9_cut_29
def wp_X9_cut_L145 (D : zD) (post : Int64 → zM → Prop) (o : Nat) (y0 : Int64) (M : zM) : Prop :=
    post y0 M
set_option maxHeartbeats 4000000 in
set_option maxRecDepth 100000 in
theorem wk_X9_cut_L145 {p : Program} {l : Launch} {e : Env} {s : State} {m : MethodId} {args : Array Value} {below : List Frame} {meth : Method} {c : Code} {D : zD} {post : Int64 → zM → Prop} {o : Nat} (hG : zGx p l s m args meth c cX9_cut 5 "PluralBranchesModel" D (some .long) "cut" []) : ∀ {H : Heap} {locs : List Loc} {cells slots : Nat} {ls : Array Slot} (y0 : Int64) (M : zM), cells ≤ 0 → slots ≤ 0 → zS D M H locs → lv_has ls 5 [] → wp_X9_cut_L145 D post o y0 M → W p l e rm_X9_cut s m args below meth c H locs cells slots (vx_MQ below (zQ D zL post) (zX D (fun _ _ => False)) args s 0 0 (zA D)) (F0 m 145 ls [.long y0]) := by
  have hC := hG.1
  have hx := hC.x
  have hb := hC.b
  have hown := hC.o
  have hts := hC.ts
  have hlt := hG.2.2.2.2.2
  intro H locs cells slots ls y0 M hk hn hZ hl hw
  exact z_lret hG hZ hk hn hw dX9_cut_145
def wp_X9_cut_L96 (D : zD) (post : Int64 → zM → Prop) (o : Nat) (y0 : Int64) (M : zM) : Prop :=
    post y0 M
set_option maxHeartbeats 4000000 in
set_option maxRecDepth 100000 in
theorem wk_X9_cut_L96 {p : Program} {l : Launch} {e : Env} {s : State} {m : MethodId} {args : Array Value} {below : List Frame} {meth : Method} {c : Code} {D : zD} {post : Int64 → zM → Prop} {o : Nat} (hG : zGx p l s m args meth c cX9_cut 5 "PluralBranchesModel" D (some .long) "cut" []) : ∀ {H : Heap} {locs : List Loc} {cells slots : Nat} {ls : Array Slot} (y0 : Int64) (M : zM), cells ≤ 0 → slots ≤ 0 → zS D M H locs → lv_has ls 5 [] → wp_X9_cut_L96 D post o y0 M → W p l e rm_X9_cut s m args below meth c H locs cells slots (vx_MQ below (zQ D zL post) (zX D (fun _ _ => False)) args s 0 0 (zA D)) (F0 m 96 ls [.long y0]) := by
  have hC := hG.1
  have hx := hC.x
  have hb := hC.b
  have hown := hC.o
  have hts := hC.ts
  have hlt := hG.2.2.2.2.2
  intro H locs cells slots ls y0 M hk hn hZ hl hw
  exact z_lret hG hZ hk hn hw dX9_cut_96
def wp_X9_cut_L121 (D : zD) (post : Int64 → zM → Prop) (o : Nat) (y0 : Int64) (M : zM) : Prop :=
    post y0 M
set_option maxHeartbeats 4000000 in
set_option maxRecDepth 100000 in
theorem wk_X9_cut_L121 {p : Program} {l : Launch} {e : Env} {s : State} {m : MethodId} {args : Array Value} {below : List Frame} {meth : Method} {c : Code} {D : zD} {post : Int64 → zM → Prop} {o : Nat} (hG : zGx p l s m args meth c cX9_cut 5 "PluralBranchesModel" D (some .long) "cut" []) : ∀ {H : Heap} {locs : List Loc} {cells slots : Nat} {ls : Array Slot} (y0 : Int64) (M : zM), cells ≤ 0 → slots ≤ 0 → zS D M H locs → lv_has ls 5 [] → wp_X9_cut_L121 D post o y0 M → W p l e rm_X9_cut s m args below meth c H locs cells slots (vx_MQ below (zQ D zL post) (zX D (fun _ _ => False)) args s 0 0 (zA D)) (F0 m 121 ls [.long y0]) := by
  have hC := hG.1
  have hx := hC.x
  have hb := hC.b
  have hown := hC.o
  have hts := hC.ts
  have hlt := hG.2.2.2.2.2
  intro H locs cells slots ls y0 M hk hn hZ hl hw
  exact z_lret hG hZ hk hn hw dX9_cut_121
def wp_X9_cut (D : zD) (post : Int64 → zM → Prop) (o : Nat) (a0 : Int32) (a1 : Int32) (a2 : Int32) (M : zM) : Prop :=
    (wp_X9_isRow D (fun r1 M => ((r1 = 0 → wp_X9_cut_L26 D post o M) ∧ (¬ r1 = 0 → (wp_X9_in D (fun r4 M => ((r4 = 0 → wp_X9_cut_L26 D post o M) ∧ (¬ r4 = 0 → ((zis M o [8] ∧ wp_X9_isThere D (fun r7 M => ((¬ r7 = 0 → (zgR M o 8 52 fun g10 => ((zd g10 fun b11 => zaI M b11 0 a0 fun v12 => ((v12 = 0 → ((¬ a2 = 0 → (zgR M o 8 53 fun g13 => ((zd g13 fun b14 => zaF M b14 (((30 : Int32) * a0) + a1) fun v15 => wp_X9_cut_L96 D post o (FP.f2l v15) M)))) ∧ (a2 = 0 → (zgR M o 8 53 fun g16 => ((zd g16 fun b17 => zaF M b17 (((30 : Int32) * a0) + a1) fun v18 => wp_X9_cut_L96 D post o ((FP.f2i v18).toInt64) M)))))) ∧ (v12 = 1 → ((¬ a2 = 0 → (zgR M o 8 54 fun g20 => ((zd g20 fun b21 => zaD M b21 (((30 : Int32) * a0) + a1) fun v22 => wp_X9_cut_L121 D post o (FP.d2l v22) M)))) ∧ (a2 = 0 → (zgR M o 8 54 fun g23 => ((zd g23 fun b24 => zaD M b24 (((30 : Int32) * a0) + a1) fun v25 => wp_X9_cut_L121 D post o ((FP.d2i v25).toInt64) M)))))) ∧ (¬ v12 = 0 ∧ ¬ v12 = 1 → ((¬ a2 = 0 → (zgR M o 8 55 fun g27 => ((zd g27 fun b28 => zaL M b28 (((30 : Int32) * a0) + a1) fun v29 => wp_X9_cut_L145 D post o v29 M)))) ∧ (a2 = 0 → (zgR M o 8 55 fun g30 => ((zd g30 fun b31 => zaL M b31 (((30 : Int32) * a0) + a1) fun v32 => wp_X9_cut_L145 D post o ((v32.toInt32).toInt64) M))))))))))) ∧ (r7 = 0 → wp_X9_cut_L26 D post o M))) o a0 a1 M))))) (a2.toInt64) (0 : Int64) (1 : Int64) M)))) a0 M)
set_option maxHeartbeats 4000000 in
set_option maxRecDepth 100000 in
theorem w_X9_cut {l : Launch} {D : zD} {post : Int64 → zM → Prop} (hlt : l.stackTraces = false) {o : Nat} {a0 : Int32} {a1 : Int32} {a2 : Int32} {M : zM} (hw : wp_X9_cut D post o a0 a1 a2 M) : zMet l D yX9_cut (ws_ yX9_cut cX9_cut 5 (some .long)) rm_X9_cut 0 0 [.ref o, .int a0, .int a1, .int a2] M zL post (fun _ _ => False) := by
  unfold wp_X9_cut at hw
  have hlv : lv_args 0 [.ref o, .int a0, .int a1, .int a2] = [(0, .ref o), (1, .int a0), (2, .int a1), (3, .int a2)] := (zargs1 rfl (zargs1 rfl (zargs1 rfl (zargs1 rfl rfl))))
  refine z_ofW hlt (by decide) (Nat.le_trans (zsl1 rfl (zsl1 rfl (zsl1 rfl (zsl1 rfl (Nat.le_refl 0 : (lg_sl []).length ≤ 0))))) (Nat.le_of_ble_eq_true rfl)) hlv ?_
  intro p e s m args below meth c ls hG hZ hl
  have hC := hG.1
  have hx := hC.x
  have hb := hC.b
  have hown := hC.o
  have hts := hC.ts
  have hlt := hG.2.2.2.2.2
  obtain ⟨cells, hce⟩ : ∃ z : Nat, z = 0 := ⟨0, rfl⟩
  obtain ⟨slots, hsl⟩ : ∃ z : Nat, z = 0 := ⟨0, rfl⟩
  refine W.cs (cells' := cells) (slots' := slots) hce.symm hsl.symm ?_
  have hk : cells ≤ 0 := Nat.le_of_eq hce
  have hn : slots ≤ 0 := Nat.le_of_eq hsl
  clear hce hsl
  refine lv_iload_n hx hb dX9_cut_0 rfl (lv_at hl 1 rfl) ?_
  refine z_callI hZ (vx_runS (As := [.int a0]) (rest := []) hC.fix (w_X9_isRow hlt hw) (va_cwS 1 hts (lw_S q2214 q2215 q83 q2216) rfl rfl rfl dd_X9_isRow ⟨Nat.le_of_ble_eq_true rfl, Nat.le_of_ble_eq_true rfl⟩) (z_preS hC hZ) rfl rfl hl.1 rfl (lv_room (Nat.zero_le _)) dX9_cut_1 ⟨hk, hn⟩) (fun r39 M H locs hw1 hZ => ?_) (fun q M H locs ci fs E T9 N9 hw hZ hc1 hM1 hb1 => False.elim hw)
  replace hw := hw1
  clear hw1
  refine W.cs (cells' := cells) (slots' := slots) rfl rfl ?_
  refine lv_if_eq (tgt := 26) hx hb dX9_cut_4 (by decide) (fun c76 => ?_) (fun c76 => ?_)
  · replace hw := hw.1 c76
    exact wk_X9_cut_L26 hG _ hk hn hZ (lv_sub hl [] rfl) hw
  · replace hw := hw.2 c76
    refine lv_iload_n hx hb dX9_cut_7 rfl (lv_at hl 3 rfl) ?_
    refine lv_i2l hx hb dX9_cut_8 rfl ?_
    refine lv_lconst (v := 0) hx hb dX9_cut_9 (by decide) ?_
    refine lv_lconst (v := 1) hx hb dX9_cut_10 (by decide) ?_
    refine z_callI hZ (vx_runS (As := [.long (a2.toInt64), .long (0 : Int64), .long (1 : Int64)]) (rest := []) hC.fix (w_X9_in hlt hw) (va_cwS 3 hts (lw_S q1894 q1895 q83 q1896) rfl rfl rfl dd_X9_in ⟨Nat.le_of_ble_eq_true rfl, Nat.le_of_ble_eq_true rfl⟩) (z_preS hC hZ) rfl rfl hl.1 rfl (lv_room (Nat.zero_le _)) dX9_cut_11 ⟨hk, hn⟩) (fun r42 M H locs hw1 hZ => ?_) (fun q M H locs ci fs E T9 N9 hw hZ hc1 hM1 hb1 => False.elim hw)
    replace hw := hw1
    clear hw1
    refine W.cs (cells' := cells) (slots' := slots) rfl rfl ?_
    refine lv_if_eq (tgt := 26) hx hb dX9_cut_14 (by decide) (fun c75 => ?_) (fun c75 => ?_)
    · replace hw := hw.1 c75
      exact wk_X9_cut_L26 hG _ hk hn hZ (lv_sub hl [] rfl) hw
    · replace hw := hw.2 c75
      refine lv_aload_n hx hb dX9_cut_17 rfl (lv_at hl 0 rfl) ?_
      refine lv_iload_n hx hb dX9_cut_18 rfl (lv_at hl 1 rfl) ?_
      refine lv_iload_n hx hb dX9_cut_19 rfl (lv_at hl 2 rfl) ?_
      obtain ⟨⟨ci0, fs0, hci0, hM0⟩, hw⟩ := hw
      obtain rfl : ci0 = 8 := List.mem_singleton.mp hci0
      refine z_callI hZ (vx_runV (As := [.int a0, .int a1]) (rest := []) hC.fix (w_X9_isThere hlt hw) (cwV 2 hts (lw_V q2222 q2224 qs65 q83 q2225) rfl rfl rfl ⟨rfl, dd_X9_isThere⟩ ⟨Nat.le_of_ble_eq_true rfl, Nat.le_of_ble_eq_true rfl⟩) (z_preV hC hZ hM0 zc8) rfl rfl hl.1 rfl (lv_room (Nat.zero_le _)) dX9_cut_20 ⟨hk, hn⟩) (fun r45 M H locs hw1 hZ => ?_) (fun q M H locs ci fs E T9 N9 hw hZ hc1 hM1 hb1 => False.elim hw)
      replace hw := hw1
      clear hw1
      refine W.cs (cells' := cells) (slots' := slots) rfl rfl ?_
      refine lv_if_ne (tgt := 30) hx hb dX9_cut_23 (by decide) (fun c74 => ?_) (fun c74 => ?_)
      · replace hw := hw.1 c74
        refine lv_bipush (v := 30) hx hb dX9_cut_30 (by decide) ?_
        refine lv_iload_n hx hb dX9_cut_32 rfl (lv_at hl 1 rfl) ?_
        refine lv_imul hx hb dX9_cut_33 ?_
        refine lv_iload_n hx hb dX9_cut_34 rfl (lv_at hl 2 rfl) ?_
        refine lv_iadd hx hb dX9_cut_35 ?_
        refine lv_istore (i := 4) (lv' := [(4, .int (((30 : Int32) * a0) + a1)), (0, .ref o), (1, .int a0), (2, .int a1), (3, .int a2)]) hx hb dX9_cut_36 hl (by decide) rfl (fun ls hl1 => ?_)
        replace hl := hl1
        clear hl1
        refine lv_aload_n hx hb dX9_cut_38 rfl (lv_at hl 1 rfl) ?_
        obtain ⟨fs0, g48, hM0, hx0, hw⟩ := hw
        refine z_get hC hZ hM0 zc8 52 (by decide) q1772 (fun _ h9 => h9) hx0 dX9_cut_39 ?_
        refine lv_iload_n hx hb dX9_cut_42 rfl (lv_at hl 2 rfl) ?_
        obtain ⟨b49, hr0, hw⟩ := hw
        subst hr0
        obtain ⟨n0, f0, hM0, hi0, hw⟩ := hw
        refine z_iald hC hZ hM0 hi0 dX9_cut_43 ?_
        generalize f0 _ = v50 at hw ⊢
        by_cases e72 : v50 = 0
        · replace hw := hw.1 e72
          refine lv_lookup (tgt := 72) (off := 28) hx hb dX9_cut_44 (by decide) (by rw [e72]; decide) (by decide) ?_
          refine lv_iload_n hx hb dX9_cut_72 rfl (lv_at hl 4 rfl) ?_
          refine lv_if_ne (tgt := 88) hx hb dX9_cut_73 (by decide) (fun c57 => ?_) (fun c57 => ?_)
          · replace hw := hw.1 c57
            refine lv_aload_n hx hb dX9_cut_88 rfl (lv_at hl 1 rfl) ?_
            obtain ⟨fs0, g51, hM0, hx0, hw⟩ := hw
            refine z_get hC hZ hM0 zc8 53 (by decide) q1773 (fun _ h9 => h9) hx0 dX9_cut_89 ?_
            refine lv_iload hx hb dX9_cut_92 (lv_at hl 0 rfl) ?_
            obtain ⟨b52, hr0, hw⟩ := hw
            subst hr0
            obtain ⟨n0, f0, hM0, hi0, hw⟩ := hw
            refine z_fald hC hZ hM0 hi0 dX9_cut_94 ?_
            generalize f0 _ = v53 at hw ⊢
            refine lv_f2l hx hb dX9_cut_95 ?_
            exact wk_X9_cut_L96 hG _ _ hk hn hZ (lv_sub hl [] rfl) hw
          · replace hw := hw.2 c57
            refine lv_aload_n hx hb dX9_cut_76 rfl (lv_at hl 1 rfl) ?_
            obtain ⟨fs0, g54, hM0, hx0, hw⟩ := hw
            refine z_get hC hZ hM0 zc8 53 (by decide) q1773 (fun _ h9 => h9) hx0 dX9_cut_77 ?_
            refine lv_iload hx hb dX9_cut_80 (lv_at hl 0 rfl) ?_
            obtain ⟨b55, hr0, hw⟩ := hw
            subst hr0
            obtain ⟨n0, f0, hM0, hi0, hw⟩ := hw
            refine z_fald hC hZ hM0 hi0 dX9_cut_82 ?_
            generalize f0 _ = v56 at hw ⊢
            refine lv_f2i hx hb dX9_cut_83 ?_
            refine lv_i2l hx hb dX9_cut_84 rfl ?_
            refine lv_goto (tgt := 96) hx hb dX9_cut_85 (by decide) ?_
            exact wk_X9_cut_L96 hG _ _ hk hn hZ (lv_sub hl [] rfl) hw
        by_cases e73 : v50 = 1
        · replace hw := hw.2.1 e73
          refine lv_lookup (tgt := 97) (off := 53) hx hb dX9_cut_44 (by decide) (by rw [e73]; decide) (by decide) ?_
          refine lv_iload_n hx hb dX9_cut_97 rfl (lv_at hl 4 rfl) ?_
          refine lv_if_ne (tgt := 113) hx hb dX9_cut_98 (by decide) (fun c64 => ?_) (fun c64 => ?_)
          · replace hw := hw.1 c64
            refine lv_aload_n hx hb dX9_cut_113 rfl (lv_at hl 1 rfl) ?_
            obtain ⟨fs0, g58, hM0, hx0, hw⟩ := hw
            refine z_get hC hZ hM0 zc8 54 (by decide) q1774 (fun _ h9 => h9) hx0 dX9_cut_114 ?_
            refine lv_iload hx hb dX9_cut_117 (lv_at hl 0 rfl) ?_
            obtain ⟨b59, hr0, hw⟩ := hw
            subst hr0
            obtain ⟨n0, f0, hM0, hi0, hw⟩ := hw
            refine z_dald hC hZ hM0 hi0 dX9_cut_119 ?_
            generalize f0 _ = v60 at hw ⊢
            refine lv_d2l hx hb dX9_cut_120 ?_
            exact wk_X9_cut_L121 hG _ _ hk hn hZ (lv_sub hl [] rfl) hw
          · replace hw := hw.2 c64
            refine lv_aload_n hx hb dX9_cut_101 rfl (lv_at hl 1 rfl) ?_
            obtain ⟨fs0, g61, hM0, hx0, hw⟩ := hw
            refine z_get hC hZ hM0 zc8 54 (by decide) q1774 (fun _ h9 => h9) hx0 dX9_cut_102 ?_
            refine lv_iload hx hb dX9_cut_105 (lv_at hl 0 rfl) ?_
            obtain ⟨b62, hr0, hw⟩ := hw
            subst hr0
            obtain ⟨n0, f0, hM0, hi0, hw⟩ := hw
            refine z_dald hC hZ hM0 hi0 dX9_cut_107 ?_
            generalize f0 _ = v63 at hw ⊢
            refine lv_d2i hx hb dX9_cut_108 ?_
            refine lv_i2l hx hb dX9_cut_109 rfl ?_
            refine lv_goto (tgt := 121) hx hb dX9_cut_110 (by decide) ?_
            exact wk_X9_cut_L121 hG _ _ hk hn hZ (lv_sub hl [] rfl) hw
        replace hw := hw.2.2 ⟨e72, e73⟩
        refine lv_lookup (tgt := 122) (off := 78) hx hb dX9_cut_44 (by decide) (by rw [lv_osw e72 (by decide), lv_osw e73 (by decide)]; rfl) (by decide) ?_
        refine lv_iload_n hx hb dX9_cut_122 rfl (lv_at hl 4 rfl) ?_
        refine lv_if_ne (tgt := 138) hx hb dX9_cut_123 (by decide) (fun c71 => ?_) (fun c71 => ?_)
        · replace hw := hw.1 c71
          refine lv_aload_n hx hb dX9_cut_138 rfl (lv_at hl 1 rfl) ?_
          obtain ⟨fs0, g65, hM0, hx0, hw⟩ := hw
          refine z_get hC hZ hM0 zc8 55 (by decide) q1775 (fun _ h9 => h9) hx0 dX9_cut_139 ?_
          refine lv_iload hx hb dX9_cut_142 (lv_at hl 0 rfl) ?_
          obtain ⟨b66, hr0, hw⟩ := hw
          subst hr0
          obtain ⟨n0, f0, hM0, hi0, hw⟩ := hw
          refine z_lald hC hZ hM0 hi0 dX9_cut_144 ?_
          generalize f0 _ = v67 at hw ⊢
          exact wk_X9_cut_L145 hG _ _ hk hn hZ (lv_sub hl [] rfl) hw
        · replace hw := hw.2 c71
          refine lv_aload_n hx hb dX9_cut_126 rfl (lv_at hl 1 rfl) ?_
          obtain ⟨fs0, g68, hM0, hx0, hw⟩ := hw
          refine z_get hC hZ hM0 zc8 55 (by decide) q1775 (fun _ h9 => h9) hx0 dX9_cut_127 ?_
          refine lv_iload hx hb dX9_cut_130 (lv_at hl 0 rfl) ?_
          obtain ⟨b69, hr0, hw⟩ := hw
          subst hr0
          obtain ⟨n0, f0, hM0, hi0, hw⟩ := hw
          refine z_lald hC hZ hM0 hi0 dX9_cut_132 ?_
          generalize f0 _ = v70 at hw ⊢
          refine lv_l2i hx hb dX9_cut_133 rfl ?_
          refine lv_i2l hx hb dX9_cut_134 rfl ?_
          refine lv_goto (tgt := 145) hx hb dX9_cut_135 (by decide) ?_
          exact wk_X9_cut_L145 hG _ _ hk hn hZ (lv_sub hl [] rfl) hw
      · replace hw := hw.2 c74
        exact wk_X9_cut_L26 hG _ hk hn hZ (lv_sub hl [] rfl) hw
abbrev rm_X9_usedBy : Room := { frames := 6, cells := 0, slots := 0, locals := 200 }
def wp_X9_usedBy_L4 (D : zD) (post : Int32 → zM → Prop) (o : Nat) : Nat → Int32 → Int32 → Int32 → zM → Prop
  | 0 => fun _ _ _ _ => False
  | f + 1 => fun x1 x2 x3 M =>
    (((210 : Int32) < x3 → post x2 M) ∧ (¬ (210 : Int32) < x3 → ((zis M o [8] ∧ wp_X9_categoryOf D (fun r1 M => ((zis M o [8] ∧ wp_X9_categoryOf D (fun r4 M => wp_X9_usedBy_L4 D post o f x1 (x2 ||| (((1 : Int32) <<< (r1 &&& 31)) ||| ((1 : Int32) <<< (r4 &&& 31)))) (x3 + 1) M) o x1 x3 (1 : Int32) M))) o x1 x3 (0 : Int32) M))))
set_option maxHeartbeats 4000000 in
set_option maxRecDepth 100000 in
theorem wk_X9_usedBy_L4 {p : Program} {l : Launch} {e : Env} {s : State} {m : MethodId} {args : Array Value} {below : List Frame} {meth : Method} {c : Code} {D : zD} {post : Int32 → zM → Prop} {o : Nat} (hG : zGx p l s m args meth c cX9_usedBy 4 "PluralBranchesModel" D (some .int) "usedBy" []) : ∀ (f : Nat), ∀ {H : Heap} {locs : List Loc} {cells slots : Nat} {ls : Array Slot} (x1 : Int32) (x2 : Int32) (x3 : Int32) (M : zM), cells ≤ 0 → slots ≤ 0 → zS D M H locs → lv_has ls 4 [(0, .ref o), (1, .int x1), (2, .int x2), (3, .int x3)] → wp_X9_usedBy_L4 D post o f x1 x2 x3 M → W p l e rm_X9_usedBy s m args below meth c H locs cells slots (vx_MQ below (zQ D zI post) (zX D (fun _ _ => False)) args s 0 0 (zA D)) (F0 m 4 ls []) := by
  have hC := hG.1
  have hx := hC.x
  have hb := hC.b
  have hown := hC.o
  have hts := hC.ts
  have hlt := hG.2.2.2.2.2
  intro f
  induction f with
  | zero =>
    intro H locs cells slots ls x1 x2 x3 M hk hn hZ hl hw
    exact absurd hw (fun h => h)
  | succ f ih =>
    intro H locs cells slots ls x1 x2 x3 M hk hn hZ hl hw
    refine lv_iload_n hx hb dX9_usedBy_4 rfl (lv_at hl 3 rfl) ?_
    refine lv_sipush (v := 210) hx hb dX9_usedBy_5 (by decide) ?_
    refine lv_icmp_gt (tgt := 39) hx hb dX9_usedBy_8 (by decide) (fun c14 => ?_) (fun c14 => ?_)
    · replace hw := hw.1 c14
      refine lv_iload_n hx hb dX9_usedBy_39 rfl (lv_at hl 2 rfl) ?_
      exact z_iret hG hZ hk hn hw dX9_usedBy_40
    · replace hw := hw.2 c14
      refine lv_iload_n hx hb dX9_usedBy_11 rfl (lv_at hl 2 rfl) ?_
      refine lv_iconst (v := 1) hx hb dX9_usedBy_12 (by decide) ?_
      refine lv_aload_n hx hb dX9_usedBy_13 rfl (lv_at hl 0 rfl) ?_
      refine lv_iload_n hx hb dX9_usedBy_14 rfl (lv_at hl 1 rfl) ?_
      refine lv_iload_n hx hb dX9_usedBy_15 rfl (lv_at hl 3 rfl) ?_
      refine lv_iconst (v := 0) hx hb dX9_usedBy_16 (by decide) ?_
      obtain ⟨⟨ci0, fs0, hci0, hM0⟩, hw⟩ := hw
      obtain rfl : ci0 = 8 := List.mem_singleton.mp hci0
      refine z_callI hZ (vx_runV (As := [.int x1, .int x3, .int (0 : Int32)]) (rest := [.int (1 : Int32), .int x2]) hC.fix (w_X9_categoryOf hlt hw) (cwV 3 hts (lw_V q1922 q1924 qs28 q83 q1925) rfl rfl rfl ⟨rfl, dd_X9_categoryOf⟩ ⟨Nat.le_of_ble_eq_true rfl, Nat.le_of_ble_eq_true rfl⟩) (z_preV hC hZ hM0 zc8) rfl rfl hl.1 rfl (lv_room (Nat.le_trans (zrm1 rfl (zrm1 rfl zrm0)) (Nat.le_of_ble_eq_true rfl))) dX9_usedBy_17 ⟨hk, hn⟩) (fun r8 M H locs hw1 hZ => ?_) (fun q M H locs ci fs E T9 N9 hw hZ hc1 hM1 hb1 => False.elim hw)
      replace hw := hw1
      clear hw1
      refine W.cs (cells' := cells) (slots' := slots) rfl rfl ?_
      refine lv_ishl hx hb dX9_usedBy_20 ?_
      refine lv_iconst (v := 1) hx hb dX9_usedBy_21 (by decide) ?_
      refine lv_aload_n hx hb dX9_usedBy_22 rfl (lv_at hl 0 rfl) ?_
      refine lv_iload_n hx hb dX9_usedBy_23 rfl (lv_at hl 1 rfl) ?_
      refine lv_iload_n hx hb dX9_usedBy_24 rfl (lv_at hl 3 rfl) ?_
      refine lv_iconst (v := 1) hx hb dX9_usedBy_25 (by decide) ?_
      obtain ⟨⟨ci0, fs0, hci0, hM0⟩, hw⟩ := hw
      obtain rfl : ci0 = 8 := List.mem_singleton.mp hci0
      refine z_callI hZ (vx_runV (As := [.int x1, .int x3, .int (1 : Int32)]) (rest := [.int (1 : Int32), .int ((1 : Int32) <<< (r8 &&& 31)), .int x2]) hC.fix (w_X9_categoryOf hlt hw) (cwV 3 hts (lw_V q1922 q1924 qs28 q83 q1925) rfl rfl rfl ⟨rfl, dd_X9_categoryOf⟩ ⟨Nat.le_of_ble_eq_true rfl, Nat.le_of_ble_eq_true rfl⟩) (z_preV hC hZ hM0 zc8) rfl rfl hl.1 rfl (lv_room (Nat.le_trans (zrm1 rfl (zrm1 rfl (zrm1 rfl zrm0))) (Nat.le_of_ble_eq_true rfl))) dX9_usedBy_26 ⟨hk, hn⟩) (fun r11 M H locs hw1 hZ => ?_) (fun q M H locs ci fs E T9 N9 hw hZ hc1 hM1 hb1 => False.elim hw)
      replace hw := hw1
      clear hw1
      refine W.cs (cells' := cells) (slots' := slots) rfl rfl ?_
      refine lv_ishl hx hb dX9_usedBy_29 ?_
      refine lv_ior hx hb dX9_usedBy_30 ?_
      refine lv_ior hx hb dX9_usedBy_31 ?_
      refine lv_istore_n (i := 2) (lv' := [(2, .int (x2 ||| (((1 : Int32) <<< (r8 &&& 31)) ||| ((1 : Int32) <<< (r11 &&& 31))))), (0, .ref o), (1, .int x1), (3, .int x3)]) hx hb dX9_usedBy_32 rfl hl (by decide) rfl (fun ls hl1 => ?_)
      replace hl := hl1
      clear hl1
      refine lv_iinc (v := (x3 + 1)) (lv' := [(3, .int (x3 + 1)), (2, .int (x2 ||| (((1 : Int32) <<< (r8 &&& 31)) ||| ((1 : Int32) <<< (r11 &&& 31))))), (0, .ref o), (1, .int x1)]) hx hb dX9_usedBy_33 hl (k := 3) rfl rfl (by decide) rfl (fun ls hl1 => ?_)
      replace hl := hl1
      clear hl1
      refine lv_goto (tgt := 4) hx hb dX9_usedBy_36 (by decide) ?_
      exact ih _ _ _ _ hk hn hZ (lv_sub hl [2, 3, 1, 0] rfl) hw
def wp_X9_usedBy (D : zD) (post : Int32 → zM → Prop) (o : Nat) (a0 : Int32) (M : zM) : Prop :=
    (∃ f, wp_X9_usedBy_L4 D post o f a0 (0 : Int32) (0 : Int32) M)
set_option maxHeartbeats 4000000 in
set_option maxRecDepth 100000 in
theorem w_X9_usedBy {l : Launch} {D : zD} {post : Int32 → zM → Prop} (hlt : l.stackTraces = false) {o : Nat} {a0 : Int32} {M : zM} (hw : wp_X9_usedBy D post o a0 M) : zMet l D yX9_usedBy (ws_ yX9_usedBy cX9_usedBy 4 (some .int)) rm_X9_usedBy 0 0 [.ref o, .int a0] M zI post (fun _ _ => False) := by
  unfold wp_X9_usedBy at hw
  have hlv : lv_args 0 [.ref o, .int a0] = [(0, .ref o), (1, .int a0)] := (zargs1 rfl (zargs1 rfl rfl))
  refine z_ofW hlt (by decide) (Nat.le_trans (zsl1 rfl (zsl1 rfl (Nat.le_refl 0 : (lg_sl []).length ≤ 0))) (Nat.le_of_ble_eq_true rfl)) hlv ?_
  intro p e s m args below meth c ls hG hZ hl
  have hC := hG.1
  have hx := hC.x
  have hb := hC.b
  have hown := hC.o
  have hts := hC.ts
  have hlt := hG.2.2.2.2.2
  obtain ⟨cells, hce⟩ : ∃ z : Nat, z = 0 := ⟨0, rfl⟩
  obtain ⟨slots, hsl⟩ : ∃ z : Nat, z = 0 := ⟨0, rfl⟩
  refine W.cs (cells' := cells) (slots' := slots) hce.symm hsl.symm ?_
  have hk : cells ≤ 0 := Nat.le_of_eq hce
  have hn : slots ≤ 0 := Nat.le_of_eq hsl
  clear hce hsl
  refine lv_iconst (v := 0) hx hb dX9_usedBy_0 (by decide) ?_
  refine lv_istore_n (i := 2) (lv' := [(2, .int (0 : Int32)), (0, .ref o), (1, .int a0)]) hx hb dX9_usedBy_1 rfl hl (by decide) rfl (fun ls hl1 => ?_)
  replace hl := hl1
  clear hl1
  refine lv_iconst (v := 0) hx hb dX9_usedBy_2 (by decide) ?_
  refine lv_istore_n (i := 3) (lv' := [(3, .int (0 : Int32)), (2, .int (0 : Int32)), (0, .ref o), (1, .int a0)]) hx hb dX9_usedBy_3 rfl hl (by decide) rfl (fun ls hl1 => ?_)
  replace hl := hl1
  clear hl1
  obtain ⟨f1, hw⟩ := hw
  exact wk_X9_usedBy_L4 hG f1 _ _ _ _ hk hn hZ (lv_sub hl [2, 3, 1, 0] rfl) hw
abbrev rm_X9_lacksOf : Room := { frames := 7, cells := 0, slots := 0, locals := 223 }
def wp_X9_lacksOf_L74 (D : zD) (post : Int32 → zM → Prop) (o : Nat) (k45 : Int32 → Int32 → Int32 → Int32 → zM → Prop) (x1 : Int32) (x3 : Int32) (x6 : Int32) (y0 : Int32) (y1 : Int32) (M : zM) : Prop :=
    k45 x1 x3 (y0 &&& y1) (x6 + 1) M
set_option maxHeartbeats 4000000 in
set_option maxRecDepth 100000 in
theorem wk_X9_lacksOf_L74 {p : Program} {l : Launch} {e : Env} {s : State} {m : MethodId} {args : Array Value} {below : List Frame} {meth : Method} {c : Code} {D : zD} {post : Int32 → zM → Prop} {o : Nat} (hG : zGx p l s m args meth c cX9_lacksOf 7 "PluralBranchesModel" D (some .int) "lacksOf" []) (k45 : Int32 → Int32 → Int32 → Int32 → zM → Prop) (hk45 : ∀ {H : Heap} {locs : List Loc} {cells slots : Nat} {ls : Array Slot} (x1 : Int32) (x3 : Int32) (x5 : Int32) (x6 : Int32) (M : zM), cells ≤ 0 → slots ≤ 0 → zS D M H locs → lv_has ls 7 [(0, .ref o), (1, .int x1), (3, .int x3), (5, .int x5), (6, .int x6)] → k45 x1 x3 x5 x6 M → W p l e rm_X9_lacksOf s m args below meth c H locs cells slots (vx_MQ below (zQ D zI post) (zX D (fun _ _ => False)) args s 0 0 (zA D)) (F0 m 45 ls [])) : ∀ {H : Heap} {locs : List Loc} {cells slots : Nat} {ls : Array Slot} (x1 : Int32) (x3 : Int32) (x6 : Int32) (y0 : Int32) (y1 : Int32) (M : zM), cells ≤ 0 → slots ≤ 0 → zS D M H locs → lv_has ls 7 [(0, .ref o), (1, .int x1), (3, .int x3), (6, .int x6)] → wp_X9_lacksOf_L74 D post o k45 x1 x3 x6 y0 y1 M → W p l e rm_X9_lacksOf s m args below meth c H locs cells slots (vx_MQ below (zQ D zI post) (zX D (fun _ _ => False)) args s 0 0 (zA D)) (F0 m 74 ls [.int y1, .int y0]) := by
  have hC := hG.1
  have hx := hC.x
  have hb := hC.b
  have hown := hC.o
  have hts := hC.ts
  have hlt := hG.2.2.2.2.2
  intro H locs cells slots ls x1 x3 x6 y0 y1 M hk hn hZ hl hw
  refine lv_iand hx hb dX9_lacksOf_74 ?_
  refine lv_istore (i := 5) (lv' := [(5, .int (y0 &&& y1)), (0, .ref o), (1, .int x1), (3, .int x3), (6, .int x6)]) hx hb dX9_lacksOf_75 hl (by decide) rfl (fun ls hl1 => ?_)
  replace hl := hl1
  clear hl1
  refine lv_iinc (v := (x6 + 1)) (lv' := [(6, .int (x6 + 1)), (5, .int (y0 &&& y1)), (0, .ref o), (1, .int x1), (3, .int x3)]) hx hb dX9_lacksOf_77 hl (k := 4) rfl rfl (by decide) rfl (fun ls hl1 => ?_)
  replace hl := hl1
  clear hl1
  refine lv_goto (tgt := 45) hx hb dX9_lacksOf_80 (by decide) ?_
  exact hk45 _ _ _ _ _ hk hn hZ (lv_sub hl [2, 3, 4, 1, 0] rfl) hw
def wp_X9_lacksOf_L45 (D : zD) (post : Int32 → zM → Prop) (o : Nat) : Nat → Int32 → Int32 → Int32 → Int32 → zM → Prop
  | 0 => fun _ _ _ _ _ => False
  | f + 1 => fun x1 x3 x5 x6 M =>
    (((5 : Int32) ≤ x6 → post x5 M) ∧ (¬ (5 : Int32) ≤ x6 → ((zis M o [8] ∧ wp_X9_branchWith D (fun r1 M => ((r1 < 0 → wp_X9_lacksOf_L74 D post o (wp_X9_lacksOf_L45 D post o f) x1 x3 x6 x5 (-1 : Int32) M) ∧ (¬ r1 < 0 → wp_X9_lacksOf_L74 D post o (wp_X9_lacksOf_L45 D post o f) x1 x3 x6 x5 (((1 : Int32) <<< (x6 &&& 31)) ^^^ (-1 : Int32)) M))) o x1 x3 x6 M))))
set_option maxHeartbeats 4000000 in
set_option maxRecDepth 100000 in
theorem wk_X9_lacksOf_L45 {p : Program} {l : Launch} {e : Env} {s : State} {m : MethodId} {args : Array Value} {below : List Frame} {meth : Method} {c : Code} {D : zD} {post : Int32 → zM → Prop} {o : Nat} (hG : zGx p l s m args meth c cX9_lacksOf 7 "PluralBranchesModel" D (some .int) "lacksOf" []) : ∀ (f : Nat), ∀ {H : Heap} {locs : List Loc} {cells slots : Nat} {ls : Array Slot} (x1 : Int32) (x3 : Int32) (x5 : Int32) (x6 : Int32) (M : zM), cells ≤ 0 → slots ≤ 0 → zS D M H locs → lv_has ls 7 [(0, .ref o), (1, .int x1), (3, .int x3), (5, .int x5), (6, .int x6)] → wp_X9_lacksOf_L45 D post o f x1 x3 x5 x6 M → W p l e rm_X9_lacksOf s m args below meth c H locs cells slots (vx_MQ below (zQ D zI post) (zX D (fun _ _ => False)) args s 0 0 (zA D)) (F0 m 45 ls []) := by
  have hC := hG.1
  have hx := hC.x
  have hb := hC.b
  have hown := hC.o
  have hts := hC.ts
  have hlt := hG.2.2.2.2.2
  intro f
  induction f with
  | zero =>
    intro H locs cells slots ls x1 x3 x5 x6 M hk hn hZ hl hw
    exact absurd hw (fun h => h)
  | succ f ih =>
    intro H locs cells slots ls x1 x3 x5 x6 M hk hn hZ hl hw
    refine lv_iload hx hb dX9_lacksOf_45 (lv_at hl 4 rfl) ?_
    refine lv_iconst (v := 5) hx hb dX9_lacksOf_47 (by decide) ?_
    refine lv_icmp_ge (tgt := 83) hx hb dX9_lacksOf_48 (by decide) (fun c10 => ?_) (fun c10 => ?_)
    · replace hw := hw.1 c10
      refine lv_iload hx hb dX9_lacksOf_83 (lv_at hl 3 rfl) ?_
      exact z_iret hG hZ hk hn hw dX9_lacksOf_85
    · replace hw := hw.2 c10
      refine lv_iload hx hb dX9_lacksOf_51 (lv_at hl 3 rfl) ?_
      refine lv_aload_n hx hb dX9_lacksOf_53 rfl (lv_at hl 0 rfl) ?_
      refine lv_iload_n hx hb dX9_lacksOf_54 rfl (lv_at hl 1 rfl) ?_
      refine lv_iload_n hx hb dX9_lacksOf_55 rfl (lv_at hl 2 rfl) ?_
      refine lv_iload hx hb dX9_lacksOf_56 (lv_at hl 4 rfl) ?_
      obtain ⟨⟨ci0, fs0, hci0, hM0⟩, hw⟩ := hw
      obtain rfl : ci0 = 8 := List.mem_singleton.mp hci0
      refine z_callI hZ (vx_runV (As := [.int x1, .int x3, .int x6]) (rest := [.int x5]) hC.fix (w_X9_branchWith hlt hw) (cwV 3 hts (lw_V q2057 q2059 qs45 q83 q2060) rfl rfl rfl ⟨rfl, dd_X9_branchWith⟩ ⟨Nat.le_of_ble_eq_true rfl, Nat.le_of_ble_eq_true rfl⟩) (z_preV hC hZ hM0 zc8) rfl rfl hl.1 rfl (lv_room (Nat.le_trans (zrm1 rfl zrm0) (Nat.le_of_ble_eq_true rfl))) dX9_lacksOf_58 ⟨hk, hn⟩) (fun r6 M H locs hw1 hZ => ?_) (fun q M H locs ci fs E T9 N9 hw hZ hc1 hM1 hb1 => False.elim hw)
      replace hw := hw1
      clear hw1
      refine W.cs (cells' := cells) (slots' := slots) rfl rfl ?_
      refine lv_if_lt (tgt := 73) hx hb dX9_lacksOf_61 (by decide) (fun c9 => ?_) (fun c9 => ?_)
      · replace hw := hw.1 c9
        refine lv_iconst (v := (-1)) hx hb dX9_lacksOf_73 (by decide) ?_
        exact wk_X9_lacksOf_L74 hG _ (fun {_ _ _ _ _} _z0 _z1 _z2 _z3 _z4 h1 h2 h3 h4 h5 => ih _z0 _z1 _z2 _z3 _z4 h1 h2 h3 h4 h5) _ _ _ _ _ _ hk hn hZ (lv_sub hl [0, 1, 2, 4] rfl) hw
      · replace hw := hw.2 c9
        refine lv_iconst (v := 1) hx hb dX9_lacksOf_64 (by decide) ?_
        refine lv_iload hx hb dX9_lacksOf_65 (lv_at hl 4 rfl) ?_
        refine lv_ishl hx hb dX9_lacksOf_67 ?_
        refine lv_iconst (v := (-1)) hx hb dX9_lacksOf_68 (by decide) ?_
        refine lv_ixor hx hb dX9_lacksOf_69 ?_
        refine lv_goto (tgt := 74) hx hb dX9_lacksOf_70 (by decide) ?_
        exact wk_X9_lacksOf_L74 hG _ (fun {_ _ _ _ _} _z0 _z1 _z2 _z3 _z4 h1 h2 h3 h4 h5 => ih _z0 _z1 _z2 _z3 _z4 h1 h2 h3 h4 h5) _ _ _ _ _ _ hk hn hZ (lv_sub hl [0, 1, 2, 4] rfl) hw
def wp_X9_lacksOf_L40 (D : zD) (post : Int32 → zM → Prop) (o : Nat) (x1 : Int32) (x3 : Int32) (y0 : Int32) (M : zM) : Prop :=
    (∃ f, wp_X9_lacksOf_L45 D post o f x1 x3 y0 (0 : Int32) M)
set_option maxHeartbeats 4000000 in
set_option maxRecDepth 100000 in
theorem wk_X9_lacksOf_L40 {p : Program} {l : Launch} {e : Env} {s : State} {m : MethodId} {args : Array Value} {below : List Frame} {meth : Method} {c : Code} {D : zD} {post : Int32 → zM → Prop} {o : Nat} (hG : zGx p l s m args meth c cX9_lacksOf 7 "PluralBranchesModel" D (some .int) "lacksOf" []) : ∀ {H : Heap} {locs : List Loc} {cells slots : Nat} {ls : Array Slot} (x1 : Int32) (x3 : Int32) (y0 : Int32) (M : zM), cells ≤ 0 → slots ≤ 0 → zS D M H locs → lv_has ls 7 [(0, .ref o), (1, .int x1), (3, .int x3)] → wp_X9_lacksOf_L40 D post o x1 x3 y0 M → W p l e rm_X9_lacksOf s m args below meth c H locs cells slots (vx_MQ below (zQ D zI post) (zX D (fun _ _ => False)) args s 0 0 (zA D)) (F0 m 40 ls [.int y0]) := by
  have hC := hG.1
  have hx := hC.x
  have hb := hC.b
  have hown := hC.o
  have hts := hC.ts
  have hlt := hG.2.2.2.2.2
  intro H locs cells slots ls x1 x3 y0 M hk hn hZ hl hw
  refine lv_istore (i := 5) (lv' := [(5, .int y0), (0, .ref o), (1, .int x1), (3, .int x3)]) hx hb dX9_lacksOf_40 hl (by decide) rfl (fun ls hl1 => ?_)
  replace hl := hl1
  clear hl1
  refine lv_iconst (v := 0) hx hb dX9_lacksOf_42 (by decide) ?_
  refine lv_istore (i := 6) (lv' := [(6, .int (0 : Int32)), (5, .int y0), (0, .ref o), (1, .int x1), (3, .int x3)]) hx hb dX9_lacksOf_43 hl (by decide) rfl (fun ls hl1 => ?_)
  replace hl := hl1
  clear hl1
  obtain ⟨f1, hw⟩ := hw
  exact wk_X9_lacksOf_L45 hG f1 _ _ _ _ _ hk hn hZ (lv_sub hl [2, 3, 4, 1, 0] rfl) hw
def wp_X9_lacksOf_L20 (D : zD) (post : Int32 → zM → Prop) (o : Nat) (x1 : Int32) (x2 : Int32) (x3 : Int32) (y0 : Int32) (M : zM) : Prop :=
    ((y0 = 0 → wp_X9_lacksOf_L40 D post o x1 x3 (7 : Int32) M) ∧ (¬ y0 = 0 → ((zis M o [8] ∧ wp_X9_usedBy D (fun r11 M => wp_X9_lacksOf_L40 D post o x1 x3 (r11 &&& (31 : Int32)) M) o x2 M))))
set_option maxHeartbeats 4000000 in
set_option maxRecDepth 100000 in
theorem wk_X9_lacksOf_L20 {p : Program} {l : Launch} {e : Env} {s : State} {m : MethodId} {args : Array Value} {below : List Frame} {meth : Method} {c : Code} {D : zD} {post : Int32 → zM → Prop} {o : Nat} (hG : zGx p l s m args meth c cX9_lacksOf 7 "PluralBranchesModel" D (some .int) "lacksOf" []) : ∀ {H : Heap} {locs : List Loc} {cells slots : Nat} {ls : Array Slot} (x1 : Int32) (x2 : Int32) (x3 : Int32) (y0 : Int32) (M : zM), cells ≤ 0 → slots ≤ 0 → zS D M H locs → lv_has ls 7 [(0, .ref o), (1, .int x1), (2, .int x2), (3, .int x3)] → wp_X9_lacksOf_L20 D post o x1 x2 x3 y0 M → W p l e rm_X9_lacksOf s m args below meth c H locs cells slots (vx_MQ below (zQ D zI post) (zX D (fun _ _ => False)) args s 0 0 (zA D)) (F0 m 20 ls [.int y0]) := by
  have hC := hG.1
  have hx := hC.x
  have hb := hC.b
  have hown := hC.o
  have hts := hC.ts
  have hlt := hG.2.2.2.2.2
  intro H locs cells slots ls x1 x2 x3 y0 M hk hn hZ hl hw
  refine lv_istore (i := 4) (lv' := [(4, .int y0), (0, .ref o), (1, .int x1), (2, .int x2), (3, .int x3)]) hx hb dX9_lacksOf_20 hl (by decide) rfl (fun ls hl1 => ?_)
  replace hl := hl1
  clear hl1
  refine lv_iload hx hb dX9_lacksOf_22 (lv_at hl 0 rfl) ?_
  refine lv_if_eq (tgt := 38) hx hb dX9_lacksOf_24 (by decide) (fun c18 => ?_) (fun c18 => ?_)
  · replace hw := hw.1 c18
    refine lv_bipush (v := 7) hx hb dX9_lacksOf_38 (by decide) ?_
    exact wk_X9_lacksOf_L40 hG _ _ _ _ hk hn hZ (lv_sub hl [1, 2, 4] rfl) hw
  · replace hw := hw.2 c18
    refine lv_aload_n hx hb dX9_lacksOf_27 rfl (lv_at hl 1 rfl) ?_
    refine lv_iload_n hx hb dX9_lacksOf_28 rfl (lv_at hl 3 rfl) ?_
    obtain ⟨⟨ci0, fs0, hci0, hM0⟩, hw⟩ := hw
    obtain rfl : ci0 = 8 := List.mem_singleton.mp hci0
    refine z_callI hZ (vx_runV (As := [.int x2]) (rest := []) hC.fix (w_X9_usedBy hlt hw) (cwV 1 hts (lw_V q1946 q1948 qs31 q83 q1949) rfl rfl rfl ⟨rfl, dd_X9_usedBy⟩ ⟨Nat.le_of_ble_eq_true rfl, Nat.le_of_ble_eq_true rfl⟩) (z_preV hC hZ hM0 zc8) rfl rfl hl.1 rfl (lv_room (Nat.zero_le _)) dX9_lacksOf_29 ⟨hk, hn⟩) (fun r15 M H locs hw1 hZ => ?_) (fun q M H locs ci fs E T9 N9 hw hZ hc1 hM1 hb1 => False.elim hw)
    replace hw := hw1
    clear hw1
    refine W.cs (cells' := cells) (slots' := slots) rfl rfl ?_
    refine lv_bipush (v := 31) hx hb dX9_lacksOf_32 (by decide) ?_
    refine lv_iand hx hb dX9_lacksOf_34 ?_
    refine lv_goto (tgt := 40) hx hb dX9_lacksOf_35 (by decide) ?_
    exact wk_X9_lacksOf_L40 hG _ _ _ _ hk hn hZ (lv_sub hl [1, 2, 4] rfl) hw
def wp_X9_lacksOf (D : zD) (post : Int32 → zM → Prop) (o : Nat) (a0 : Int32) (a1 : Int32) (a2 : Int32) (M : zM) : Prop :=
    (zgR M o 8 17 fun g19 => ((zd g19 fun b20 => zaI M b20 0 (((8 : Int32) * a0) + a2) fun v21 => ((¬ v21 = (1 : Int32) → wp_X9_lacksOf_L20 D post o a0 a1 a2 (0 : Int32) M) ∧ (v21 = (1 : Int32) → wp_X9_lacksOf_L20 D post o a0 a1 a2 (1 : Int32) M)))))
set_option maxHeartbeats 4000000 in
set_option maxRecDepth 100000 in
theorem w_X9_lacksOf {l : Launch} {D : zD} {post : Int32 → zM → Prop} (hlt : l.stackTraces = false) {o : Nat} {a0 : Int32} {a1 : Int32} {a2 : Int32} {M : zM} (hw : wp_X9_lacksOf D post o a0 a1 a2 M) : zMet l D yX9_lacksOf (ws_ yX9_lacksOf cX9_lacksOf 7 (some .int)) rm_X9_lacksOf 0 0 [.ref o, .int a0, .int a1, .int a2] M zI post (fun _ _ => False) := by
  unfold wp_X9_lacksOf at hw
  have hlv : lv_args 0 [.ref o, .int a0, .int a1, .int a2] = [(0, .ref o), (1, .int a0), (2, .int a1), (3, .int a2)] := (zargs1 rfl (zargs1 rfl (zargs1 rfl (zargs1 rfl rfl))))
  refine z_ofW hlt (by decide) (Nat.le_trans (zsl1 rfl (zsl1 rfl (zsl1 rfl (zsl1 rfl (Nat.le_refl 0 : (lg_sl []).length ≤ 0))))) (Nat.le_of_ble_eq_true rfl)) hlv ?_
  intro p e s m args below meth c ls hG hZ hl
  have hC := hG.1
  have hx := hC.x
  have hb := hC.b
  have hown := hC.o
  have hts := hC.ts
  have hlt := hG.2.2.2.2.2
  obtain ⟨cells, hce⟩ : ∃ z : Nat, z = 0 := ⟨0, rfl⟩
  obtain ⟨slots, hsl⟩ : ∃ z : Nat, z = 0 := ⟨0, rfl⟩
  refine W.cs (cells' := cells) (slots' := slots) hce.symm hsl.symm ?_
  have hk : cells ≤ 0 := Nat.le_of_eq hce
  have hn : slots ≤ 0 := Nat.le_of_eq hsl
  clear hce hsl
  refine lv_aload_n hx hb dX9_lacksOf_0 rfl (lv_at hl 0 rfl) ?_
  obtain ⟨fs0, g23, hM0, hx0, hw⟩ := hw
  refine z_get hC hZ hM0 zc8 17 (by decide) q1737 (fun _ h9 => h9) hx0 dX9_lacksOf_1 ?_
  refine lv_bipush (v := 8) hx hb dX9_lacksOf_4 (by decide) ?_
  refine lv_iload_n hx hb dX9_lacksOf_6 rfl (lv_at hl 1 rfl) ?_
  refine lv_imul hx hb dX9_lacksOf_7 ?_
  refine lv_iload_n hx hb dX9_lacksOf_8 rfl (lv_at hl 3 rfl) ?_
  refine lv_iadd hx hb dX9_lacksOf_9 ?_
  obtain ⟨b24, hr0, hw⟩ := hw
  subst hr0
  obtain ⟨n0, f0, hM0, hi0, hw⟩ := hw
  refine z_iald hC hZ hM0 hi0 dX9_lacksOf_10 ?_
  generalize f0 _ = v25 at hw ⊢
  refine lv_iconst (v := 1) hx hb dX9_lacksOf_11 (by decide) ?_
  refine lv_icmp_ne (tgt := 19) hx hb dX9_lacksOf_12 (by decide) (fun c26 => ?_) (fun c26 => ?_)
  · replace hw := hw.1 c26
    refine lv_iconst (v := 0) hx hb dX9_lacksOf_19 (by decide) ?_
    exact wk_X9_lacksOf_L20 hG _ _ _ _ _ hk hn hZ (lv_sub hl [0, 1, 2, 3] rfl) hw
  · replace hw := hw.2 c26
    refine lv_iconst (v := 1) hx hb dX9_lacksOf_15 (by decide) ?_
    refine lv_goto (tgt := 20) hx hb dX9_lacksOf_16 (by decide) ?_
    exact wk_X9_lacksOf_L20 hG _ _ _ _ _ hk hn hZ (lv_sub hl [0, 1, 2, 3] rfl) hw
abbrev rm_X9_deadOf : Room := { frames := 8, cells := 0, slots := 0, locals := 249 }
def wp_X9_deadOf_L166 (D : zD) (post : Int32 → zM → Prop) (o : Nat) (y0 : Int32) (M : zM) : Prop :=
    post y0 M
set_option maxHeartbeats 4000000 in
set_option maxRecDepth 100000 in
theorem wk_X9_deadOf_L166 {p : Program} {l : Launch} {e : Env} {s : State} {m : MethodId} {args : Array Value} {below : List Frame} {meth : Method} {c : Code} {D : zD} {post : Int32 → zM → Prop} {o : Nat} (hG : zGx p l s m args meth c cX9_deadOf 10 "PluralBranchesModel" D (some .int) "deadOf" []) : ∀ {H : Heap} {locs : List Loc} {cells slots : Nat} {ls : Array Slot} (y0 : Int32) (M : zM), cells ≤ 0 → slots ≤ 0 → zS D M H locs → lv_has ls 10 [] → wp_X9_deadOf_L166 D post o y0 M → W p l e rm_X9_deadOf s m args below meth c H locs cells slots (vx_MQ below (zQ D zI post) (zX D (fun _ _ => False)) args s 0 0 (zA D)) (F0 m 166 ls [.int y0]) := by
  have hC := hG.1
  have hx := hC.x
  have hb := hC.b
  have hown := hC.o
  have hts := hC.ts
  have hlt := hG.2.2.2.2.2
  intro H locs cells slots ls y0 M hk hn hZ hl hw
  exact z_iret hG hZ hk hn hw dX9_deadOf_166
def wp_X9_deadOf_L147 (D : zD) (post : Int32 → zM → Prop) (o : Nat) (x6 : Int32) (x7 : Int32) (y0 : Int32) (M : zM) : Prop :=
    ((y0 = 0 → wp_X9_deadOf_L166 D post o x7 M) ∧ (¬ y0 = 0 → wp_X9_deadOf_L166 D post o (x7 ||| ((1 : Int32) <<< (x6 &&& 31))) M))
set_option maxHeartbeats 4000000 in
set_option maxRecDepth 100000 in
theorem wk_X9_deadOf_L147 {p : Program} {l : Launch} {e : Env} {s : State} {m : MethodId} {args : Array Value} {below : List Frame} {meth : Method} {c : Code} {D : zD} {post : Int32 → zM → Prop} {o : Nat} (hG : zGx p l s m args meth c cX9_deadOf 10 "PluralBranchesModel" D (some .int) "deadOf" []) : ∀ {H : Heap} {locs : List Loc} {cells slots : Nat} {ls : Array Slot} (x6 : Int32) (x7 : Int32) (y0 : Int32) (M : zM), cells ≤ 0 → slots ≤ 0 → zS D M H locs → lv_has ls 10 [(6, .int x6), (7, .int x7)] → wp_X9_deadOf_L147 D post o x6 x7 y0 M → W p l e rm_X9_deadOf s m args below meth c H locs cells slots (vx_MQ below (zQ D zI post) (zX D (fun _ _ => False)) args s 0 0 (zA D)) (F0 m 147 ls [.int y0]) := by
  have hC := hG.1
  have hx := hC.x
  have hb := hC.b
  have hown := hC.o
  have hts := hC.ts
  have hlt := hG.2.2.2.2.2
  intro H locs cells slots ls x6 x7 y0 M hk hn hZ hl hw
  refine lv_istore (i := 8) (lv' := [(8, .int y0), (6, .int x6), (7, .int x7)]) hx hb dX9_deadOf_147 hl (by decide) rfl (fun ls hl1 => ?_)
  replace hl := hl1
  clear hl1
  refine lv_iload hx hb dX9_deadOf_149 (lv_at hl 0 rfl) ?_
  refine lv_if_eq (tgt := 164) hx hb dX9_deadOf_151 (by decide) (fun c2 => ?_) (fun c2 => ?_)
  · replace hw := hw.1 c2
    refine lv_iload hx hb dX9_deadOf_164 (lv_at hl 2 rfl) ?_
    exact wk_X9_deadOf_L166 hG _ _ hk hn hZ (lv_sub hl [] rfl) hw
  · replace hw := hw.2 c2
    refine lv_iload hx hb dX9_deadOf_154 (lv_at hl 2 rfl) ?_
    refine lv_iconst (v := 1) hx hb dX9_deadOf_156 (by decide) ?_
    refine lv_iload hx hb dX9_deadOf_157 (lv_at hl 1 rfl) ?_
    refine lv_ishl hx hb dX9_deadOf_159 ?_
    refine lv_ior hx hb dX9_deadOf_160 ?_
    refine lv_goto (tgt := 166) hx hb dX9_deadOf_161 (by decide) ?_
    exact wk_X9_deadOf_L166 hG _ _ hk hn hZ (lv_sub hl [] rfl) hw
def wp_X9_deadOf_L146 (D : zD) (post : Int32 → zM → Prop) (o : Nat) (x6 : Int32) (x7 : Int32) (M : zM) : Prop :=
    wp_X9_deadOf_L147 D post o x6 x7 (0 : Int32) M
set_option maxHeartbeats 4000000 in
set_option maxRecDepth 100000 in
theorem wk_X9_deadOf_L146 {p : Program} {l : Launch} {e : Env} {s : State} {m : MethodId} {args : Array Value} {below : List Frame} {meth : Method} {c : Code} {D : zD} {post : Int32 → zM → Prop} {o : Nat} (hG : zGx p l s m args meth c cX9_deadOf 10 "PluralBranchesModel" D (some .int) "deadOf" []) : ∀ {H : Heap} {locs : List Loc} {cells slots : Nat} {ls : Array Slot} (x6 : Int32) (x7 : Int32) (M : zM), cells ≤ 0 → slots ≤ 0 → zS D M H locs → lv_has ls 10 [(6, .int x6), (7, .int x7)] → wp_X9_deadOf_L146 D post o x6 x7 M → W p l e rm_X9_deadOf s m args below meth c H locs cells slots (vx_MQ below (zQ D zI post) (zX D (fun _ _ => False)) args s 0 0 (zA D)) (F0 m 146 ls []) := by
  have hC := hG.1
  have hx := hC.x
  have hb := hC.b
  have hown := hC.o
  have hts := hC.ts
  have hlt := hG.2.2.2.2.2
  intro H locs cells slots ls x6 x7 M hk hn hZ hl hw
  refine lv_iconst (v := 0) hx hb dX9_deadOf_146 (by decide) ?_
  exact wk_X9_deadOf_L147 hG _ _ _ _ hk hn hZ (lv_sub hl [0, 1] rfl) hw
def wp_X9_deadOf_L132 (D : zD) (post : Int32 → zM → Prop) (o : Nat) (x1 : Int32) (x2 : Int32) (x3 : Int32) (x6 : Int32) (x7 : Int32) (M : zM) : Prop :=
    ((zis M o [8] ∧ wp_X9_lacksOf D (fun r3 M => ((¬ r3 = 0 → wp_X9_deadOf_L146 D post o x6 x7 M) ∧ (r3 = 0 → wp_X9_deadOf_L147 D post o x6 x7 (1 : Int32) M))) o x1 x2 x3 M))
set_option maxHeartbeats 4000000 in
set_option maxRecDepth 100000 in
theorem wk_X9_deadOf_L132 {p : Program} {l : Launch} {e : Env} {s : State} {m : MethodId} {args : Array Value} {below : List Frame} {meth : Method} {c : Code} {D : zD} {post : Int32 → zM → Prop} {o : Nat} (hG : zGx p l s m args meth c cX9_deadOf 10 "PluralBranchesModel" D (some .int) "deadOf" []) : ∀ {H : Heap} {locs : List Loc} {cells slots : Nat} {ls : Array Slot} (x1 : Int32) (x2 : Int32) (x3 : Int32) (x6 : Int32) (x7 : Int32) (M : zM), cells ≤ 0 → slots ≤ 0 → zS D M H locs → lv_has ls 10 [(0, .ref o), (1, .int x1), (2, .int x2), (3, .int x3), (6, .int x6), (7, .int x7)] → wp_X9_deadOf_L132 D post o x1 x2 x3 x6 x7 M → W p l e rm_X9_deadOf s m args below meth c H locs cells slots (vx_MQ below (zQ D zI post) (zX D (fun _ _ => False)) args s 0 0 (zA D)) (F0 m 132 ls []) := by
  have hC := hG.1
  have hx := hC.x
  have hb := hC.b
  have hown := hC.o
  have hts := hC.ts
  have hlt := hG.2.2.2.2.2
  intro H locs cells slots ls x1 x2 x3 x6 x7 M hk hn hZ hl hw
  refine lv_aload_n hx hb dX9_deadOf_132 rfl (lv_at hl 0 rfl) ?_
  refine lv_iload_n hx hb dX9_deadOf_133 rfl (lv_at hl 1 rfl) ?_
  refine lv_iload_n hx hb dX9_deadOf_134 rfl (lv_at hl 2 rfl) ?_
  refine lv_iload_n hx hb dX9_deadOf_135 rfl (lv_at hl 3 rfl) ?_
  obtain ⟨⟨ci0, fs0, hci0, hM0⟩, hw⟩ := hw
  obtain rfl : ci0 = 8 := List.mem_singleton.mp hci0
  refine z_callI hZ (vx_runV (As := [.int x1, .int x2, .int x3]) (rest := []) hC.fix (w_X9_lacksOf hlt hw) (cwV 3 hts (lw_V q2053 q2055 qs44 q83 q2056) rfl rfl rfl ⟨rfl, dd_X9_lacksOf⟩ ⟨Nat.le_of_ble_eq_true rfl, Nat.le_of_ble_eq_true rfl⟩) (z_preV hC hZ hM0 zc8) rfl rfl hl.1 rfl (lv_room (Nat.zero_le _)) dX9_deadOf_136 ⟨hk, hn⟩) (fun r7 M H locs hw1 hZ => ?_) (fun q M H locs ci fs E T9 N9 hw hZ hc1 hM1 hb1 => False.elim hw)
  replace hw := hw1
  clear hw1
  refine W.cs (cells' := cells) (slots' := slots) rfl rfl ?_
  refine lv_if_ne (tgt := 146) hx hb dX9_deadOf_139 (by decide) (fun c10 => ?_) (fun c10 => ?_)
  · replace hw := hw.1 c10
    exact wk_X9_deadOf_L146 hG _ _ _ hk hn hZ (lv_sub hl [4, 5] rfl) hw
  · replace hw := hw.2 c10
    refine lv_iconst (v := 1) hx hb dX9_deadOf_142 (by decide) ?_
    refine lv_goto (tgt := 147) hx hb dX9_deadOf_143 (by decide) ?_
    exact wk_X9_deadOf_L147 hG _ _ _ _ hk hn hZ (lv_sub hl [4, 5] rfl) hw
def wp_X9_deadOf_L118 (D : zD) (post : Int32 → zM → Prop) (o : Nat) (x1 : Int32) (x2 : Int32) (x3 : Int32) (x4 : Int32) (x5 : Int32) (x6 : Int32) (x7 : Int32) (M : zM) : Prop :=
    ((x4 = 0 → wp_X9_deadOf_L132 D post o x1 x2 x3 x6 x7 M) ∧ (¬ x4 = 0 → ((¬ ((x5 >>> ((5 : Int32) &&& 31)) &&& (1 : Int32)) = 0 → wp_X9_deadOf_L146 D post o x6 x7 M) ∧ (((x5 >>> ((5 : Int32) &&& 31)) &&& (1 : Int32)) = 0 → wp_X9_deadOf_L132 D post o x1 x2 x3 x6 x7 M))))
set_option maxHeartbeats 4000000 in
set_option maxRecDepth 100000 in
theorem wk_X9_deadOf_L118 {p : Program} {l : Launch} {e : Env} {s : State} {m : MethodId} {args : Array Value} {below : List Frame} {meth : Method} {c : Code} {D : zD} {post : Int32 → zM → Prop} {o : Nat} (hG : zGx p l s m args meth c cX9_deadOf 10 "PluralBranchesModel" D (some .int) "deadOf" []) : ∀ {H : Heap} {locs : List Loc} {cells slots : Nat} {ls : Array Slot} (x1 : Int32) (x2 : Int32) (x3 : Int32) (x4 : Int32) (x5 : Int32) (x6 : Int32) (x7 : Int32) (M : zM), cells ≤ 0 → slots ≤ 0 → zS D M H locs → lv_has ls 10 [(0, .ref o), (1, .int x1), (2, .int x2), (3, .int x3), (4, .int x4), (5, .int x5), (6, .int x6), (7, .int x7)] → wp_X9_deadOf_L118 D post o x1 x2 x3 x4 x5 x6 x7 M → W p l e rm_X9_deadOf s m args below meth c H locs cells slots (vx_MQ below (zQ D zI post) (zX D (fun _ _ => False)) args s 0 0 (zA D)) (F0 m 118 ls []) := by
  have hC := hG.1
  have hx := hC.x
  have hb := hC.b
  have hown := hC.o
  have hts := hC.ts
  have hlt := hG.2.2.2.2.2
  intro H locs cells slots ls x1 x2 x3 x4 x5 x6 x7 M hk hn hZ hl hw
  refine lv_iload hx hb dX9_deadOf_118 (lv_at hl 4 rfl) ?_
  refine lv_if_eq (tgt := 132) hx hb dX9_deadOf_120 (by decide) (fun c14 => ?_) (fun c14 => ?_)
  · replace hw := hw.1 c14
    exact wk_X9_deadOf_L132 hG _ _ _ _ _ _ hk hn hZ (lv_sub hl [0, 1, 2, 3, 6, 7] rfl) hw
  · replace hw := hw.2 c14
    refine lv_iload hx hb dX9_deadOf_123 (lv_at hl 5 rfl) ?_
    refine lv_iconst (v := 5) hx hb dX9_deadOf_125 (by decide) ?_
    refine lv_ishr hx hb dX9_deadOf_126 ?_
    refine lv_iconst (v := 1) hx hb dX9_deadOf_127 (by decide) ?_
    refine lv_iand hx hb dX9_deadOf_128 ?_
    refine lv_if_ne (tgt := 146) hx hb dX9_deadOf_129 (by decide) (fun c13 => ?_) (fun c13 => ?_)
    · replace hw := hw.1 c13
      exact wk_X9_deadOf_L146 hG _ _ _ hk hn hZ (lv_sub hl [6, 7] rfl) hw
    · replace hw := hw.2 c13
      exact wk_X9_deadOf_L132 hG _ _ _ _ _ _ hk hn hZ (lv_sub hl [0, 1, 2, 3, 6, 7] rfl) hw
def wp_X9_deadOf_L109 (D : zD) (post : Int32 → zM → Prop) (o : Nat) (k63 : Int32 → Int32 → Int32 → Int32 → Int32 → Int32 → Int32 → Int32 → zM → Prop) (x1 : Int32) (x2 : Int32) (x3 : Int32) (x4 : Int32) (x5 : Int32) (x6 : Int32) (x8 : Int32) (y0 : Int32) (y1 : Int32) (M : zM) : Prop :=
    k63 x1 x2 x3 x4 x5 x6 (y0 ||| y1) (x8 + 1) M
set_option maxHeartbeats 4000000 in
set_option maxRecDepth 100000 in
theorem wk_X9_deadOf_L109 {p : Program} {l : Launch} {e : Env} {s : State} {m : MethodId} {args : Array Value} {below : List Frame} {meth : Method} {c : Code} {D : zD} {post : Int32 → zM → Prop} {o : Nat} (hG : zGx p l s m args meth c cX9_deadOf 10 "PluralBranchesModel" D (some .int) "deadOf" []) (k63 : Int32 → Int32 → Int32 → Int32 → Int32 → Int32 → Int32 → Int32 → zM → Prop) (hk63 : ∀ {H : Heap} {locs : List Loc} {cells slots : Nat} {ls : Array Slot} (x1 : Int32) (x2 : Int32) (x3 : Int32) (x4 : Int32) (x5 : Int32) (x6 : Int32) (x7 : Int32) (x8 : Int32) (M : zM), cells ≤ 0 → slots ≤ 0 → zS D M H locs → lv_has ls 10 [(0, .ref o), (1, .int x1), (2, .int x2), (3, .int x3), (4, .int x4), (5, .int x5), (6, .int x6), (7, .int x7), (8, .int x8)] → k63 x1 x2 x3 x4 x5 x6 x7 x8 M → W p l e rm_X9_deadOf s m args below meth c H locs cells slots (vx_MQ below (zQ D zI post) (zX D (fun _ _ => False)) args s 0 0 (zA D)) (F0 m 63 ls [])) : ∀ {H : Heap} {locs : List Loc} {cells slots : Nat} {ls : Array Slot} (x1 : Int32) (x2 : Int32) (x3 : Int32) (x4 : Int32) (x5 : Int32) (x6 : Int32) (x8 : Int32) (y0 : Int32) (y1 : Int32) (M : zM), cells ≤ 0 → slots ≤ 0 → zS D M H locs → lv_has ls 10 [(0, .ref o), (1, .int x1), (2, .int x2), (3, .int x3), (4, .int x4), (5, .int x5), (6, .int x6), (8, .int x8)] → wp_X9_deadOf_L109 D post o k63 x1 x2 x3 x4 x5 x6 x8 y0 y1 M → W p l e rm_X9_deadOf s m args below meth c H locs cells slots (vx_MQ below (zQ D zI post) (zX D (fun _ _ => False)) args s 0 0 (zA D)) (F0 m 109 ls [.int y1, .int y0]) := by
  have hC := hG.1
  have hx := hC.x
  have hb := hC.b
  have hown := hC.o
  have hts := hC.ts
  have hlt := hG.2.2.2.2.2
  intro H locs cells slots ls x1 x2 x3 x4 x5 x6 x8 y0 y1 M hk hn hZ hl hw
  refine lv_ior hx hb dX9_deadOf_109 ?_
  refine lv_istore (i := 7) (lv' := [(7, .int (y0 ||| y1)), (0, .ref o), (1, .int x1), (2, .int x2), (3, .int x3), (4, .int x4), (5, .int x5), (6, .int x6), (8, .int x8)]) hx hb dX9_deadOf_110 hl (by decide) rfl (fun ls hl1 => ?_)
  replace hl := hl1
  clear hl1
  refine lv_iinc (v := (x8 + 1)) (lv' := [(8, .int (x8 + 1)), (7, .int (y0 ||| y1)), (0, .ref o), (1, .int x1), (2, .int x2), (3, .int x3), (4, .int x4), (5, .int x5), (6, .int x6)]) hx hb dX9_deadOf_112 hl (k := 8) rfl rfl (by decide) rfl (fun ls hl1 => ?_)
  replace hl := hl1
  clear hl1
  refine lv_goto (tgt := 63) hx hb dX9_deadOf_115 (by decide) ?_
  exact hk63 _ _ _ _ _ _ _ _ _ hk hn hZ (lv_sub hl [2, 3, 4, 5, 6, 7, 8, 1, 0] rfl) hw
def wp_X9_deadOf_L108 (D : zD) (post : Int32 → zM → Prop) (o : Nat) (k63 : Int32 → Int32 → Int32 → Int32 → Int32 → Int32 → Int32 → Int32 → zM → Prop) (x1 : Int32) (x2 : Int32) (x3 : Int32) (x4 : Int32) (x5 : Int32) (x6 : Int32) (x8 : Int32) (y0 : Int32) (M : zM) : Prop :=
    wp_X9_deadOf_L109 D post o k63 x1 x2 x3 x4 x5 x6 x8 y0 (0 : Int32) M
set_option maxHeartbeats 4000000 in
set_option maxRecDepth 100000 in
theorem wk_X9_deadOf_L108 {p : Program} {l : Launch} {e : Env} {s : State} {m : MethodId} {args : Array Value} {below : List Frame} {meth : Method} {c : Code} {D : zD} {post : Int32 → zM → Prop} {o : Nat} (hG : zGx p l s m args meth c cX9_deadOf 10 "PluralBranchesModel" D (some .int) "deadOf" []) (k63 : Int32 → Int32 → Int32 → Int32 → Int32 → Int32 → Int32 → Int32 → zM → Prop) (hk63 : ∀ {H : Heap} {locs : List Loc} {cells slots : Nat} {ls : Array Slot} (x1 : Int32) (x2 : Int32) (x3 : Int32) (x4 : Int32) (x5 : Int32) (x6 : Int32) (x7 : Int32) (x8 : Int32) (M : zM), cells ≤ 0 → slots ≤ 0 → zS D M H locs → lv_has ls 10 [(0, .ref o), (1, .int x1), (2, .int x2), (3, .int x3), (4, .int x4), (5, .int x5), (6, .int x6), (7, .int x7), (8, .int x8)] → k63 x1 x2 x3 x4 x5 x6 x7 x8 M → W p l e rm_X9_deadOf s m args below meth c H locs cells slots (vx_MQ below (zQ D zI post) (zX D (fun _ _ => False)) args s 0 0 (zA D)) (F0 m 63 ls [])) : ∀ {H : Heap} {locs : List Loc} {cells slots : Nat} {ls : Array Slot} (x1 : Int32) (x2 : Int32) (x3 : Int32) (x4 : Int32) (x5 : Int32) (x6 : Int32) (x8 : Int32) (y0 : Int32) (M : zM), cells ≤ 0 → slots ≤ 0 → zS D M H locs → lv_has ls 10 [(0, .ref o), (1, .int x1), (2, .int x2), (3, .int x3), (4, .int x4), (5, .int x5), (6, .int x6), (8, .int x8)] → wp_X9_deadOf_L108 D post o k63 x1 x2 x3 x4 x5 x6 x8 y0 M → W p l e rm_X9_deadOf s m args below meth c H locs cells slots (vx_MQ below (zQ D zI post) (zX D (fun _ _ => False)) args s 0 0 (zA D)) (F0 m 108 ls [.int y0]) := by
  have hC := hG.1
  have hx := hC.x
  have hb := hC.b
  have hown := hC.o
  have hts := hC.ts
  have hlt := hG.2.2.2.2.2
  intro H locs cells slots ls x1 x2 x3 x4 x5 x6 x8 y0 M hk hn hZ hl hw
  refine lv_iconst (v := 0) hx hb dX9_deadOf_108 (by decide) ?_
  exact wk_X9_deadOf_L109 hG k63 hk63 _ _ _ _ _ _ _ _ _ _ hk hn hZ (lv_sub hl [0, 1, 2, 3, 4, 5, 6, 7] rfl) hw
def wp_X9_deadOf_L63 (D : zD) (post : Int32 → zM → Prop) (o : Nat) : Nat → Int32 → Int32 → Int32 → Int32 → Int32 → Int32 → Int32 → Int32 → zM → Prop
  | 0 => fun _ _ _ _ _ _ _ _ _ => False
  | f + 1 => fun x1 x2 x3 x4 x5 x6 x7 x8 M =>
    (((5 : Int32) ≤ x8 → wp_X9_deadOf_L118 D post o x1 x2 x3 x4 x5 x6 x7 M) ∧ (¬ (5 : Int32) ≤ x8 → ((x4 = 0 → wp_X9_deadOf_L118 D post o x1 x2 x3 x4 x5 x6 x7 M) ∧ (¬ x4 = 0 → ((zis M o [8] ∧ wp_X9_branchWith D (fun r15 M => ((r15 < 0 → wp_X9_deadOf_L108 D post o (wp_X9_deadOf_L63 D post o f) x1 x2 x3 x4 x5 x6 x8 x7 M) ∧ (¬ r15 < 0 → ((¬ ((x5 >>> (x8 &&& 31)) &&& (1 : Int32)) = 0 → wp_X9_deadOf_L108 D post o (wp_X9_deadOf_L63 D post o f) x1 x2 x3 x4 x5 x6 x8 x7 M) ∧ (((x5 >>> (x8 &&& 31)) &&& (1 : Int32)) = 0 → wp_X9_deadOf_L109 D post o (wp_X9_deadOf_L63 D post o f) x1 x2 x3 x4 x5 x6 x8 x7 ((1 : Int32) <<< (r15 &&& 31)) M))))) o x1 x3 x8 M))))))
set_option maxHeartbeats 4000000 in
set_option maxRecDepth 100000 in
theorem wk_X9_deadOf_L63 {p : Program} {l : Launch} {e : Env} {s : State} {m : MethodId} {args : Array Value} {below : List Frame} {meth : Method} {c : Code} {D : zD} {post : Int32 → zM → Prop} {o : Nat} (hG : zGx p l s m args meth c cX9_deadOf 10 "PluralBranchesModel" D (some .int) "deadOf" []) : ∀ (f : Nat), ∀ {H : Heap} {locs : List Loc} {cells slots : Nat} {ls : Array Slot} (x1 : Int32) (x2 : Int32) (x3 : Int32) (x4 : Int32) (x5 : Int32) (x6 : Int32) (x7 : Int32) (x8 : Int32) (M : zM), cells ≤ 0 → slots ≤ 0 → zS D M H locs → lv_has ls 10 [(0, .ref o), (1, .int x1), (2, .int x2), (3, .int x3), (4, .int x4), (5, .int x5), (6, .int x6), (7, .int x7), (8, .int x8)] → wp_X9_deadOf_L63 D post o f x1 x2 x3 x4 x5 x6 x7 x8 M → W p l e rm_X9_deadOf s m args below meth c H locs cells slots (vx_MQ below (zQ D zI post) (zX D (fun _ _ => False)) args s 0 0 (zA D)) (F0 m 63 ls []) := by
  have hC := hG.1
  have hx := hC.x
  have hb := hC.b
  have hown := hC.o
  have hts := hC.ts
  have hlt := hG.2.2.2.2.2
  intro f
  induction f with
  | zero =>
    intro H locs cells slots ls x1 x2 x3 x4 x5 x6 x7 x8 M hk hn hZ hl hw
    exact absurd hw (fun h => h)
  | succ f ih =>
    intro H locs cells slots ls x1 x2 x3 x4 x5 x6 x7 x8 M hk hn hZ hl hw
    refine lv_iload hx hb dX9_deadOf_63 (lv_at hl 8 rfl) ?_
    refine lv_iconst (v := 5) hx hb dX9_deadOf_65 (by decide) ?_
    refine lv_icmp_ge (tgt := 118) hx hb dX9_deadOf_66 (by decide) (fun c28 => ?_) (fun c28 => ?_)
    · replace hw := hw.1 c28
      exact wk_X9_deadOf_L118 hG _ _ _ _ _ _ _ _ hk hn hZ (lv_sub hl [0, 1, 2, 3, 4, 5, 6, 7] rfl) hw
    · replace hw := hw.2 c28
      refine lv_iload hx hb dX9_deadOf_69 (lv_at hl 4 rfl) ?_
      refine lv_if_eq (tgt := 118) hx hb dX9_deadOf_71 (by decide) (fun c27 => ?_) (fun c27 => ?_)
      · replace hw := hw.1 c27
        exact wk_X9_deadOf_L118 hG _ _ _ _ _ _ _ _ hk hn hZ (lv_sub hl [0, 1, 2, 3, 4, 5, 6, 7] rfl) hw
      · replace hw := hw.2 c27
        refine lv_aload_n hx hb dX9_deadOf_74 rfl (lv_at hl 0 rfl) ?_
        refine lv_iload_n hx hb dX9_deadOf_75 rfl (lv_at hl 1 rfl) ?_
        refine lv_iload_n hx hb dX9_deadOf_76 rfl (lv_at hl 3 rfl) ?_
        refine lv_iload hx hb dX9_deadOf_77 (lv_at hl 8 rfl) ?_
        obtain ⟨⟨ci0, fs0, hci0, hM0⟩, hw⟩ := hw
        obtain rfl : ci0 = 8 := List.mem_singleton.mp hci0
        refine z_callI hZ (vx_runV (As := [.int x1, .int x3, .int x8]) (rest := []) hC.fix (w_X9_branchWith hlt hw) (cwV 3 hts (lw_V q2057 q2059 qs45 q83 q2060) rfl rfl rfl ⟨rfl, dd_X9_branchWith⟩ ⟨Nat.le_of_ble_eq_true rfl, Nat.le_of_ble_eq_true rfl⟩) (z_preV hC hZ hM0 zc8) rfl rfl hl.1 rfl (lv_room (Nat.zero_le _)) dX9_deadOf_79 ⟨hk, hn⟩) (fun r22 M H locs hw1 hZ => ?_) (fun q M H locs ci fs E T9 N9 hw hZ hc1 hM1 hb1 => False.elim hw)
        replace hw := hw1
        clear hw1
        refine W.cs (cells' := cells) (slots' := slots) rfl rfl ?_
        refine lv_istore (i := 9) (lv' := [(9, .int r22), (0, .ref o), (1, .int x1), (2, .int x2), (3, .int x3), (4, .int x4), (5, .int x5), (6, .int x6), (7, .int x7), (8, .int x8)]) hx hb dX9_deadOf_82 hl (by decide) rfl (fun ls hl1 => ?_)
        replace hl := hl1
        clear hl1
        refine lv_iload hx hb dX9_deadOf_84 (lv_at hl 8 rfl) ?_
        refine lv_iload hx hb dX9_deadOf_86 (lv_at hl 0 rfl) ?_
        refine lv_if_lt (tgt := 108) hx hb dX9_deadOf_88 (by decide) (fun c26 => ?_) (fun c26 => ?_)
        · replace hw := hw.1 c26
          exact wk_X9_deadOf_L108 hG _ (fun {_ _ _ _ _} _z0 _z1 _z2 _z3 _z4 _z5 _z6 _z7 _z8 h1 h2 h3 h4 h5 => ih _z0 _z1 _z2 _z3 _z4 _z5 _z6 _z7 _z8 h1 h2 h3 h4 h5) _ _ _ _ _ _ _ _ _ hk hn hZ (lv_sub hl [1, 2, 3, 4, 5, 6, 7, 9] rfl) hw
        · replace hw := hw.2 c26
          refine lv_iload hx hb dX9_deadOf_91 (lv_at hl 6 rfl) ?_
          refine lv_iload hx hb dX9_deadOf_93 (lv_at hl 9 rfl) ?_
          refine lv_ishr hx hb dX9_deadOf_95 ?_
          refine lv_iconst (v := 1) hx hb dX9_deadOf_96 (by decide) ?_
          refine lv_iand hx hb dX9_deadOf_97 ?_
          refine lv_if_ne (tgt := 108) hx hb dX9_deadOf_98 (by decide) (fun c25 => ?_) (fun c25 => ?_)
          · replace hw := hw.1 c25
            exact wk_X9_deadOf_L108 hG _ (fun {_ _ _ _ _} _z0 _z1 _z2 _z3 _z4 _z5 _z6 _z7 _z8 h1 h2 h3 h4 h5 => ih _z0 _z1 _z2 _z3 _z4 _z5 _z6 _z7 _z8 h1 h2 h3 h4 h5) _ _ _ _ _ _ _ _ _ hk hn hZ (lv_sub hl [1, 2, 3, 4, 5, 6, 7, 9] rfl) hw
          · replace hw := hw.2 c25
            refine lv_iconst (v := 1) hx hb dX9_deadOf_101 (by decide) ?_
            refine lv_iload hx hb dX9_deadOf_102 (lv_at hl 0 rfl) ?_
            refine lv_ishl hx hb dX9_deadOf_104 ?_
            refine lv_goto (tgt := 109) hx hb dX9_deadOf_105 (by decide) ?_
            exact wk_X9_deadOf_L109 hG _ (fun {_ _ _ _ _} _z0 _z1 _z2 _z3 _z4 _z5 _z6 _z7 _z8 h1 h2 h3 h4 h5 => ih _z0 _z1 _z2 _z3 _z4 _z5 _z6 _z7 _z8 h1 h2 h3 h4 h5) _ _ _ _ _ _ _ _ _ _ hk hn hZ (lv_sub hl [1, 2, 3, 4, 5, 6, 7, 9] rfl) hw
def wp_X9_deadOf_L52 (D : zD) (post : Int32 → zM → Prop) (o : Nat) (x1 : Int32) (x2 : Int32) (x3 : Int32) (x4 : Int32) (x5 : Int32) (y0 : Option Nat) (y1 : Int32) (y2 : Int32) (y3 : Int32) (M : zM) : Prop :=
    ((zd y0 fun b29 => (zis M b29 [8] ∧ wp_X9_branchWith D (fun r30 M => (∃ f, wp_X9_deadOf_L63 D post o f x1 x2 x3 x4 x5 r30 (0 : Int32) (0 : Int32) M)) b29 y1 y2 y3 M)))
set_option maxHeartbeats 4000000 in
set_option maxRecDepth 100000 in
theorem wk_X9_deadOf_L52 {p : Program} {l : Launch} {e : Env} {s : State} {m : MethodId} {args : Array Value} {below : List Frame} {meth : Method} {c : Code} {D : zD} {post : Int32 → zM → Prop} {o : Nat} (hG : zGx p l s m args meth c cX9_deadOf 10 "PluralBranchesModel" D (some .int) "deadOf" []) : ∀ {H : Heap} {locs : List Loc} {cells slots : Nat} {ls : Array Slot} (x1 : Int32) (x2 : Int32) (x3 : Int32) (x4 : Int32) (x5 : Int32) (y0 : Option Nat) (y1 : Int32) (y2 : Int32) (y3 : Int32) (M : zM), cells ≤ 0 → slots ≤ 0 → zS D M H locs → lv_has ls 10 [(0, .ref o), (1, .int x1), (2, .int x2), (3, .int x3), (4, .int x4), (5, .int x5)] → wp_X9_deadOf_L52 D post o x1 x2 x3 x4 x5 y0 y1 y2 y3 M → W p l e rm_X9_deadOf s m args below meth c H locs cells slots (vx_MQ below (zQ D zI post) (zX D (fun _ _ => False)) args s 0 0 (zA D)) (F0 m 52 ls [.int y3, .int y2, .int y1, va_rf y0]) := by
  have hC := hG.1
  have hx := hC.x
  have hb := hC.b
  have hown := hC.o
  have hts := hC.ts
  have hlt := hG.2.2.2.2.2
  intro H locs cells slots ls x1 x2 x3 x4 x5 y0 y1 y2 y3 M hk hn hZ hl hw
  obtain ⟨b33, hr0, hw⟩ := hw
  subst hr0
  obtain ⟨⟨ci0, fs0, hci0, hM0⟩, hw⟩ := hw
  obtain rfl : ci0 = 8 := List.mem_singleton.mp hci0
  refine z_callI hZ (vx_runV (As := [.int y1, .int y2, .int y3]) (rest := []) hC.fix (w_X9_branchWith hlt hw) (cwV 3 hts (lw_V q2057 q2059 qs45 q83 q2060) rfl rfl rfl ⟨rfl, dd_X9_branchWith⟩ ⟨Nat.le_of_ble_eq_true rfl, Nat.le_of_ble_eq_true rfl⟩) (z_preV hC hZ hM0 zc8) rfl rfl hl.1 rfl (lv_room (Nat.zero_le _)) dX9_deadOf_52 ⟨hk, hn⟩) (fun r34 M H locs hw1 hZ => ?_) (fun q M H locs ci fs E T9 N9 hw hZ hc1 hM1 hb1 => False.elim hw)
  replace hw := hw1
  clear hw1
  refine W.cs (cells' := cells) (slots' := slots) rfl rfl ?_
  refine lv_istore (i := 6) (lv' := [(6, .int r34), (0, .ref o), (1, .int x1), (2, .int x2), (3, .int x3), (4, .int x4), (5, .int x5)]) hx hb dX9_deadOf_55 hl (by decide) rfl (fun ls hl1 => ?_)
  replace hl := hl1
  clear hl1
  refine lv_iconst (v := 0) hx hb dX9_deadOf_57 (by decide) ?_
  refine lv_istore (i := 7) (lv' := [(7, .int (0 : Int32)), (6, .int r34), (0, .ref o), (1, .int x1), (2, .int x2), (3, .int x3), (4, .int x4), (5, .int x5)]) hx hb dX9_deadOf_58 hl (by decide) rfl (fun ls hl1 => ?_)
  replace hl := hl1
  clear hl1
  refine lv_iconst (v := 0) hx hb dX9_deadOf_60 (by decide) ?_
  refine lv_istore (i := 8) (lv' := [(8, .int (0 : Int32)), (7, .int (0 : Int32)), (6, .int r34), (0, .ref o), (1, .int x1), (2, .int x2), (3, .int x3), (4, .int x4), (5, .int x5)]) hx hb dX9_deadOf_61 hl (by decide) rfl (fun ls hl1 => ?_)
  replace hl := hl1
  clear hl1
  obtain ⟨f1, hw⟩ := hw
  exact wk_X9_deadOf_L63 hG f1 _ _ _ _ _ _ _ _ _ hk hn hZ (lv_sub hl [3, 4, 5, 6, 7, 8, 2, 1, 0] rfl) hw
def wp_X9_deadOf_L37 (D : zD) (post : Int32 → zM → Prop) (o : Nat) (x1 : Int32) (x2 : Int32) (x3 : Int32) (x4 : Int32) (y0 : Int32) (M : zM) : Prop :=
    ((x4 = 0 → wp_X9_deadOf_L52 D post o x1 x2 x3 x4 y0 (some o) x1 x3 (3 : Int32) M) ∧ (¬ x4 = 0 → wp_X9_deadOf_L52 D post o x1 x2 x3 x4 y0 (some o) x1 x3 (5 : Int32) M))
set_option maxHeartbeats 4000000 in
set_option maxRecDepth 100000 in
theorem wk_X9_deadOf_L37 {p : Program} {l : Launch} {e : Env} {s : State} {m : MethodId} {args : Array Value} {below : List Frame} {meth : Method} {c : Code} {D : zD} {post : Int32 → zM → Prop} {o : Nat} (hG : zGx p l s m args meth c cX9_deadOf 10 "PluralBranchesModel" D (some .int) "deadOf" []) : ∀ {H : Heap} {locs : List Loc} {cells slots : Nat} {ls : Array Slot} (x1 : Int32) (x2 : Int32) (x3 : Int32) (x4 : Int32) (y0 : Int32) (M : zM), cells ≤ 0 → slots ≤ 0 → zS D M H locs → lv_has ls 10 [(0, .ref o), (1, .int x1), (2, .int x2), (3, .int x3), (4, .int x4)] → wp_X9_deadOf_L37 D post o x1 x2 x3 x4 y0 M → W p l e rm_X9_deadOf s m args below meth c H locs cells slots (vx_MQ below (zQ D zI post) (zX D (fun _ _ => False)) args s 0 0 (zA D)) (F0 m 37 ls [.int y0]) := by
  have hC := hG.1
  have hx := hC.x
  have hb := hC.b
  have hown := hC.o
  have hts := hC.ts
  have hlt := hG.2.2.2.2.2
  intro H locs cells slots ls x1 x2 x3 x4 y0 M hk hn hZ hl hw
  refine lv_istore (i := 5) (lv' := [(5, .int y0), (0, .ref o), (1, .int x1), (2, .int x2), (3, .int x3), (4, .int x4)]) hx hb dX9_deadOf_37 hl (by decide) rfl (fun ls hl1 => ?_)
  replace hl := hl1
  clear hl1
  refine lv_aload_n hx hb dX9_deadOf_39 rfl (lv_at hl 1 rfl) ?_
  refine lv_iload_n hx hb dX9_deadOf_40 rfl (lv_at hl 2 rfl) ?_
  refine lv_iload_n hx hb dX9_deadOf_41 rfl (lv_at hl 4 rfl) ?_
  refine lv_iload hx hb dX9_deadOf_42 (lv_at hl 5 rfl) ?_
  refine lv_if_eq (tgt := 51) hx hb dX9_deadOf_44 (by decide) (fun c38 => ?_) (fun c38 => ?_)
  · replace hw := hw.1 c38
    refine lv_iconst (v := 3) hx hb dX9_deadOf_51 (by decide) ?_
    exact wk_X9_deadOf_L52 hG _ _ _ _ _ _ _ _ _ _ hk hn hZ (lv_sub hl [1, 2, 3, 4, 5, 0] rfl) hw
  · replace hw := hw.2 c38
    refine lv_iconst (v := 5) hx hb dX9_deadOf_47 (by decide) ?_
    refine lv_goto (tgt := 52) hx hb dX9_deadOf_48 (by decide) ?_
    exact wk_X9_deadOf_L52 hG _ _ _ _ _ _ _ _ _ _ hk hn hZ (lv_sub hl [1, 2, 3, 4, 5, 0] rfl) hw
def wp_X9_deadOf_L20 (D : zD) (post : Int32 → zM → Prop) (o : Nat) (x1 : Int32) (x2 : Int32) (x3 : Int32) (y0 : Int32) (M : zM) : Prop :=
    ((y0 = 0 → wp_X9_deadOf_L37 D post o x1 x2 x3 y0 (7 : Int32) M) ∧ (¬ y0 = 0 → ((zis M o [8] ∧ wp_X9_usedBy D (fun r39 M => wp_X9_deadOf_L37 D post o x1 x2 x3 y0 r39 M) o x2 M))))
set_option maxHeartbeats 4000000 in
set_option maxRecDepth 100000 in
theorem wk_X9_deadOf_L20 {p : Program} {l : Launch} {e : Env} {s : State} {m : MethodId} {args : Array Value} {below : List Frame} {meth : Method} {c : Code} {D : zD} {post : Int32 → zM → Prop} {o : Nat} (hG : zGx p l s m args meth c cX9_deadOf 10 "PluralBranchesModel" D (some .int) "deadOf" []) : ∀ {H : Heap} {locs : List Loc} {cells slots : Nat} {ls : Array Slot} (x1 : Int32) (x2 : Int32) (x3 : Int32) (y0 : Int32) (M : zM), cells ≤ 0 → slots ≤ 0 → zS D M H locs → lv_has ls 10 [(0, .ref o), (1, .int x1), (2, .int x2), (3, .int x3)] → wp_X9_deadOf_L20 D post o x1 x2 x3 y0 M → W p l e rm_X9_deadOf s m args below meth c H locs cells slots (vx_MQ below (zQ D zI post) (zX D (fun _ _ => False)) args s 0 0 (zA D)) (F0 m 20 ls [.int y0]) := by
  have hC := hG.1
  have hx := hC.x
  have hb := hC.b
  have hown := hC.o
  have hts := hC.ts
  have hlt := hG.2.2.2.2.2
  intro H locs cells slots ls x1 x2 x3 y0 M hk hn hZ hl hw
  refine lv_istore (i := 4) (lv' := [(4, .int y0), (0, .ref o), (1, .int x1), (2, .int x2), (3, .int x3)]) hx hb dX9_deadOf_20 hl (by decide) rfl (fun ls hl1 => ?_)
  replace hl := hl1
  clear hl1
  refine lv_iload hx hb dX9_deadOf_22 (lv_at hl 0 rfl) ?_
  refine lv_if_eq (tgt := 35) hx hb dX9_deadOf_24 (by decide) (fun c46 => ?_) (fun c46 => ?_)
  · replace hw := hw.1 c46
    refine lv_bipush (v := 7) hx hb dX9_deadOf_35 (by decide) ?_
    exact wk_X9_deadOf_L37 hG _ _ _ _ _ _ hk hn hZ (lv_sub hl [1, 2, 3, 4, 0] rfl) hw
  · replace hw := hw.2 c46
    refine lv_aload_n hx hb dX9_deadOf_27 rfl (lv_at hl 1 rfl) ?_
    refine lv_iload_n hx hb dX9_deadOf_28 rfl (lv_at hl 3 rfl) ?_
    obtain ⟨⟨ci0, fs0, hci0, hM0⟩, hw⟩ := hw
    obtain rfl : ci0 = 8 := List.mem_singleton.mp hci0
    refine z_callI hZ (vx_runV (As := [.int x2]) (rest := []) hC.fix (w_X9_usedBy hlt hw) (cwV 1 hts (lw_V q1946 q1948 qs31 q83 q1949) rfl rfl rfl ⟨rfl, dd_X9_usedBy⟩ ⟨Nat.le_of_ble_eq_true rfl, Nat.le_of_ble_eq_true rfl⟩) (z_preV hC hZ hM0 zc8) rfl rfl hl.1 rfl (lv_room (Nat.zero_le _)) dX9_deadOf_29 ⟨hk, hn⟩) (fun r43 M H locs hw1 hZ => ?_) (fun q M H locs ci fs E T9 N9 hw hZ hc1 hM1 hb1 => False.elim hw)
    replace hw := hw1
    clear hw1
    refine W.cs (cells' := cells) (slots' := slots) rfl rfl ?_
    refine lv_goto (tgt := 37) hx hb dX9_deadOf_32 (by decide) ?_
    exact wk_X9_deadOf_L37 hG _ _ _ _ _ _ hk hn hZ (lv_sub hl [1, 2, 3, 4, 0] rfl) hw
def wp_X9_deadOf (D : zD) (post : Int32 → zM → Prop) (o : Nat) (a0 : Int32) (a1 : Int32) (a2 : Int32) (M : zM) : Prop :=
    (zgR M o 8 17 fun g47 => ((zd g47 fun b48 => zaI M b48 0 (((8 : Int32) * a0) + a2) fun v49 => ((¬ v49 = (1 : Int32) → wp_X9_deadOf_L20 D post o a0 a1 a2 (0 : Int32) M) ∧ (v49 = (1 : Int32) → wp_X9_deadOf_L20 D post o a0 a1 a2 (1 : Int32) M)))))
set_option maxHeartbeats 4000000 in
set_option maxRecDepth 100000 in
theorem w_X9_deadOf {l : Launch} {D : zD} {post : Int32 → zM → Prop} (hlt : l.stackTraces = false) {o : Nat} {a0 : Int32} {a1 : Int32} {a2 : Int32} {M : zM} (hw : wp_X9_deadOf D post o a0 a1 a2 M) : zMet l D yX9_deadOf (ws_ yX9_deadOf cX9_deadOf 10 (some .int)) rm_X9_deadOf 0 0 [.ref o, .int a0, .int a1, .int a2] M zI post (fun _ _ => False) := by
  unfold wp_X9_deadOf at hw
  have hlv : lv_args 0 [.ref o, .int a0, .int a1, .int a2] = [(0, .ref o), (1, .int a0), (2, .int a1), (3, .int a2)] := (zargs1 rfl (zargs1 rfl (zargs1 rfl (zargs1 rfl rfl))))
  refine z_ofW hlt (by decide) (Nat.le_trans (zsl1 rfl (zsl1 rfl (zsl1 rfl (zsl1 rfl (Nat.le_refl 0 : (lg_sl []).length ≤ 0))))) (Nat.le_of_ble_eq_true rfl)) hlv ?_
  intro p e s m args below meth c ls hG hZ hl
  have hC := hG.1
  have hx := hC.x
  have hb := hC.b
  have hown := hC.o
  have hts := hC.ts
  have hlt := hG.2.2.2.2.2
  obtain ⟨cells, hce⟩ : ∃ z : Nat, z = 0 := ⟨0, rfl⟩
  obtain ⟨slots, hsl⟩ : ∃ z : Nat, z = 0 := ⟨0, rfl⟩
  refine W.cs (cells' := cells) (slots' := slots) hce.symm hsl.symm ?_
  have hk : cells ≤ 0 := Nat.le_of_eq hce
  have hn : slots ≤ 0 := Nat.le_of_eq hsl
  clear hce hsl
  refine lv_aload_n hx hb dX9_deadOf_0 rfl (lv_at hl 0 rfl) ?_
  obtain ⟨fs0, g51, hM0, hx0, hw⟩ := hw
  refine z_get hC hZ hM0 zc8 17 (by decide) q1737 (fun _ h9 => h9) hx0 dX9_deadOf_1 ?_
  refine lv_bipush (v := 8) hx hb dX9_deadOf_4 (by decide) ?_
  refine lv_iload_n hx hb dX9_deadOf_6 rfl (lv_at hl 1 rfl) ?_
  refine lv_imul hx hb dX9_deadOf_7 ?_
  refine lv_iload_n hx hb dX9_deadOf_8 rfl (lv_at hl 3 rfl) ?_
  refine lv_iadd hx hb dX9_deadOf_9 ?_
  obtain ⟨b52, hr0, hw⟩ := hw
  subst hr0
  obtain ⟨n0, f0, hM0, hi0, hw⟩ := hw
  refine z_iald hC hZ hM0 hi0 dX9_deadOf_10 ?_
  generalize f0 _ = v53 at hw ⊢
  refine lv_iconst (v := 1) hx hb dX9_deadOf_11 (by decide) ?_
  refine lv_icmp_ne (tgt := 19) hx hb dX9_deadOf_12 (by decide) (fun c54 => ?_) (fun c54 => ?_)
  · replace hw := hw.1 c54
    refine lv_iconst (v := 0) hx hb dX9_deadOf_19 (by decide) ?_
    exact wk_X9_deadOf_L20 hG _ _ _ _ _ hk hn hZ (lv_sub hl [0, 1, 2, 3] rfl) hw
  · replace hw := hw.2 c54
    refine lv_iconst (v := 1) hx hb dX9_deadOf_15 (by decide) ?_
    refine lv_goto (tgt := 20) hx hb dX9_deadOf_16 (by decide) ?_
    exact wk_X9_deadOf_L20 hG _ _ _ _ _ hk hn hZ (lv_sub hl [0, 1, 2, 3] rfl) hw
